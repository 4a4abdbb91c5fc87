/-! TermDeskModel -/
set_option maxRecDepth 100000
def RX7 : String := "TermDeskModel"
def TX7 : u_T := fun k => match k with
  | 0 => ("TermDeskModel", "thrown", "I", false)
  | 1 => ("TermDeskModel", "trouble", "I", false)
  | 2 => ("TermDeskModel", "wrongAt", "I", false)
  | 3 => ("TermDeskModel", "reg", "[I", true)
  | 4 => ("TermDeskModel", "read", "[I", true)
  | 5 => ("TermDeskModel", "prime", "I", false)
  | 6 => ("TermDeskModel", "how", "I", false)
  | 7 => ("TermDeskModel", "first", "I", false)
  | 8 => ("TermDeskModel", "second", "I", false)
  | 9 => ("TermDeskModel", "readPrime", "I", false)
  | 10 => ("TermDeskModel", "readHow", "I", false)
  | 11 => ("TermDeskModel", "readFirst", "I", false)
  | 12 => ("TermDeskModel", "readSecond", "I", false)
  | 13 => ("TermDeskModel", "readPolys", "I", false)
  | 14 => ("TermDeskModel", "isThere", "Z", false)
  | 15 => ("TermDeskModel", "tape", "[B", true)
  | 16 => ("TermDeskModel", "taped", "I", false)
  | 17 => ("TermDeskModel", "size", "I", false)
  | 18 => ("TermDeskModel", "spot", "I", false)
  | 19 => ("TermDeskModel", "token", "I", false)
  | 20 => ("TermDeskModel", "at", "I", false)
  | 21 => ("TermDeskModel", "number", "I", false)
  | 22 => ("TermDeskModel", "fault", "I", false)
  | 23 => ("TermDeskModel", "word", "J", false)
  | 24 => ("TermDeskModel", "along", "[I", true)
  | 25 => ("TermDeskModel", "laid", "I", false)
  | 26 => ("TermDeskModel", "keys", "[I", true)
  | 27 => ("TermDeskModel", "keyMany", "I", false)
  | 28 => ("TermDeskModel", "work", "[I", true)
  | 29 => ("TermDeskModel", "hasRoom", "Z", false)
  | 30 => ("TermDeskModel", "left", "[I", true)
  | 31 => ("TermDeskModel", "rest", "[I", true)
  | 32 => ("TermDeskModel", "quotients", "[I", true)
  | 33 => ("TermDeskModel", "quotientMany", "[I", true)
  | 34 => ("TermDeskModel", "leads", "[I", true)
  | 35 => ("TermDeskModel", "inverses", "[I", true)
  | 36 => ("TermDeskModel", "leftMany", "I", false)
  | 37 => ("TermDeskModel", "restMany", "I", false)
  | 38 => ("TermDeskModel", "steps", "I", false)
  | 39 => ("TermDeskModel", "mostLeft", "I", false)
  | 40 => ("TermDeskModel", "past", "[I", true)
  | 41 => ("TermDeskModel", "pastReg", "[I", true)
  | 42 => ("TermDeskModel", "pastHow", "[I", true)
  | 43 => ("TermDeskModel", "pastFirst", "[I", true)
  | 44 => ("TermDeskModel", "pastSecond", "[I", true)
  | 45 => ("TermDeskModel", "acts", "I", false)
  | 46 => ("TermDeskModel", "one", "[I", true)
  | 47 => ("TermDeskModel", "two", "[I", true)
  | 48 => ("TermDeskModel", "divisor", "[I", true)
  | 49 => ("TermDeskModel", "rowA", "[I", true)
  | 50 => ("TermDeskModel", "rowB", "[I", true)
  | 51 => ("TermDeskModel", "rowC", "[I", true)
  | _ => ("TermDeskModel", "bothContent", "[I", true)
def tyX7 : Nat → FieldType := fun k => match k with
  | 0 => .int
  | 1 => .int
  | 2 => .int
  | 3 => .array .int
  | 4 => .array .int
  | 5 => .int
  | 6 => .int
  | 7 => .int
  | 8 => .int
  | 9 => .int
  | 10 => .int
  | 11 => .int
  | 12 => .int
  | 13 => .int
  | 14 => .boolean
  | 15 => .array .byte
  | 16 => .int
  | 17 => .int
  | 18 => .int
  | 19 => .int
  | 20 => .int
  | 21 => .int
  | 22 => .int
  | 23 => .long
  | 24 => .array .int
  | 25 => .int
  | 26 => .array .int
  | 27 => .int
  | 28 => .array .int
  | 29 => .boolean
  | 30 => .array .int
  | 31 => .array .int
  | 32 => .array .int
  | 33 => .array .int
  | 34 => .array .int
  | 35 => .array .int
  | 36 => .int
  | 37 => .int
  | 38 => .int
  | 39 => .int
  | 40 => .array .int
  | 41 => .array .int
  | 42 => .array .int
  | 43 => .array .int
  | 44 => .array .int
  | 45 => .int
  | 46 => .array .int
  | 47 => .array .int
  | 48 => .array .int
  | 49 => .array .int
  | 50 => .array .int
  | 51 => .array .int
  | _ => .array .int
abbrev wsX70 : List Cond := u_ws RX7 TX7 53
set_option maxRecDepth 100000 in
theorem nmX7 : ∀ a, a < 53 → ∀ b, b < 53 → a ≠ b → (TX7 a).2.1 ≠ (TX7 b).2.1 := by decide +kernel
set_option maxRecDepth 100000 in
theorem tyX7_ok : ∀ k, k < 53 → parseFieldDescriptor (TX7 k).2.2.1 = some (tyX7 k) := by decide +kernel
abbrev cX7_init : ByteArray := prog_10_method_1_code
def yX7_init : MethodName := ⟨RX7, "<init>", "()V"⟩
def dkwX7_init_8 : List UInt8 := [181, 0, 80, 42, 17, 9, 0, 188, 10, 181, 0, 83, 42, 17, 9, 0, 188, 10, 181, 0, 86, 177]
abbrev dktX7_init_8 : List UInt8 := dkwX7_init_8 ++ []
def dkwX7_init_7 : List UInt8 := [42, 17, 9, 0, 188, 10, 181, 0, 74, 42, 17, 9, 0, 188, 10, 181, 0, 77, 42, 17, 9, 0, 188, 10]
abbrev dktX7_init_7 : List UInt8 := dkwX7_init_7 ++ dktX7_init_8
def dkwX7_init_6 : List UInt8 := [42, 16, 8, 188, 10, 181, 0, 64, 42, 18, 67, 188, 10, 181, 0, 68, 42, 18, 67, 188, 10, 181, 0, 71]
abbrev dktX7_init_6 : List UInt8 := dkwX7_init_6 ++ dktX7_init_7
def dkwX7_init_5 : List UInt8 := [42, 16, 8, 188, 10, 181, 0, 55, 42, 16, 8, 188, 10, 181, 0, 58, 42, 16, 8, 188, 10, 181, 0, 61]
abbrev dktX7_init_5 : List UInt8 := dkwX7_init_5 ++ dktX7_init_6
def dkwX7_init_4 : List UInt8 := [42, 16, 8, 188, 10, 181, 0, 46, 42, 16, 8, 188, 10, 181, 0, 49, 42, 18, 13, 188, 10, 181, 0, 52]
abbrev dktX7_init_4 : List UInt8 := dkwX7_init_4 ++ dktX7_init_5
def dkwX7_init_3 : List UInt8 := [17, 16, 0, 188, 10, 181, 0, 37, 42, 18, 13, 188, 10, 181, 0, 40, 42, 16, 8, 188, 10, 181, 0, 43]
abbrev dktX7_init_3 : List UInt8 := dkwX7_init_3 ++ dktX7_init_4
def dkwX7_init_2 : List UInt8 := [188, 10, 181, 0, 28, 42, 17, 16, 0, 188, 10, 181, 0, 31, 42, 17, 16, 0, 188, 10, 181, 0, 34, 42]
abbrev dktX7_init_2 : List UInt8 := dkwX7_init_2 ++ dktX7_init_3
def dkwX7_init_1 : List UInt8 := [181, 0, 18, 42, 17, 2, 188, 188, 8, 181, 0, 21, 42, 17, 16, 0, 188, 10, 181, 0, 25, 42, 16, 61]
abbrev dktX7_init_1 : List UInt8 := dkwX7_init_1 ++ dktX7_init_2
def dkwX7_init_0 : List UInt8 := [42, 183, 0, 1, 42, 2, 181, 0, 9, 42, 18, 13, 188, 10, 181, 0, 14, 42, 17, 96, 0, 188, 10]
abbrev dktX7_init_0 : List UInt8 := dkwX7_init_0 ++ dktX7_init_1
theorem dksX7_init_0 : cX7_init.data.toList.drop 0 = dktX7_init_0 := by decide +kernel
theorem dksX7_init_1 : cX7_init.data.toList.drop 23 = dktX7_init_1 := dk_seg dksX7_init_0 23 rfl rfl
theorem dksX7_init_2 : cX7_init.data.toList.drop 47 = dktX7_init_2 := dk_seg dksX7_init_1 24 rfl rfl
theorem dksX7_init_3 : cX7_init.data.toList.drop 71 = dktX7_init_3 := dk_seg dksX7_init_2 24 rfl rfl
theorem dksX7_init_4 : cX7_init.data.toList.drop 95 = dktX7_init_4 := dk_seg dksX7_init_3 24 rfl rfl
theorem dksX7_init_5 : cX7_init.data.toList.drop 119 = dktX7_init_5 := dk_seg dksX7_init_4 24 rfl rfl
theorem dksX7_init_6 : cX7_init.data.toList.drop 143 = dktX7_init_6 := dk_seg dksX7_init_5 24 rfl rfl
theorem dksX7_init_7 : cX7_init.data.toList.drop 167 = dktX7_init_7 := dk_seg dksX7_init_6 24 rfl rfl
theorem dksX7_init_8 : cX7_init.data.toList.drop 191 = dktX7_init_8 := dk_seg dksX7_init_7 24 rfl rfl
theorem dX7_init_0 : decode cX7_init 0 = .ok (.aload_n 0, 1) := dk_42 (dk_at dksX7_init_0 0 rfl rfl)
theorem dX7_init_1 : decode cX7_init 1 = .ok (.invokespecial 1, 3) := dk_183 0 1 (dk_at dksX7_init_0 1 rfl rfl)
theorem dX7_init_4 : decode cX7_init 4 = .ok (.aload_n 0, 1) := dk_42 (dk_at dksX7_init_0 4 rfl rfl)
theorem dX7_init_5 : decode cX7_init 5 = .ok (.iconst (-1), 1) := dk_2 (dk_at dksX7_init_0 5 rfl rfl)
theorem dX7_init_6 : decode cX7_init 6 = .ok (.putfield 9, 3) := dk_181 0 9 (dk_at dksX7_init_0 6 rfl rfl)
theorem dX7_init_9 : decode cX7_init 9 = .ok (.aload_n 0, 1) := dk_42 (dk_at dksX7_init_0 9 rfl rfl)
theorem dX7_init_10 : decode cX7_init 10 = .ok (.ldc 13, 2) := dk_18 13 (dk_at dksX7_init_0 10 rfl rfl)
theorem dX7_init_12 : decode cX7_init 12 = .ok (.newarray .int, 2) := dk_188_10 (dk_at dksX7_init_0 12 rfl rfl)
theorem dX7_init_14 : decode cX7_init 14 = .ok (.putfield 14, 3) := dk_181 0 14 (dk_at dksX7_init_0 14 rfl rfl)
theorem dX7_init_17 : decode cX7_init 17 = .ok (.aload_n 0, 1) := dk_42 (dk_at dksX7_init_0 17 rfl rfl)
theorem dX7_init_18 : decode cX7_init 18 = .ok (.sipush 24576, 3) := dk_17 96 0 (dk_at dksX7_init_0 18 rfl rfl)
theorem dX7_init_21 : decode cX7_init 21 = .ok (.newarray .int, 2) := dk_188_10 (dk_at dksX7_init_0 21 rfl rfl)
theorem dX7_init_23 : decode cX7_init 23 = .ok (.putfield 18, 3) := dk_181 0 18 (dk_at dksX7_init_1 0 rfl rfl)
theorem dX7_init_26 : decode cX7_init 26 = .ok (.aload_n 0, 1) := dk_42 (dk_at dksX7_init_1 3 rfl rfl)
theorem dX7_init_27 : decode cX7_init 27 = .ok (.sipush 700, 3) := dk_17 2 188 (dk_at dksX7_init_1 4 rfl rfl)
theorem dX7_init_30 : decode cX7_init 30 = .ok (.newarray .byte, 2) := dk_188_8 (dk_at dksX7_init_1 7 rfl rfl)
theorem dX7_init_32 : decode cX7_init 32 = .ok (.putfield 21, 3) := dk_181 0 21 (dk_at dksX7_init_1 9 rfl rfl)
theorem dX7_init_35 : decode cX7_init 35 = .ok (.aload_n 0, 1) := dk_42 (dk_at dksX7_init_1 12 rfl rfl)
theorem dX7_init_36 : decode cX7_init 36 = .ok (.sipush 4096, 3) := dk_17 16 0 (dk_at dksX7_init_1 13 rfl rfl)
theorem dX7_init_39 : decode cX7_init 39 = .ok (.newarray .int, 2) := dk_188_10 (dk_at dksX7_init_1 16 rfl rfl)
theorem dX7_init_41 : decode cX7_init 41 = .ok (.putfield 25, 3) := dk_181 0 25 (dk_at dksX7_init_1 18 rfl rfl)
theorem dX7_init_44 : decode cX7_init 44 = .ok (.aload_n 0, 1) := dk_42 (dk_at dksX7_init_1 21 rfl rfl)
theorem dX7_init_45 : decode cX7_init 45 = .ok (.bipush 61, 2) := dk_16 61 (dk_at dksX7_init_1 22 rfl rfl)
theorem dX7_init_47 : decode cX7_init 47 = .ok (.newarray .int, 2) := dk_188_10 (dk_at dksX7_init_2 0 rfl rfl)
theorem dX7_init_49 : decode cX7_init 49 = .ok (.putfield 28, 3) := dk_181 0 28 (dk_at dksX7_init_2 2 rfl rfl)
theorem dX7_init_52 : decode cX7_init 52 = .ok (.aload_n 0, 1) := dk_42 (dk_at dksX7_init_2 5 rfl rfl)
theorem dX7_init_53 : decode cX7_init 53 = .ok (.sipush 4096, 3) := dk_17 16 0 (dk_at dksX7_init_2 6 rfl rfl)
theorem dX7_init_56 : decode cX7_init 56 = .ok (.newarray .int, 2) := dk_188_10 (dk_at dksX7_init_2 9 rfl rfl)
theorem dX7_init_58 : decode cX7_init 58 = .ok (.putfield 31, 3) := dk_181 0 31 (dk_at dksX7_init_2 11 rfl rfl)
theorem dX7_init_61 : decode cX7_init 61 = .ok (.aload_n 0, 1) := dk_42 (dk_at dksX7_init_2 14 rfl rfl)
theorem dX7_init_62 : decode cX7_init 62 = .ok (.sipush 4096, 3) := dk_17 16 0 (dk_at dksX7_init_2 15 rfl rfl)
theorem dX7_init_65 : decode cX7_init 65 = .ok (.newarray .int, 2) := dk_188_10 (dk_at dksX7_init_2 18 rfl rfl)
theorem dX7_init_67 : decode cX7_init 67 = .ok (.putfield 34, 3) := dk_181 0 34 (dk_at dksX7_init_2 20 rfl rfl)
theorem dX7_init_70 : decode cX7_init 70 = .ok (.aload_n 0, 1) := dk_42 (dk_at dksX7_init_2 23 rfl rfl)
theorem dX7_init_71 : decode cX7_init 71 = .ok (.sipush 4096, 3) := dk_17 16 0 (dk_at dksX7_init_3 0 rfl rfl)
theorem dX7_init_74 : decode cX7_init 74 = .ok (.newarray .int, 2) := dk_188_10 (dk_at dksX7_init_3 3 rfl rfl)
theorem dX7_init_76 : decode cX7_init 76 = .ok (.putfield 37, 3) := dk_181 0 37 (dk_at dksX7_init_3 5 rfl rfl)
theorem dX7_init_79 : decode cX7_init 79 = .ok (.aload_n 0, 1) := dk_42 (dk_at dksX7_init_3 8 rfl rfl)
theorem dX7_init_80 : decode cX7_init 80 = .ok (.ldc 13, 2) := dk_18 13 (dk_at dksX7_init_3 9 rfl rfl)
theorem dX7_init_82 : decode cX7_init 82 = .ok (.newarray .int, 2) := dk_188_10 (dk_at dksX7_init_3 11 rfl rfl)
theorem dX7_init_84 : decode cX7_init 84 = .ok (.putfield 40, 3) := dk_181 0 40 (dk_at dksX7_init_3 13 rfl rfl)
theorem dX7_init_87 : decode cX7_init 87 = .ok (.aload_n 0, 1) := dk_42 (dk_at dksX7_init_3 16 rfl rfl)
theorem dX7_init_88 : decode cX7_init 88 = .ok (.bipush 8, 2) := dk_16 8 (dk_at dksX7_init_3 17 rfl rfl)
theorem dX7_init_90 : decode cX7_init 90 = .ok (.newarray .int, 2) := dk_188_10 (dk_at dksX7_init_3 19 rfl rfl)
theorem dX7_init_92 : decode cX7_init 92 = .ok (.putfield 43, 3) := dk_181 0 43 (dk_at dksX7_init_3 21 rfl rfl)
theorem dX7_init_95 : decode cX7_init 95 = .ok (.aload_n 0, 1) := dk_42 (dk_at dksX7_init_4 0 rfl rfl)
theorem dX7_init_96 : decode cX7_init 96 = .ok (.bipush 8, 2) := dk_16 8 (dk_at dksX7_init_4 1 rfl rfl)
theorem dX7_init_98 : decode cX7_init 98 = .ok (.newarray .int, 2) := dk_188_10 (dk_at dksX7_init_4 3 rfl rfl)
theorem dX7_init_100 : decode cX7_init 100 = .ok (.putfield 46, 3) := dk_181 0 46 (dk_at dksX7_init_4 5 rfl rfl)
theorem dX7_init_103 : decode cX7_init 103 = .ok (.aload_n 0, 1) := dk_42 (dk_at dksX7_init_4 8 rfl rfl)
theorem dX7_init_104 : decode cX7_init 104 = .ok (.bipush 8, 2) := dk_16 8 (dk_at dksX7_init_4 9 rfl rfl)
theorem dX7_init_106 : decode cX7_init 106 = .ok (.newarray .int, 2) := dk_188_10 (dk_at dksX7_init_4 11 rfl rfl)
theorem dX7_init_108 : decode cX7_init 108 = .ok (.putfield 49, 3) := dk_181 0 49 (dk_at dksX7_init_4 13 rfl rfl)
theorem dX7_init_111 : decode cX7_init 111 = .ok (.aload_n 0, 1) := dk_42 (dk_at dksX7_init_4 16 rfl rfl)
theorem dX7_init_112 : decode cX7_init 112 = .ok (.ldc 13, 2) := dk_18 13 (dk_at dksX7_init_4 17 rfl rfl)
theorem dX7_init_114 : decode cX7_init 114 = .ok (.newarray .int, 2) := dk_188_10 (dk_at dksX7_init_4 19 rfl rfl)
theorem dX7_init_116 : decode cX7_init 116 = .ok (.putfield 52, 3) := dk_181 0 52 (dk_at dksX7_init_4 21 rfl rfl)
theorem dX7_init_119 : decode cX7_init 119 = .ok (.aload_n 0, 1) := dk_42 (dk_at dksX7_init_5 0 rfl rfl)
theorem dX7_init_120 : decode cX7_init 120 = .ok (.bipush 8, 2) := dk_16 8 (dk_at dksX7_init_5 1 rfl rfl)
theorem dX7_init_122 : decode cX7_init 122 = .ok (.newarray .int, 2) := dk_188_10 (dk_at dksX7_init_5 3 rfl rfl)
theorem dX7_init_124 : decode cX7_init 124 = .ok (.putfield 55, 3) := dk_181 0 55 (dk_at dksX7_init_5 5 rfl rfl)
theorem dX7_init_127 : decode cX7_init 127 = .ok (.aload_n 0, 1) := dk_42 (dk_at dksX7_init_5 8 rfl rfl)
theorem dX7_init_128 : decode cX7_init 128 = .ok (.bipush 8, 2) := dk_16 8 (dk_at dksX7_init_5 9 rfl rfl)
theorem dX7_init_130 : decode cX7_init 130 = .ok (.newarray .int, 2) := dk_188_10 (dk_at dksX7_init_5 11 rfl rfl)
theorem dX7_init_132 : decode cX7_init 132 = .ok (.putfield 58, 3) := dk_181 0 58 (dk_at dksX7_init_5 13 rfl rfl)
theorem dX7_init_135 : decode cX7_init 135 = .ok (.aload_n 0, 1) := dk_42 (dk_at dksX7_init_5 16 rfl rfl)
theorem dX7_init_136 : decode cX7_init 136 = .ok (.bipush 8, 2) := dk_16 8 (dk_at dksX7_init_5 17 rfl rfl)
theorem dX7_init_138 : decode cX7_init 138 = .ok (.newarray .int, 2) := dk_188_10 (dk_at dksX7_init_5 19 rfl rfl)
theorem dX7_init_140 : decode cX7_init 140 = .ok (.putfield 61, 3) := dk_181 0 61 (dk_at dksX7_init_5 21 rfl rfl)
theorem dX7_init_143 : decode cX7_init 143 = .ok (.aload_n 0, 1) := dk_42 (dk_at dksX7_init_6 0 rfl rfl)
theorem dX7_init_144 : decode cX7_init 144 = .ok (.bipush 8, 2) := dk_16 8 (dk_at dksX7_init_6 1 rfl rfl)
theorem dX7_init_146 : decode cX7_init 146 = .ok (.newarray .int, 2) := dk_188_10 (dk_at dksX7_init_6 3 rfl rfl)
theorem dX7_init_148 : decode cX7_init 148 = .ok (.putfield 64, 3) := dk_181 0 64 (dk_at dksX7_init_6 5 rfl rfl)
theorem dX7_init_151 : decode cX7_init 151 = .ok (.aload_n 0, 1) := dk_42 (dk_at dksX7_init_6 8 rfl rfl)
theorem dX7_init_152 : decode cX7_init 152 = .ok (.ldc 67, 2) := dk_18 67 (dk_at dksX7_init_6 9 rfl rfl)
theorem dX7_init_154 : decode cX7_init 154 = .ok (.newarray .int, 2) := dk_188_10 (dk_at dksX7_init_6 11 rfl rfl)
theorem dX7_init_156 : decode cX7_init 156 = .ok (.putfield 68, 3) := dk_181 0 68 (dk_at dksX7_init_6 13 rfl rfl)
theorem dX7_init_159 : decode cX7_init 159 = .ok (.aload_n 0, 1) := dk_42 (dk_at dksX7_init_6 16 rfl rfl)
theorem dX7_init_160 : decode cX7_init 160 = .ok (.ldc 67, 2) := dk_18 67 (dk_at dksX7_init_6 17 rfl rfl)
theorem dX7_init_162 : decode cX7_init 162 = .ok (.newarray .int, 2) := dk_188_10 (dk_at dksX7_init_6 19 rfl rfl)
theorem dX7_init_164 : decode cX7_init 164 = .ok (.putfield 71, 3) := dk_181 0 71 (dk_at dksX7_init_6 21 rfl rfl)
theorem dX7_init_167 : decode cX7_init 167 = .ok (.aload_n 0, 1) := dk_42 (dk_at dksX7_init_7 0 rfl rfl)
theorem dX7_init_168 : decode cX7_init 168 = .ok (.sipush 2304, 3) := dk_17 9 0 (dk_at dksX7_init_7 1 rfl rfl)
theorem dX7_init_171 : decode cX7_init 171 = .ok (.newarray .int, 2) := dk_188_10 (dk_at dksX7_init_7 4 rfl rfl)
theorem dX7_init_173 : decode cX7_init 173 = .ok (.putfield 74, 3) := dk_181 0 74 (dk_at dksX7_init_7 6 rfl rfl)
theorem dX7_init_176 : decode cX7_init 176 = .ok (.aload_n 0, 1) := dk_42 (dk_at dksX7_init_7 9 rfl rfl)
theorem dX7_init_177 : decode cX7_init 177 = .ok (.sipush 2304, 3) := dk_17 9 0 (dk_at dksX7_init_7 10 rfl rfl)
theorem dX7_init_180 : decode cX7_init 180 = .ok (.newarray .int, 2) := dk_188_10 (dk_at dksX7_init_7 13 rfl rfl)
theorem dX7_init_182 : decode cX7_init 182 = .ok (.putfield 77, 3) := dk_181 0 77 (dk_at dksX7_init_7 15 rfl rfl)
theorem dX7_init_185 : decode cX7_init 185 = .ok (.aload_n 0, 1) := dk_42 (dk_at dksX7_init_7 18 rfl rfl)
theorem dX7_init_186 : decode cX7_init 186 = .ok (.sipush 2304, 3) := dk_17 9 0 (dk_at dksX7_init_7 19 rfl rfl)
theorem dX7_init_189 : decode cX7_init 189 = .ok (.newarray .int, 2) := dk_188_10 (dk_at dksX7_init_7 22 rfl rfl)
theorem dX7_init_191 : decode cX7_init 191 = .ok (.putfield 80, 3) := dk_181 0 80 (dk_at dksX7_init_8 0 rfl rfl)
theorem dX7_init_194 : decode cX7_init 194 = .ok (.aload_n 0, 1) := dk_42 (dk_at dksX7_init_8 3 rfl rfl)
theorem dX7_init_195 : decode cX7_init 195 = .ok (.sipush 2304, 3) := dk_17 9 0 (dk_at dksX7_init_8 4 rfl rfl)
theorem dX7_init_198 : decode cX7_init 198 = .ok (.newarray .int, 2) := dk_188_10 (dk_at dksX7_init_8 7 rfl rfl)
theorem dX7_init_200 : decode cX7_init 200 = .ok (.putfield 83, 3) := dk_181 0 83 (dk_at dksX7_init_8 9 rfl rfl)
theorem dX7_init_203 : decode cX7_init 203 = .ok (.aload_n 0, 1) := dk_42 (dk_at dksX7_init_8 12 rfl rfl)
theorem dX7_init_204 : decode cX7_init 204 = .ok (.sipush 2304, 3) := dk_17 9 0 (dk_at dksX7_init_8 13 rfl rfl)
theorem dX7_init_207 : decode cX7_init 207 = .ok (.newarray .int, 2) := dk_188_10 (dk_at dksX7_init_8 16 rfl rfl)
theorem dX7_init_209 : decode cX7_init 209 = .ok (.putfield 86, 3) := dk_181 0 86 (dk_at dksX7_init_8 18 rfl rfl)
theorem dX7_init_212 : decode cX7_init 212 = .ok (.return_, 1) := dk_177 (dk_at dksX7_init_8 21 rfl rfl)
abbrev cX7_thrown : ByteArray := prog_10_method_2_code
def yX7_thrown : MethodName := ⟨RX7, "thrown", "()I"⟩
theorem dX7_thrown_0 : decode cX7_thrown 0 = .ok (.aload_n 0, 1) := by decide +kernel
theorem dX7_thrown_1 : decode cX7_thrown 1 = .ok (.getfield 89, 3) := by decide +kernel
theorem dX7_thrown_4 : decode cX7_thrown 4 = .ok (.ireturn, 1) := by decide +kernel
abbrev cX7_feed : ByteArray := prog_10_method_24_code
def yX7_feed : MethodName := ⟨RX7, "feed", "(IIIII)I"⟩
def dkwX7_feed_5 : List UInt8 := [180, 0, 218, 172]
abbrev dktX7_feed_5 : List UInt8 := dkwX7_feed_5 ++ []
def dkwX7_feed_4 : List UInt8 := [112, 104, 100, 122, 145, 84, 42, 89, 180, 0, 218, 4, 96, 181, 0, 218, 132, 6, 1, 167, 255, 165, 42]
abbrev dktX7_feed_4 : List UInt8 := dkwX7_feed_4 ++ dktX7_feed_5
def dkwX7_feed_3 : List UInt8 := [167, 0, 5, 21, 5, 54, 7, 42, 180, 0, 21, 42, 180, 0, 218, 21, 7, 16, 24, 16, 8, 21, 6, 7]
abbrev dktX7_feed_3 : List UInt8 := dkwX7_feed_3 ++ dktX7_feed_4
def dkwX7_feed_2 : List UInt8 := [28, 167, 0, 28, 21, 6, 16, 12, 162, 0, 7, 29, 167, 0, 17, 21, 6, 16, 16, 162, 0, 8, 21, 4]
abbrev dktX7_feed_2 : List UInt8 := dkwX7_feed_2 ++ dktX7_feed_3
def dkwX7_feed_1 : List UInt8 := [21, 6, 16, 20, 162, 0, 90, 21, 6, 7, 162, 0, 7, 27, 167, 0, 39, 21, 6, 16, 8, 162, 0, 7]
abbrev dktX7_feed_1 : List UInt8 := dkwX7_feed_1 ++ dktX7_feed_2
def dkwX7_feed_0 : List UInt8 := [42, 3, 181, 0, 89, 42, 180, 0, 218, 16, 20, 96, 17, 2, 188, 164, 0, 5, 2, 172, 3, 54, 6]
abbrev dktX7_feed_0 : List UInt8 := dkwX7_feed_0 ++ dktX7_feed_1
theorem dksX7_feed_0 : cX7_feed.data.toList.drop 0 = dktX7_feed_0 := by decide +kernel
theorem dksX7_feed_1 : cX7_feed.data.toList.drop 23 = dktX7_feed_1 := dk_seg dksX7_feed_0 23 rfl rfl
theorem dksX7_feed_2 : cX7_feed.data.toList.drop 47 = dktX7_feed_2 := dk_seg dksX7_feed_1 24 rfl rfl
theorem dksX7_feed_3 : cX7_feed.data.toList.drop 71 = dktX7_feed_3 := dk_seg dksX7_feed_2 24 rfl rfl
theorem dksX7_feed_4 : cX7_feed.data.toList.drop 95 = dktX7_feed_4 := dk_seg dksX7_feed_3 24 rfl rfl
theorem dksX7_feed_5 : cX7_feed.data.toList.drop 118 = dktX7_feed_5 := dk_seg dksX7_feed_4 23 rfl rfl
theorem dX7_feed_0 : decode cX7_feed 0 = .ok (.aload_n 0, 1) := dk_42 (dk_at dksX7_feed_0 0 rfl rfl)
theorem dX7_feed_1 : decode cX7_feed 1 = .ok (.iconst 0, 1) := dk_3 (dk_at dksX7_feed_0 1 rfl rfl)
theorem dX7_feed_2 : decode cX7_feed 2 = .ok (.putfield 89, 3) := dk_181 0 89 (dk_at dksX7_feed_0 2 rfl rfl)
theorem dX7_feed_5 : decode cX7_feed 5 = .ok (.aload_n 0, 1) := dk_42 (dk_at dksX7_feed_0 5 rfl rfl)
theorem dX7_feed_6 : decode cX7_feed 6 = .ok (.getfield 218, 3) := dk_180 0 218 (dk_at dksX7_feed_0 6 rfl rfl)
theorem dX7_feed_9 : decode cX7_feed 9 = .ok (.bipush 20, 2) := dk_16 20 (dk_at dksX7_feed_0 9 rfl rfl)
theorem dX7_feed_11 : decode cX7_feed 11 = .ok (.iadd, 1) := dk_96 (dk_at dksX7_feed_0 11 rfl rfl)
theorem dX7_feed_12 : decode cX7_feed 12 = .ok (.sipush 700, 3) := dk_17 2 188 (dk_at dksX7_feed_0 12 rfl rfl)
theorem dX7_feed_15 : decode cX7_feed 15 = .ok (.if_icmp .le 5, 3) := dk_164 0 5 (dk_at dksX7_feed_0 15 rfl rfl)
theorem dX7_feed_18 : decode cX7_feed 18 = .ok (.iconst (-1), 1) := dk_2 (dk_at dksX7_feed_0 18 rfl rfl)
theorem dX7_feed_19 : decode cX7_feed 19 = .ok (.ireturn, 1) := dk_172 (dk_at dksX7_feed_0 19 rfl rfl)
theorem dX7_feed_20 : decode cX7_feed 20 = .ok (.iconst 0, 1) := dk_3 (dk_at dksX7_feed_0 20 rfl rfl)
theorem dX7_feed_21 : decode cX7_feed 21 = .ok (.istore 6, 2) := dk_54 6 (dk_at dksX7_feed_0 21 rfl rfl)
theorem dX7_feed_23 : decode cX7_feed 23 = .ok (.iload 6, 2) := dk_21 6 (dk_at dksX7_feed_1 0 rfl rfl)
theorem dX7_feed_25 : decode cX7_feed 25 = .ok (.bipush 20, 2) := dk_16 20 (dk_at dksX7_feed_1 2 rfl rfl)
theorem dX7_feed_27 : decode cX7_feed 27 = .ok (.if_icmp .ge 90, 3) := dk_162 0 90 (dk_at dksX7_feed_1 4 rfl rfl)
theorem dX7_feed_30 : decode cX7_feed 30 = .ok (.iload 6, 2) := dk_21 6 (dk_at dksX7_feed_1 7 rfl rfl)
theorem dX7_feed_32 : decode cX7_feed 32 = .ok (.iconst 4, 1) := dk_7 (dk_at dksX7_feed_1 9 rfl rfl)
theorem dX7_feed_33 : decode cX7_feed 33 = .ok (.if_icmp .ge 7, 3) := dk_162 0 7 (dk_at dksX7_feed_1 10 rfl rfl)
theorem dX7_feed_36 : decode cX7_feed 36 = .ok (.iload_n 1, 1) := dk_27 (dk_at dksX7_feed_1 13 rfl rfl)
theorem dX7_feed_37 : decode cX7_feed 37 = .ok (.goto 39, 3) := dk_167 0 39 (dk_at dksX7_feed_1 14 rfl rfl)
theorem dX7_feed_40 : decode cX7_feed 40 = .ok (.iload 6, 2) := dk_21 6 (dk_at dksX7_feed_1 17 rfl rfl)
theorem dX7_feed_42 : decode cX7_feed 42 = .ok (.bipush 8, 2) := dk_16 8 (dk_at dksX7_feed_1 19 rfl rfl)
theorem dX7_feed_44 : decode cX7_feed 44 = .ok (.if_icmp .ge 7, 3) := dk_162 0 7 (dk_at dksX7_feed_1 21 rfl rfl)
theorem dX7_feed_47 : decode cX7_feed 47 = .ok (.iload_n 2, 1) := dk_28 (dk_at dksX7_feed_2 0 rfl rfl)
theorem dX7_feed_48 : decode cX7_feed 48 = .ok (.goto 28, 3) := dk_167 0 28 (dk_at dksX7_feed_2 1 rfl rfl)
theorem dX7_feed_51 : decode cX7_feed 51 = .ok (.iload 6, 2) := dk_21 6 (dk_at dksX7_feed_2 4 rfl rfl)
theorem dX7_feed_53 : decode cX7_feed 53 = .ok (.bipush 12, 2) := dk_16 12 (dk_at dksX7_feed_2 6 rfl rfl)
theorem dX7_feed_55 : decode cX7_feed 55 = .ok (.if_icmp .ge 7, 3) := dk_162 0 7 (dk_at dksX7_feed_2 8 rfl rfl)
theorem dX7_feed_58 : decode cX7_feed 58 = .ok (.iload_n 3, 1) := dk_29 (dk_at dksX7_feed_2 11 rfl rfl)
theorem dX7_feed_59 : decode cX7_feed 59 = .ok (.goto 17, 3) := dk_167 0 17 (dk_at dksX7_feed_2 12 rfl rfl)
theorem dX7_feed_62 : decode cX7_feed 62 = .ok (.iload 6, 2) := dk_21 6 (dk_at dksX7_feed_2 15 rfl rfl)
theorem dX7_feed_64 : decode cX7_feed 64 = .ok (.bipush 16, 2) := dk_16 16 (dk_at dksX7_feed_2 17 rfl rfl)
theorem dX7_feed_66 : decode cX7_feed 66 = .ok (.if_icmp .ge 8, 3) := dk_162 0 8 (dk_at dksX7_feed_2 19 rfl rfl)
theorem dX7_feed_69 : decode cX7_feed 69 = .ok (.iload 4, 2) := dk_21 4 (dk_at dksX7_feed_2 22 rfl rfl)
theorem dX7_feed_71 : decode cX7_feed 71 = .ok (.goto 5, 3) := dk_167 0 5 (dk_at dksX7_feed_3 0 rfl rfl)
theorem dX7_feed_74 : decode cX7_feed 74 = .ok (.iload 5, 2) := dk_21 5 (dk_at dksX7_feed_3 3 rfl rfl)
theorem dX7_feed_76 : decode cX7_feed 76 = .ok (.istore 7, 2) := dk_54 7 (dk_at dksX7_feed_3 5 rfl rfl)
theorem dX7_feed_78 : decode cX7_feed 78 = .ok (.aload_n 0, 1) := dk_42 (dk_at dksX7_feed_3 7 rfl rfl)
theorem dX7_feed_79 : decode cX7_feed 79 = .ok (.getfield 21, 3) := dk_180 0 21 (dk_at dksX7_feed_3 8 rfl rfl)
theorem dX7_feed_82 : decode cX7_feed 82 = .ok (.aload_n 0, 1) := dk_42 (dk_at dksX7_feed_3 11 rfl rfl)
theorem dX7_feed_83 : decode cX7_feed 83 = .ok (.getfield 218, 3) := dk_180 0 218 (dk_at dksX7_feed_3 12 rfl rfl)
theorem dX7_feed_86 : decode cX7_feed 86 = .ok (.iload 7, 2) := dk_21 7 (dk_at dksX7_feed_3 15 rfl rfl)
theorem dX7_feed_88 : decode cX7_feed 88 = .ok (.bipush 24, 2) := dk_16 24 (dk_at dksX7_feed_3 17 rfl rfl)
theorem dX7_feed_90 : decode cX7_feed 90 = .ok (.bipush 8, 2) := dk_16 8 (dk_at dksX7_feed_3 19 rfl rfl)
theorem dX7_feed_92 : decode cX7_feed 92 = .ok (.iload 6, 2) := dk_21 6 (dk_at dksX7_feed_3 21 rfl rfl)
theorem dX7_feed_94 : decode cX7_feed 94 = .ok (.iconst 4, 1) := dk_7 (dk_at dksX7_feed_3 23 rfl rfl)
theorem dX7_feed_95 : decode cX7_feed 95 = .ok (.irem, 1) := dk_112 (dk_at dksX7_feed_4 0 rfl rfl)
theorem dX7_feed_96 : decode cX7_feed 96 = .ok (.imul, 1) := dk_104 (dk_at dksX7_feed_4 1 rfl rfl)
theorem dX7_feed_97 : decode cX7_feed 97 = .ok (.isub, 1) := dk_100 (dk_at dksX7_feed_4 2 rfl rfl)
theorem dX7_feed_98 : decode cX7_feed 98 = .ok (.ishr, 1) := dk_122 (dk_at dksX7_feed_4 3 rfl rfl)
theorem dX7_feed_99 : decode cX7_feed 99 = .ok (.i2b, 1) := dk_145 (dk_at dksX7_feed_4 4 rfl rfl)
theorem dX7_feed_100 : decode cX7_feed 100 = .ok (.bastore, 1) := dk_84 (dk_at dksX7_feed_4 5 rfl rfl)
theorem dX7_feed_101 : decode cX7_feed 101 = .ok (.aload_n 0, 1) := dk_42 (dk_at dksX7_feed_4 6 rfl rfl)
theorem dX7_feed_102 : decode cX7_feed 102 = .ok (.dup, 1) := dk_89 (dk_at dksX7_feed_4 7 rfl rfl)
theorem dX7_feed_103 : decode cX7_feed 103 = .ok (.getfield 218, 3) := dk_180 0 218 (dk_at dksX7_feed_4 8 rfl rfl)
theorem dX7_feed_106 : decode cX7_feed 106 = .ok (.iconst 1, 1) := dk_4 (dk_at dksX7_feed_4 11 rfl rfl)
theorem dX7_feed_107 : decode cX7_feed 107 = .ok (.iadd, 1) := dk_96 (dk_at dksX7_feed_4 12 rfl rfl)
theorem dX7_feed_108 : decode cX7_feed 108 = .ok (.putfield 218, 3) := dk_181 0 218 (dk_at dksX7_feed_4 13 rfl rfl)
theorem dX7_feed_111 : decode cX7_feed 111 = .ok (.iinc 6 1, 3) := dk_132 6 1 (dk_at dksX7_feed_4 16 rfl rfl)
theorem dX7_feed_114 : decode cX7_feed 114 = .ok (.goto (-91), 3) := dk_167 255 165 (dk_at dksX7_feed_4 19 rfl rfl)
theorem dX7_feed_117 : decode cX7_feed 117 = .ok (.aload_n 0, 1) := dk_42 (dk_at dksX7_feed_4 22 rfl rfl)
theorem dX7_feed_118 : decode cX7_feed 118 = .ok (.getfield 218, 3) := dk_180 0 218 (dk_at dksX7_feed_5 0 rfl rfl)
theorem dX7_feed_121 : decode cX7_feed 121 = .ok (.ireturn, 1) := dk_172 (dk_at dksX7_feed_5 3 rfl rfl)
abbrev cX7_desk : ByteArray := prog_10_method_25_code
def yX7_desk : MethodName := ⟨RX7, "desk", "(I)I"⟩
def dkwX7_desk_6 : List UInt8 := [42, 3, 181, 0, 242, 42, 182, 0, 245, 42, 42, 180, 0, 165, 182, 0, 248, 172]
abbrev dktX7_desk_6 : List UInt8 := dkwX7_desk_6 ++ []
def dkwX7_desk_5 : List UInt8 := [28, 17, 96, 0, 162, 0, 12, 42, 180, 0, 18, 28, 46, 167, 0, 4, 3, 79, 132, 2, 1, 167, 255, 224]
abbrev dktX7_desk_5 : List UInt8 := dkwX7_desk_5 ++ dktX7_desk_6
def dkwX7_desk_4 : List UInt8 := [181, 0, 236, 42, 42, 180, 0, 208, 181, 0, 239, 3, 61, 28, 18, 13, 162, 0, 32, 42, 180, 0, 14, 28]
abbrev dktX7_desk_4 : List UInt8 := dkwX7_desk_4 ++ dktX7_desk_5
def dkwX7_desk_3 : List UInt8 := [181, 0, 227, 42, 42, 180, 0, 162, 181, 0, 231, 42, 42, 180, 0, 199, 181, 0, 233, 42, 42, 180, 0, 205]
abbrev dktX7_desk_3 : List UInt8 := dkwX7_desk_3 ++ dktX7_desk_4
def dkwX7_desk_2 : List UInt8 := [180, 0, 102, 158, 0, 18, 42, 7, 181, 0, 92, 42, 42, 180, 0, 112, 181, 0, 9, 2, 172, 42, 4]
abbrev dktX7_desk_2 : List UInt8 := dkwX7_desk_2 ++ dktX7_desk_3
def dkwX7_desk_1 : List UInt8 := [27, 181, 0, 99, 42, 3, 181, 0, 218, 42, 3, 181, 0, 105, 42, 3, 181, 0, 102, 42, 182, 0, 224, 42]
abbrev dktX7_desk_1 : List UInt8 := dkwX7_desk_1 ++ dktX7_desk_2
def dkwX7_desk_0 : List UInt8 := [42, 3, 181, 0, 89, 27, 155, 0, 11, 27, 42, 180, 0, 218, 164, 0, 9, 42, 5, 182, 0, 221, 172, 42]
abbrev dktX7_desk_0 : List UInt8 := dkwX7_desk_0 ++ dktX7_desk_1
theorem dksX7_desk_0 : cX7_desk.data.toList.drop 0 = dktX7_desk_0 := by decide +kernel
theorem dksX7_desk_1 : cX7_desk.data.toList.drop 24 = dktX7_desk_1 := dk_seg dksX7_desk_0 24 rfl rfl
theorem dksX7_desk_2 : cX7_desk.data.toList.drop 48 = dktX7_desk_2 := dk_seg dksX7_desk_1 24 rfl rfl
theorem dksX7_desk_3 : cX7_desk.data.toList.drop 71 = dktX7_desk_3 := dk_seg dksX7_desk_2 23 rfl rfl
theorem dksX7_desk_4 : cX7_desk.data.toList.drop 95 = dktX7_desk_4 := dk_seg dksX7_desk_3 24 rfl rfl
theorem dksX7_desk_5 : cX7_desk.data.toList.drop 119 = dktX7_desk_5 := dk_seg dksX7_desk_4 24 rfl rfl
theorem dksX7_desk_6 : cX7_desk.data.toList.drop 143 = dktX7_desk_6 := dk_seg dksX7_desk_5 24 rfl rfl
theorem dX7_desk_0 : decode cX7_desk 0 = .ok (.aload_n 0, 1) := dk_42 (dk_at dksX7_desk_0 0 rfl rfl)
theorem dX7_desk_1 : decode cX7_desk 1 = .ok (.iconst 0, 1) := dk_3 (dk_at dksX7_desk_0 1 rfl rfl)
theorem dX7_desk_2 : decode cX7_desk 2 = .ok (.putfield 89, 3) := dk_181 0 89 (dk_at dksX7_desk_0 2 rfl rfl)
theorem dX7_desk_5 : decode cX7_desk 5 = .ok (.iload_n 1, 1) := dk_27 (dk_at dksX7_desk_0 5 rfl rfl)
theorem dX7_desk_6 : decode cX7_desk 6 = .ok (.ifCond .lt 11, 3) := dk_155 0 11 (dk_at dksX7_desk_0 6 rfl rfl)
theorem dX7_desk_9 : decode cX7_desk 9 = .ok (.iload_n 1, 1) := dk_27 (dk_at dksX7_desk_0 9 rfl rfl)
theorem dX7_desk_10 : decode cX7_desk 10 = .ok (.aload_n 0, 1) := dk_42 (dk_at dksX7_desk_0 10 rfl rfl)
theorem dX7_desk_11 : decode cX7_desk 11 = .ok (.getfield 218, 3) := dk_180 0 218 (dk_at dksX7_desk_0 11 rfl rfl)
theorem dX7_desk_14 : decode cX7_desk 14 = .ok (.if_icmp .le 9, 3) := dk_164 0 9 (dk_at dksX7_desk_0 14 rfl rfl)
theorem dX7_desk_17 : decode cX7_desk 17 = .ok (.aload_n 0, 1) := dk_42 (dk_at dksX7_desk_0 17 rfl rfl)
theorem dX7_desk_18 : decode cX7_desk 18 = .ok (.iconst 2, 1) := dk_5 (dk_at dksX7_desk_0 18 rfl rfl)
theorem dX7_desk_19 : decode cX7_desk 19 = .ok (.invokevirtual 221, 3) := dk_182 0 221 (dk_at dksX7_desk_0 19 rfl rfl)
theorem dX7_desk_22 : decode cX7_desk 22 = .ok (.ireturn, 1) := dk_172 (dk_at dksX7_desk_0 22 rfl rfl)
theorem dX7_desk_23 : decode cX7_desk 23 = .ok (.aload_n 0, 1) := dk_42 (dk_at dksX7_desk_0 23 rfl rfl)
theorem dX7_desk_24 : decode cX7_desk 24 = .ok (.iload_n 1, 1) := dk_27 (dk_at dksX7_desk_1 0 rfl rfl)
theorem dX7_desk_25 : decode cX7_desk 25 = .ok (.putfield 99, 3) := dk_181 0 99 (dk_at dksX7_desk_1 1 rfl rfl)
theorem dX7_desk_28 : decode cX7_desk 28 = .ok (.aload_n 0, 1) := dk_42 (dk_at dksX7_desk_1 4 rfl rfl)
theorem dX7_desk_29 : decode cX7_desk 29 = .ok (.iconst 0, 1) := dk_3 (dk_at dksX7_desk_1 5 rfl rfl)
theorem dX7_desk_30 : decode cX7_desk 30 = .ok (.putfield 218, 3) := dk_181 0 218 (dk_at dksX7_desk_1 6 rfl rfl)
theorem dX7_desk_33 : decode cX7_desk 33 = .ok (.aload_n 0, 1) := dk_42 (dk_at dksX7_desk_1 9 rfl rfl)
theorem dX7_desk_34 : decode cX7_desk 34 = .ok (.iconst 0, 1) := dk_3 (dk_at dksX7_desk_1 10 rfl rfl)
theorem dX7_desk_35 : decode cX7_desk 35 = .ok (.putfield 105, 3) := dk_181 0 105 (dk_at dksX7_desk_1 11 rfl rfl)
theorem dX7_desk_38 : decode cX7_desk 38 = .ok (.aload_n 0, 1) := dk_42 (dk_at dksX7_desk_1 14 rfl rfl)
theorem dX7_desk_39 : decode cX7_desk 39 = .ok (.iconst 0, 1) := dk_3 (dk_at dksX7_desk_1 15 rfl rfl)
theorem dX7_desk_40 : decode cX7_desk 40 = .ok (.putfield 102, 3) := dk_181 0 102 (dk_at dksX7_desk_1 16 rfl rfl)
theorem dX7_desk_43 : decode cX7_desk 43 = .ok (.aload_n 0, 1) := dk_42 (dk_at dksX7_desk_1 19 rfl rfl)
theorem dX7_desk_44 : decode cX7_desk 44 = .ok (.invokevirtual 224, 3) := dk_182 0 224 (dk_at dksX7_desk_1 20 rfl rfl)
theorem dX7_desk_47 : decode cX7_desk 47 = .ok (.aload_n 0, 1) := dk_42 (dk_at dksX7_desk_1 23 rfl rfl)
theorem dX7_desk_48 : decode cX7_desk 48 = .ok (.getfield 102, 3) := dk_180 0 102 (dk_at dksX7_desk_2 0 rfl rfl)
theorem dX7_desk_51 : decode cX7_desk 51 = .ok (.ifCond .le 18, 3) := dk_158 0 18 (dk_at dksX7_desk_2 3 rfl rfl)
theorem dX7_desk_54 : decode cX7_desk 54 = .ok (.aload_n 0, 1) := dk_42 (dk_at dksX7_desk_2 6 rfl rfl)
theorem dX7_desk_55 : decode cX7_desk 55 = .ok (.iconst 4, 1) := dk_7 (dk_at dksX7_desk_2 7 rfl rfl)
theorem dX7_desk_56 : decode cX7_desk 56 = .ok (.putfield 92, 3) := dk_181 0 92 (dk_at dksX7_desk_2 8 rfl rfl)
theorem dX7_desk_59 : decode cX7_desk 59 = .ok (.aload_n 0, 1) := dk_42 (dk_at dksX7_desk_2 11 rfl rfl)
theorem dX7_desk_60 : decode cX7_desk 60 = .ok (.aload_n 0, 1) := dk_42 (dk_at dksX7_desk_2 12 rfl rfl)
theorem dX7_desk_61 : decode cX7_desk 61 = .ok (.getfield 112, 3) := dk_180 0 112 (dk_at dksX7_desk_2 13 rfl rfl)
theorem dX7_desk_64 : decode cX7_desk 64 = .ok (.putfield 9, 3) := dk_181 0 9 (dk_at dksX7_desk_2 16 rfl rfl)
theorem dX7_desk_67 : decode cX7_desk 67 = .ok (.iconst (-1), 1) := dk_2 (dk_at dksX7_desk_2 19 rfl rfl)
theorem dX7_desk_68 : decode cX7_desk 68 = .ok (.ireturn, 1) := dk_172 (dk_at dksX7_desk_2 20 rfl rfl)
theorem dX7_desk_69 : decode cX7_desk 69 = .ok (.aload_n 0, 1) := dk_42 (dk_at dksX7_desk_2 21 rfl rfl)
theorem dX7_desk_70 : decode cX7_desk 70 = .ok (.iconst 1, 1) := dk_4 (dk_at dksX7_desk_2 22 rfl rfl)
theorem dX7_desk_71 : decode cX7_desk 71 = .ok (.putfield 227, 3) := dk_181 0 227 (dk_at dksX7_desk_3 0 rfl rfl)
theorem dX7_desk_74 : decode cX7_desk 74 = .ok (.aload_n 0, 1) := dk_42 (dk_at dksX7_desk_3 3 rfl rfl)
theorem dX7_desk_75 : decode cX7_desk 75 = .ok (.aload_n 0, 1) := dk_42 (dk_at dksX7_desk_3 4 rfl rfl)
theorem dX7_desk_76 : decode cX7_desk 76 = .ok (.getfield 162, 3) := dk_180 0 162 (dk_at dksX7_desk_3 5 rfl rfl)
theorem dX7_desk_79 : decode cX7_desk 79 = .ok (.putfield 231, 3) := dk_181 0 231 (dk_at dksX7_desk_3 8 rfl rfl)
theorem dX7_desk_82 : decode cX7_desk 82 = .ok (.aload_n 0, 1) := dk_42 (dk_at dksX7_desk_3 11 rfl rfl)
theorem dX7_desk_83 : decode cX7_desk 83 = .ok (.aload_n 0, 1) := dk_42 (dk_at dksX7_desk_3 12 rfl rfl)
theorem dX7_desk_84 : decode cX7_desk 84 = .ok (.getfield 199, 3) := dk_180 0 199 (dk_at dksX7_desk_3 13 rfl rfl)
theorem dX7_desk_87 : decode cX7_desk 87 = .ok (.putfield 233, 3) := dk_181 0 233 (dk_at dksX7_desk_3 16 rfl rfl)
theorem dX7_desk_90 : decode cX7_desk 90 = .ok (.aload_n 0, 1) := dk_42 (dk_at dksX7_desk_3 19 rfl rfl)
theorem dX7_desk_91 : decode cX7_desk 91 = .ok (.aload_n 0, 1) := dk_42 (dk_at dksX7_desk_3 20 rfl rfl)
theorem dX7_desk_92 : decode cX7_desk 92 = .ok (.getfield 205, 3) := dk_180 0 205 (dk_at dksX7_desk_3 21 rfl rfl)
theorem dX7_desk_95 : decode cX7_desk 95 = .ok (.putfield 236, 3) := dk_181 0 236 (dk_at dksX7_desk_4 0 rfl rfl)
theorem dX7_desk_98 : decode cX7_desk 98 = .ok (.aload_n 0, 1) := dk_42 (dk_at dksX7_desk_4 3 rfl rfl)
theorem dX7_desk_99 : decode cX7_desk 99 = .ok (.aload_n 0, 1) := dk_42 (dk_at dksX7_desk_4 4 rfl rfl)
theorem dX7_desk_100 : decode cX7_desk 100 = .ok (.getfield 208, 3) := dk_180 0 208 (dk_at dksX7_desk_4 5 rfl rfl)
theorem dX7_desk_103 : decode cX7_desk 103 = .ok (.putfield 239, 3) := dk_181 0 239 (dk_at dksX7_desk_4 8 rfl rfl)
theorem dX7_desk_106 : decode cX7_desk 106 = .ok (.iconst 0, 1) := dk_3 (dk_at dksX7_desk_4 11 rfl rfl)
theorem dX7_desk_107 : decode cX7_desk 107 = .ok (.istore_n 2, 1) := dk_61 (dk_at dksX7_desk_4 12 rfl rfl)
theorem dX7_desk_108 : decode cX7_desk 108 = .ok (.iload_n 2, 1) := dk_28 (dk_at dksX7_desk_4 13 rfl rfl)
theorem dX7_desk_109 : decode cX7_desk 109 = .ok (.ldc 13, 2) := dk_18 13 (dk_at dksX7_desk_4 14 rfl rfl)
theorem dX7_desk_111 : decode cX7_desk 111 = .ok (.if_icmp .ge 32, 3) := dk_162 0 32 (dk_at dksX7_desk_4 16 rfl rfl)
theorem dX7_desk_114 : decode cX7_desk 114 = .ok (.aload_n 0, 1) := dk_42 (dk_at dksX7_desk_4 19 rfl rfl)
theorem dX7_desk_115 : decode cX7_desk 115 = .ok (.getfield 14, 3) := dk_180 0 14 (dk_at dksX7_desk_4 20 rfl rfl)
theorem dX7_desk_118 : decode cX7_desk 118 = .ok (.iload_n 2, 1) := dk_28 (dk_at dksX7_desk_4 23 rfl rfl)
theorem dX7_desk_119 : decode cX7_desk 119 = .ok (.iload_n 2, 1) := dk_28 (dk_at dksX7_desk_5 0 rfl rfl)
theorem dX7_desk_120 : decode cX7_desk 120 = .ok (.sipush 24576, 3) := dk_17 96 0 (dk_at dksX7_desk_5 1 rfl rfl)
theorem dX7_desk_123 : decode cX7_desk 123 = .ok (.if_icmp .ge 12, 3) := dk_162 0 12 (dk_at dksX7_desk_5 4 rfl rfl)
theorem dX7_desk_126 : decode cX7_desk 126 = .ok (.aload_n 0, 1) := dk_42 (dk_at dksX7_desk_5 7 rfl rfl)
theorem dX7_desk_127 : decode cX7_desk 127 = .ok (.getfield 18, 3) := dk_180 0 18 (dk_at dksX7_desk_5 8 rfl rfl)
theorem dX7_desk_130 : decode cX7_desk 130 = .ok (.iload_n 2, 1) := dk_28 (dk_at dksX7_desk_5 11 rfl rfl)
theorem dX7_desk_131 : decode cX7_desk 131 = .ok (.iaload, 1) := dk_46 (dk_at dksX7_desk_5 12 rfl rfl)
theorem dX7_desk_132 : decode cX7_desk 132 = .ok (.goto 4, 3) := dk_167 0 4 (dk_at dksX7_desk_5 13 rfl rfl)
theorem dX7_desk_135 : decode cX7_desk 135 = .ok (.iconst 0, 1) := dk_3 (dk_at dksX7_desk_5 16 rfl rfl)
theorem dX7_desk_136 : decode cX7_desk 136 = .ok (.iastore, 1) := dk_79 (dk_at dksX7_desk_5 17 rfl rfl)
theorem dX7_desk_137 : decode cX7_desk 137 = .ok (.iinc 2 1, 3) := dk_132 2 1 (dk_at dksX7_desk_5 18 rfl rfl)
theorem dX7_desk_140 : decode cX7_desk 140 = .ok (.goto (-32), 3) := dk_167 255 224 (dk_at dksX7_desk_5 21 rfl rfl)
theorem dX7_desk_143 : decode cX7_desk 143 = .ok (.aload_n 0, 1) := dk_42 (dk_at dksX7_desk_6 0 rfl rfl)
theorem dX7_desk_144 : decode cX7_desk 144 = .ok (.iconst 0, 1) := dk_3 (dk_at dksX7_desk_6 1 rfl rfl)
theorem dX7_desk_145 : decode cX7_desk 145 = .ok (.putfield 242, 3) := dk_181 0 242 (dk_at dksX7_desk_6 2 rfl rfl)
theorem dX7_desk_148 : decode cX7_desk 148 = .ok (.aload_n 0, 1) := dk_42 (dk_at dksX7_desk_6 5 rfl rfl)
theorem dX7_desk_149 : decode cX7_desk 149 = .ok (.invokevirtual 245, 3) := dk_182 0 245 (dk_at dksX7_desk_6 6 rfl rfl)
theorem dX7_desk_152 : decode cX7_desk 152 = .ok (.aload_n 0, 1) := dk_42 (dk_at dksX7_desk_6 9 rfl rfl)
theorem dX7_desk_153 : decode cX7_desk 153 = .ok (.aload_n 0, 1) := dk_42 (dk_at dksX7_desk_6 10 rfl rfl)
theorem dX7_desk_154 : decode cX7_desk 154 = .ok (.getfield 165, 3) := dk_180 0 165 (dk_at dksX7_desk_6 11 rfl rfl)
theorem dX7_desk_157 : decode cX7_desk 157 = .ok (.invokevirtual 248, 3) := dk_182 0 248 (dk_at dksX7_desk_6 14 rfl rfl)
theorem dX7_desk_160 : decode cX7_desk 160 = .ok (.ireturn, 1) := dk_172 (dk_at dksX7_desk_6 17 rfl rfl)
abbrev cX7_refused : ByteArray := prog_10_method_3_code
def yX7_refused : MethodName := ⟨RX7, "refused", "(I)I"⟩
def dkwX7_refused_0 : List UInt8 := [42, 27, 181, 0, 92, 42, 2, 181, 0, 9, 2, 172]
abbrev dktX7_refused_0 : List UInt8 := dkwX7_refused_0 ++ []
theorem dksX7_refused_0 : cX7_refused.data.toList.drop 0 = dktX7_refused_0 := by decide +kernel
theorem dX7_refused_0 : decode cX7_refused 0 = .ok (.aload_n 0, 1) := dk_42 (dk_at dksX7_refused_0 0 rfl rfl)
theorem dX7_refused_1 : decode cX7_refused 1 = .ok (.iload_n 1, 1) := dk_27 (dk_at dksX7_refused_0 1 rfl rfl)
theorem dX7_refused_2 : decode cX7_refused 2 = .ok (.putfield 92, 3) := dk_181 0 92 (dk_at dksX7_refused_0 2 rfl rfl)
theorem dX7_refused_5 : decode cX7_refused 5 = .ok (.aload_n 0, 1) := dk_42 (dk_at dksX7_refused_0 5 rfl rfl)
theorem dX7_refused_6 : decode cX7_refused 6 = .ok (.iconst (-1), 1) := dk_2 (dk_at dksX7_refused_0 6 rfl rfl)
theorem dX7_refused_7 : decode cX7_refused 7 = .ok (.putfield 9, 3) := dk_181 0 9 (dk_at dksX7_refused_0 7 rfl rfl)
theorem dX7_refused_10 : decode cX7_refused 10 = .ok (.iconst (-1), 1) := dk_2 (dk_at dksX7_refused_0 10 rfl rfl)
theorem dX7_refused_11 : decode cX7_refused 11 = .ok (.ireturn, 1) := dk_172 (dk_at dksX7_refused_0 11 rfl rfl)
abbrev cX7_readAll : ByteArray := prog_10_method_17_code
def yX7_readAll : MethodName := ⟨RX7, "readAll", "()V"⟩
def dkwX7_readAll_3 : List UInt8 := [42, 180, 0, 102, 154, 0, 16, 42, 180, 0, 162, 154, 0, 9, 42, 16, 6, 182, 0, 149, 177]
abbrev dktX7_readAll_3 : List UInt8 := dkwX7_readAll_3 ++ []
def dkwX7_readAll_2 : List UInt8 := [42, 182, 0, 153, 42, 182, 0, 168, 167, 255, 240, 42, 180, 0, 115, 4, 159, 0, 8, 42, 4, 182, 0, 149]
abbrev dktX7_readAll_2 : List UInt8 := dkwX7_readAll_2 ++ dktX7_readAll_3
def dkwX7_readAll_1 : List UInt8 := [3, 79, 132, 1, 1, 167, 255, 239, 42, 182, 0, 153, 42, 182, 0, 168, 42, 180, 0, 115, 7, 160, 0, 14]
abbrev dktX7_readAll_1 : List UInt8 := dkwX7_readAll_1 ++ dktX7_readAll_2
def dkwX7_readAll_0 : List UInt8 := [42, 3, 181, 0, 162, 42, 3, 181, 0, 165, 3, 60, 27, 17, 96, 0, 162, 0, 16, 42, 180, 0, 18, 27]
abbrev dktX7_readAll_0 : List UInt8 := dkwX7_readAll_0 ++ dktX7_readAll_1
theorem dksX7_readAll_0 : cX7_readAll.data.toList.drop 0 = dktX7_readAll_0 := by decide +kernel
theorem dksX7_readAll_1 : cX7_readAll.data.toList.drop 24 = dktX7_readAll_1 := dk_seg dksX7_readAll_0 24 rfl rfl
theorem dksX7_readAll_2 : cX7_readAll.data.toList.drop 48 = dktX7_readAll_2 := dk_seg dksX7_readAll_1 24 rfl rfl
theorem dksX7_readAll_3 : cX7_readAll.data.toList.drop 72 = dktX7_readAll_3 := dk_seg dksX7_readAll_2 24 rfl rfl
theorem dX7_readAll_0 : decode cX7_readAll 0 = .ok (.aload_n 0, 1) := dk_42 (dk_at dksX7_readAll_0 0 rfl rfl)
theorem dX7_readAll_1 : decode cX7_readAll 1 = .ok (.iconst 0, 1) := dk_3 (dk_at dksX7_readAll_0 1 rfl rfl)
theorem dX7_readAll_2 : decode cX7_readAll 2 = .ok (.putfield 162, 3) := dk_181 0 162 (dk_at dksX7_readAll_0 2 rfl rfl)
theorem dX7_readAll_5 : decode cX7_readAll 5 = .ok (.aload_n 0, 1) := dk_42 (dk_at dksX7_readAll_0 5 rfl rfl)
theorem dX7_readAll_6 : decode cX7_readAll 6 = .ok (.iconst 0, 1) := dk_3 (dk_at dksX7_readAll_0 6 rfl rfl)
theorem dX7_readAll_7 : decode cX7_readAll 7 = .ok (.putfield 165, 3) := dk_181 0 165 (dk_at dksX7_readAll_0 7 rfl rfl)
theorem dX7_readAll_10 : decode cX7_readAll 10 = .ok (.iconst 0, 1) := dk_3 (dk_at dksX7_readAll_0 10 rfl rfl)
theorem dX7_readAll_11 : decode cX7_readAll 11 = .ok (.istore_n 1, 1) := dk_60 (dk_at dksX7_readAll_0 11 rfl rfl)
theorem dX7_readAll_12 : decode cX7_readAll 12 = .ok (.iload_n 1, 1) := dk_27 (dk_at dksX7_readAll_0 12 rfl rfl)
theorem dX7_readAll_13 : decode cX7_readAll 13 = .ok (.sipush 24576, 3) := dk_17 96 0 (dk_at dksX7_readAll_0 13 rfl rfl)
theorem dX7_readAll_16 : decode cX7_readAll 16 = .ok (.if_icmp .ge 16, 3) := dk_162 0 16 (dk_at dksX7_readAll_0 16 rfl rfl)
theorem dX7_readAll_19 : decode cX7_readAll 19 = .ok (.aload_n 0, 1) := dk_42 (dk_at dksX7_readAll_0 19 rfl rfl)
theorem dX7_readAll_20 : decode cX7_readAll 20 = .ok (.getfield 18, 3) := dk_180 0 18 (dk_at dksX7_readAll_0 20 rfl rfl)
theorem dX7_readAll_23 : decode cX7_readAll 23 = .ok (.iload_n 1, 1) := dk_27 (dk_at dksX7_readAll_0 23 rfl rfl)
theorem dX7_readAll_24 : decode cX7_readAll 24 = .ok (.iconst 0, 1) := dk_3 (dk_at dksX7_readAll_1 0 rfl rfl)
theorem dX7_readAll_25 : decode cX7_readAll 25 = .ok (.iastore, 1) := dk_79 (dk_at dksX7_readAll_1 1 rfl rfl)
theorem dX7_readAll_26 : decode cX7_readAll 26 = .ok (.iinc 1 1, 3) := dk_132 1 1 (dk_at dksX7_readAll_1 2 rfl rfl)
theorem dX7_readAll_29 : decode cX7_readAll 29 = .ok (.goto (-17), 3) := dk_167 255 239 (dk_at dksX7_readAll_1 5 rfl rfl)
theorem dX7_readAll_32 : decode cX7_readAll 32 = .ok (.aload_n 0, 1) := dk_42 (dk_at dksX7_readAll_1 8 rfl rfl)
theorem dX7_readAll_33 : decode cX7_readAll 33 = .ok (.invokevirtual 153, 3) := dk_182 0 153 (dk_at dksX7_readAll_1 9 rfl rfl)
theorem dX7_readAll_36 : decode cX7_readAll 36 = .ok (.aload_n 0, 1) := dk_42 (dk_at dksX7_readAll_1 12 rfl rfl)
theorem dX7_readAll_37 : decode cX7_readAll 37 = .ok (.invokevirtual 168, 3) := dk_182 0 168 (dk_at dksX7_readAll_1 13 rfl rfl)
theorem dX7_readAll_40 : decode cX7_readAll 40 = .ok (.aload_n 0, 1) := dk_42 (dk_at dksX7_readAll_1 16 rfl rfl)
theorem dX7_readAll_41 : decode cX7_readAll 41 = .ok (.getfield 115, 3) := dk_180 0 115 (dk_at dksX7_readAll_1 17 rfl rfl)
theorem dX7_readAll_44 : decode cX7_readAll 44 = .ok (.iconst 4, 1) := dk_7 (dk_at dksX7_readAll_1 20 rfl rfl)
theorem dX7_readAll_45 : decode cX7_readAll 45 = .ok (.if_icmp .ne 14, 3) := dk_160 0 14 (dk_at dksX7_readAll_1 21 rfl rfl)
theorem dX7_readAll_48 : decode cX7_readAll 48 = .ok (.aload_n 0, 1) := dk_42 (dk_at dksX7_readAll_2 0 rfl rfl)
theorem dX7_readAll_49 : decode cX7_readAll 49 = .ok (.invokevirtual 153, 3) := dk_182 0 153 (dk_at dksX7_readAll_2 1 rfl rfl)
theorem dX7_readAll_52 : decode cX7_readAll 52 = .ok (.aload_n 0, 1) := dk_42 (dk_at dksX7_readAll_2 4 rfl rfl)
theorem dX7_readAll_53 : decode cX7_readAll 53 = .ok (.invokevirtual 168, 3) := dk_182 0 168 (dk_at dksX7_readAll_2 5 rfl rfl)
theorem dX7_readAll_56 : decode cX7_readAll 56 = .ok (.goto (-16), 3) := dk_167 255 240 (dk_at dksX7_readAll_2 8 rfl rfl)
theorem dX7_readAll_59 : decode cX7_readAll 59 = .ok (.aload_n 0, 1) := dk_42 (dk_at dksX7_readAll_2 11 rfl rfl)
theorem dX7_readAll_60 : decode cX7_readAll 60 = .ok (.getfield 115, 3) := dk_180 0 115 (dk_at dksX7_readAll_2 12 rfl rfl)
theorem dX7_readAll_63 : decode cX7_readAll 63 = .ok (.iconst 1, 1) := dk_4 (dk_at dksX7_readAll_2 15 rfl rfl)
theorem dX7_readAll_64 : decode cX7_readAll 64 = .ok (.if_icmp .eq 8, 3) := dk_159 0 8 (dk_at dksX7_readAll_2 16 rfl rfl)
theorem dX7_readAll_67 : decode cX7_readAll 67 = .ok (.aload_n 0, 1) := dk_42 (dk_at dksX7_readAll_2 19 rfl rfl)
theorem dX7_readAll_68 : decode cX7_readAll 68 = .ok (.iconst 1, 1) := dk_4 (dk_at dksX7_readAll_2 20 rfl rfl)
theorem dX7_readAll_69 : decode cX7_readAll 69 = .ok (.invokevirtual 149, 3) := dk_182 0 149 (dk_at dksX7_readAll_2 21 rfl rfl)
theorem dX7_readAll_72 : decode cX7_readAll 72 = .ok (.aload_n 0, 1) := dk_42 (dk_at dksX7_readAll_3 0 rfl rfl)
theorem dX7_readAll_73 : decode cX7_readAll 73 = .ok (.getfield 102, 3) := dk_180 0 102 (dk_at dksX7_readAll_3 1 rfl rfl)
theorem dX7_readAll_76 : decode cX7_readAll 76 = .ok (.ifCond .ne 16, 3) := dk_154 0 16 (dk_at dksX7_readAll_3 4 rfl rfl)
theorem dX7_readAll_79 : decode cX7_readAll 79 = .ok (.aload_n 0, 1) := dk_42 (dk_at dksX7_readAll_3 7 rfl rfl)
theorem dX7_readAll_80 : decode cX7_readAll 80 = .ok (.getfield 162, 3) := dk_180 0 162 (dk_at dksX7_readAll_3 8 rfl rfl)
theorem dX7_readAll_83 : decode cX7_readAll 83 = .ok (.ifCond .ne 9, 3) := dk_154 0 9 (dk_at dksX7_readAll_3 11 rfl rfl)
theorem dX7_readAll_86 : decode cX7_readAll 86 = .ok (.aload_n 0, 1) := dk_42 (dk_at dksX7_readAll_3 14 rfl rfl)
theorem dX7_readAll_87 : decode cX7_readAll 87 = .ok (.bipush 6, 2) := dk_16 6 (dk_at dksX7_readAll_3 15 rfl rfl)
theorem dX7_readAll_89 : decode cX7_readAll 89 = .ok (.invokevirtual 149, 3) := dk_182 0 149 (dk_at dksX7_readAll_3 17 rfl rfl)
theorem dX7_readAll_92 : decode cX7_readAll 92 = .ok (.return_, 1) := dk_177 (dk_at dksX7_readAll_3 20 rfl rfl)
abbrev cX7_next : ByteArray := prog_10_method_10_code
def yX7_next : MethodName := ⟨RX7, "next", "()V"⟩
def dkwX7_next_6 : List UInt8 := [4, 96, 181, 0, 105, 177]
abbrev dktX7_next_6 : List UInt8 := dkwX7_next_6 ++ []
def dkwX7_next_5 : List UInt8 := [8, 167, 0, 15, 27, 16, 45, 160, 0, 8, 16, 6, 167, 0, 4, 3, 181, 0, 115, 42, 89, 180, 0, 105]
abbrev dktX7_next_5 : List UInt8 := dkwX7_next_5 ++ dktX7_next_6
def dkwX7_next_4 : List UInt8 := [42, 182, 0, 125, 167, 0, 49, 42, 27, 16, 59, 160, 0, 7, 7, 167, 0, 25, 27, 16, 43, 160, 0, 7]
abbrev dktX7_next_4 : List UInt8 := dkwX7_next_4 ++ dktX7_next_5
def dkwX7_next_3 : List UInt8 := [184, 0, 118, 153, 0, 10, 42, 182, 0, 122, 167, 0, 67, 27, 16, 48, 16, 57, 184, 0, 118, 153, 0, 10]
abbrev dktX7_next_3 : List UInt8 := dkwX7_next_3 ++ dktX7_next_4
def dkwX7_next_2 : List UInt8 := [182, 0, 108, 60, 27, 2, 160, 0, 11, 42, 4, 181, 0, 115, 167, 0, 85, 27, 16, 97, 16, 122]
abbrev dktX7_next_2 : List UInt8 := dkwX7_next_2 ++ dktX7_next_3
def dkwX7_next_1 : List UInt8 := [180, 0, 105, 4, 96, 181, 0, 105, 167, 255, 233, 42, 42, 180, 0, 105, 181, 0, 112, 42, 42, 180, 0, 105]
abbrev dktX7_next_1 : List UInt8 := dkwX7_next_1 ++ dktX7_next_2
def dkwX7_next_0 : List UInt8 := [42, 180, 0, 102, 158, 0, 4, 177, 42, 42, 180, 0, 105, 182, 0, 108, 16, 32, 160, 0, 16, 42, 89]
abbrev dktX7_next_0 : List UInt8 := dkwX7_next_0 ++ dktX7_next_1
theorem dksX7_next_0 : cX7_next.data.toList.drop 0 = dktX7_next_0 := by decide +kernel
theorem dksX7_next_1 : cX7_next.data.toList.drop 23 = dktX7_next_1 := dk_seg dksX7_next_0 23 rfl rfl
theorem dksX7_next_2 : cX7_next.data.toList.drop 47 = dktX7_next_2 := dk_seg dksX7_next_1 24 rfl rfl
theorem dksX7_next_3 : cX7_next.data.toList.drop 69 = dktX7_next_3 := dk_seg dksX7_next_2 22 rfl rfl
theorem dksX7_next_4 : cX7_next.data.toList.drop 93 = dktX7_next_4 := dk_seg dksX7_next_3 24 rfl rfl
theorem dksX7_next_5 : cX7_next.data.toList.drop 117 = dktX7_next_5 := dk_seg dksX7_next_4 24 rfl rfl
theorem dksX7_next_6 : cX7_next.data.toList.drop 141 = dktX7_next_6 := dk_seg dksX7_next_5 24 rfl rfl
theorem dX7_next_0 : decode cX7_next 0 = .ok (.aload_n 0, 1) := dk_42 (dk_at dksX7_next_0 0 rfl rfl)
theorem dX7_next_1 : decode cX7_next 1 = .ok (.getfield 102, 3) := dk_180 0 102 (dk_at dksX7_next_0 1 rfl rfl)
theorem dX7_next_4 : decode cX7_next 4 = .ok (.ifCond .le 4, 3) := dk_158 0 4 (dk_at dksX7_next_0 4 rfl rfl)
theorem dX7_next_7 : decode cX7_next 7 = .ok (.return_, 1) := dk_177 (dk_at dksX7_next_0 7 rfl rfl)
theorem dX7_next_8 : decode cX7_next 8 = .ok (.aload_n 0, 1) := dk_42 (dk_at dksX7_next_0 8 rfl rfl)
theorem dX7_next_9 : decode cX7_next 9 = .ok (.aload_n 0, 1) := dk_42 (dk_at dksX7_next_0 9 rfl rfl)
theorem dX7_next_10 : decode cX7_next 10 = .ok (.getfield 105, 3) := dk_180 0 105 (dk_at dksX7_next_0 10 rfl rfl)
theorem dX7_next_13 : decode cX7_next 13 = .ok (.invokevirtual 108, 3) := dk_182 0 108 (dk_at dksX7_next_0 13 rfl rfl)
theorem dX7_next_16 : decode cX7_next 16 = .ok (.bipush 32, 2) := dk_16 32 (dk_at dksX7_next_0 16 rfl rfl)
theorem dX7_next_18 : decode cX7_next 18 = .ok (.if_icmp .ne 16, 3) := dk_160 0 16 (dk_at dksX7_next_0 18 rfl rfl)
theorem dX7_next_21 : decode cX7_next 21 = .ok (.aload_n 0, 1) := dk_42 (dk_at dksX7_next_0 21 rfl rfl)
theorem dX7_next_22 : decode cX7_next 22 = .ok (.dup, 1) := dk_89 (dk_at dksX7_next_0 22 rfl rfl)
theorem dX7_next_23 : decode cX7_next 23 = .ok (.getfield 105, 3) := dk_180 0 105 (dk_at dksX7_next_1 0 rfl rfl)
theorem dX7_next_26 : decode cX7_next 26 = .ok (.iconst 1, 1) := dk_4 (dk_at dksX7_next_1 3 rfl rfl)
theorem dX7_next_27 : decode cX7_next 27 = .ok (.iadd, 1) := dk_96 (dk_at dksX7_next_1 4 rfl rfl)
theorem dX7_next_28 : decode cX7_next 28 = .ok (.putfield 105, 3) := dk_181 0 105 (dk_at dksX7_next_1 5 rfl rfl)
theorem dX7_next_31 : decode cX7_next 31 = .ok (.goto (-23), 3) := dk_167 255 233 (dk_at dksX7_next_1 8 rfl rfl)
theorem dX7_next_34 : decode cX7_next 34 = .ok (.aload_n 0, 1) := dk_42 (dk_at dksX7_next_1 11 rfl rfl)
theorem dX7_next_35 : decode cX7_next 35 = .ok (.aload_n 0, 1) := dk_42 (dk_at dksX7_next_1 12 rfl rfl)
theorem dX7_next_36 : decode cX7_next 36 = .ok (.getfield 105, 3) := dk_180 0 105 (dk_at dksX7_next_1 13 rfl rfl)
theorem dX7_next_39 : decode cX7_next 39 = .ok (.putfield 112, 3) := dk_181 0 112 (dk_at dksX7_next_1 16 rfl rfl)
theorem dX7_next_42 : decode cX7_next 42 = .ok (.aload_n 0, 1) := dk_42 (dk_at dksX7_next_1 19 rfl rfl)
theorem dX7_next_43 : decode cX7_next 43 = .ok (.aload_n 0, 1) := dk_42 (dk_at dksX7_next_1 20 rfl rfl)
theorem dX7_next_44 : decode cX7_next 44 = .ok (.getfield 105, 3) := dk_180 0 105 (dk_at dksX7_next_1 21 rfl rfl)
theorem dX7_next_47 : decode cX7_next 47 = .ok (.invokevirtual 108, 3) := dk_182 0 108 (dk_at dksX7_next_2 0 rfl rfl)
theorem dX7_next_50 : decode cX7_next 50 = .ok (.istore_n 1, 1) := dk_60 (dk_at dksX7_next_2 3 rfl rfl)
theorem dX7_next_51 : decode cX7_next 51 = .ok (.iload_n 1, 1) := dk_27 (dk_at dksX7_next_2 4 rfl rfl)
theorem dX7_next_52 : decode cX7_next 52 = .ok (.iconst (-1), 1) := dk_2 (dk_at dksX7_next_2 5 rfl rfl)
theorem dX7_next_53 : decode cX7_next 53 = .ok (.if_icmp .ne 11, 3) := dk_160 0 11 (dk_at dksX7_next_2 6 rfl rfl)
theorem dX7_next_56 : decode cX7_next 56 = .ok (.aload_n 0, 1) := dk_42 (dk_at dksX7_next_2 9 rfl rfl)
theorem dX7_next_57 : decode cX7_next 57 = .ok (.iconst 1, 1) := dk_4 (dk_at dksX7_next_2 10 rfl rfl)
theorem dX7_next_58 : decode cX7_next 58 = .ok (.putfield 115, 3) := dk_181 0 115 (dk_at dksX7_next_2 11 rfl rfl)
theorem dX7_next_61 : decode cX7_next 61 = .ok (.goto 85, 3) := dk_167 0 85 (dk_at dksX7_next_2 14 rfl rfl)
theorem dX7_next_64 : decode cX7_next 64 = .ok (.iload_n 1, 1) := dk_27 (dk_at dksX7_next_2 17 rfl rfl)
theorem dX7_next_65 : decode cX7_next 65 = .ok (.bipush 97, 2) := dk_16 97 (dk_at dksX7_next_2 18 rfl rfl)
theorem dX7_next_67 : decode cX7_next 67 = .ok (.bipush 122, 2) := dk_16 122 (dk_at dksX7_next_2 20 rfl rfl)
theorem dX7_next_69 : decode cX7_next 69 = .ok (.invokestatic 118, 3) := dk_184 0 118 (dk_at dksX7_next_3 0 rfl rfl)
theorem dX7_next_72 : decode cX7_next 72 = .ok (.ifCond .eq 10, 3) := dk_153 0 10 (dk_at dksX7_next_3 3 rfl rfl)
theorem dX7_next_75 : decode cX7_next 75 = .ok (.aload_n 0, 1) := dk_42 (dk_at dksX7_next_3 6 rfl rfl)
theorem dX7_next_76 : decode cX7_next 76 = .ok (.invokevirtual 122, 3) := dk_182 0 122 (dk_at dksX7_next_3 7 rfl rfl)
theorem dX7_next_79 : decode cX7_next 79 = .ok (.goto 67, 3) := dk_167 0 67 (dk_at dksX7_next_3 10 rfl rfl)
theorem dX7_next_82 : decode cX7_next 82 = .ok (.iload_n 1, 1) := dk_27 (dk_at dksX7_next_3 13 rfl rfl)
theorem dX7_next_83 : decode cX7_next 83 = .ok (.bipush 48, 2) := dk_16 48 (dk_at dksX7_next_3 14 rfl rfl)
theorem dX7_next_85 : decode cX7_next 85 = .ok (.bipush 57, 2) := dk_16 57 (dk_at dksX7_next_3 16 rfl rfl)
theorem dX7_next_87 : decode cX7_next 87 = .ok (.invokestatic 118, 3) := dk_184 0 118 (dk_at dksX7_next_3 18 rfl rfl)
theorem dX7_next_90 : decode cX7_next 90 = .ok (.ifCond .eq 10, 3) := dk_153 0 10 (dk_at dksX7_next_3 21 rfl rfl)
theorem dX7_next_93 : decode cX7_next 93 = .ok (.aload_n 0, 1) := dk_42 (dk_at dksX7_next_4 0 rfl rfl)
theorem dX7_next_94 : decode cX7_next 94 = .ok (.invokevirtual 125, 3) := dk_182 0 125 (dk_at dksX7_next_4 1 rfl rfl)
theorem dX7_next_97 : decode cX7_next 97 = .ok (.goto 49, 3) := dk_167 0 49 (dk_at dksX7_next_4 4 rfl rfl)
theorem dX7_next_100 : decode cX7_next 100 = .ok (.aload_n 0, 1) := dk_42 (dk_at dksX7_next_4 7 rfl rfl)
theorem dX7_next_101 : decode cX7_next 101 = .ok (.iload_n 1, 1) := dk_27 (dk_at dksX7_next_4 8 rfl rfl)
theorem dX7_next_102 : decode cX7_next 102 = .ok (.bipush 59, 2) := dk_16 59 (dk_at dksX7_next_4 9 rfl rfl)
theorem dX7_next_104 : decode cX7_next 104 = .ok (.if_icmp .ne 7, 3) := dk_160 0 7 (dk_at dksX7_next_4 11 rfl rfl)
theorem dX7_next_107 : decode cX7_next 107 = .ok (.iconst 4, 1) := dk_7 (dk_at dksX7_next_4 14 rfl rfl)
theorem dX7_next_108 : decode cX7_next 108 = .ok (.goto 25, 3) := dk_167 0 25 (dk_at dksX7_next_4 15 rfl rfl)
theorem dX7_next_111 : decode cX7_next 111 = .ok (.iload_n 1, 1) := dk_27 (dk_at dksX7_next_4 18 rfl rfl)
theorem dX7_next_112 : decode cX7_next 112 = .ok (.bipush 43, 2) := dk_16 43 (dk_at dksX7_next_4 19 rfl rfl)
theorem dX7_next_114 : decode cX7_next 114 = .ok (.if_icmp .ne 7, 3) := dk_160 0 7 (dk_at dksX7_next_4 21 rfl rfl)
theorem dX7_next_117 : decode cX7_next 117 = .ok (.iconst 5, 1) := dk_8 (dk_at dksX7_next_5 0 rfl rfl)
theorem dX7_next_118 : decode cX7_next 118 = .ok (.goto 15, 3) := dk_167 0 15 (dk_at dksX7_next_5 1 rfl rfl)
theorem dX7_next_121 : decode cX7_next 121 = .ok (.iload_n 1, 1) := dk_27 (dk_at dksX7_next_5 4 rfl rfl)
theorem dX7_next_122 : decode cX7_next 122 = .ok (.bipush 45, 2) := dk_16 45 (dk_at dksX7_next_5 5 rfl rfl)
theorem dX7_next_124 : decode cX7_next 124 = .ok (.if_icmp .ne 8, 3) := dk_160 0 8 (dk_at dksX7_next_5 7 rfl rfl)
theorem dX7_next_127 : decode cX7_next 127 = .ok (.bipush 6, 2) := dk_16 6 (dk_at dksX7_next_5 10 rfl rfl)
theorem dX7_next_129 : decode cX7_next 129 = .ok (.goto 4, 3) := dk_167 0 4 (dk_at dksX7_next_5 12 rfl rfl)
theorem dX7_next_132 : decode cX7_next 132 = .ok (.iconst 0, 1) := dk_3 (dk_at dksX7_next_5 15 rfl rfl)
theorem dX7_next_133 : decode cX7_next 133 = .ok (.putfield 115, 3) := dk_181 0 115 (dk_at dksX7_next_5 16 rfl rfl)
theorem dX7_next_136 : decode cX7_next 136 = .ok (.aload_n 0, 1) := dk_42 (dk_at dksX7_next_5 19 rfl rfl)
theorem dX7_next_137 : decode cX7_next 137 = .ok (.dup, 1) := dk_89 (dk_at dksX7_next_5 20 rfl rfl)
theorem dX7_next_138 : decode cX7_next 138 = .ok (.getfield 105, 3) := dk_180 0 105 (dk_at dksX7_next_5 21 rfl rfl)
theorem dX7_next_141 : decode cX7_next 141 = .ok (.iconst 1, 1) := dk_4 (dk_at dksX7_next_6 0 rfl rfl)
theorem dX7_next_142 : decode cX7_next 142 = .ok (.iadd, 1) := dk_96 (dk_at dksX7_next_6 1 rfl rfl)
theorem dX7_next_143 : decode cX7_next 143 = .ok (.putfield 105, 3) := dk_181 0 105 (dk_at dksX7_next_6 2 rfl rfl)
theorem dX7_next_146 : decode cX7_next 146 = .ok (.return_, 1) := dk_177 (dk_at dksX7_next_6 5 rfl rfl)
abbrev cX7_byteAt : ByteArray := prog_10_method_9_code
def yX7_byteAt : MethodName := ⟨RX7, "byteAt", "(I)I"⟩
def dkwX7_byteAt_0 : List UInt8 := [27, 42, 180, 0, 99, 162, 0, 16, 42, 180, 0, 21, 27, 51, 17, 0, 255, 126, 167, 0, 4, 2, 172]
abbrev dktX7_byteAt_0 : List UInt8 := dkwX7_byteAt_0 ++ []
theorem dksX7_byteAt_0 : cX7_byteAt.data.toList.drop 0 = dktX7_byteAt_0 := by decide +kernel
theorem dX7_byteAt_0 : decode cX7_byteAt 0 = .ok (.iload_n 1, 1) := dk_27 (dk_at dksX7_byteAt_0 0 rfl rfl)
theorem dX7_byteAt_1 : decode cX7_byteAt 1 = .ok (.aload_n 0, 1) := dk_42 (dk_at dksX7_byteAt_0 1 rfl rfl)
theorem dX7_byteAt_2 : decode cX7_byteAt 2 = .ok (.getfield 99, 3) := dk_180 0 99 (dk_at dksX7_byteAt_0 2 rfl rfl)
theorem dX7_byteAt_5 : decode cX7_byteAt 5 = .ok (.if_icmp .ge 16, 3) := dk_162 0 16 (dk_at dksX7_byteAt_0 5 rfl rfl)
theorem dX7_byteAt_8 : decode cX7_byteAt 8 = .ok (.aload_n 0, 1) := dk_42 (dk_at dksX7_byteAt_0 8 rfl rfl)
theorem dX7_byteAt_9 : decode cX7_byteAt 9 = .ok (.getfield 21, 3) := dk_180 0 21 (dk_at dksX7_byteAt_0 9 rfl rfl)
theorem dX7_byteAt_12 : decode cX7_byteAt 12 = .ok (.iload_n 1, 1) := dk_27 (dk_at dksX7_byteAt_0 12 rfl rfl)
theorem dX7_byteAt_13 : decode cX7_byteAt 13 = .ok (.baload, 1) := dk_51 (dk_at dksX7_byteAt_0 13 rfl rfl)
theorem dX7_byteAt_14 : decode cX7_byteAt 14 = .ok (.sipush 255, 3) := dk_17 0 255 (dk_at dksX7_byteAt_0 14 rfl rfl)
theorem dX7_byteAt_17 : decode cX7_byteAt 17 = .ok (.iand, 1) := dk_126 (dk_at dksX7_byteAt_0 17 rfl rfl)
theorem dX7_byteAt_18 : decode cX7_byteAt 18 = .ok (.goto 4, 3) := dk_167 0 4 (dk_at dksX7_byteAt_0 18 rfl rfl)
theorem dX7_byteAt_21 : decode cX7_byteAt 21 = .ok (.iconst (-1), 1) := dk_2 (dk_at dksX7_byteAt_0 21 rfl rfl)
theorem dX7_byteAt_22 : decode cX7_byteAt 22 = .ok (.ireturn, 1) := dk_172 (dk_at dksX7_byteAt_0 22 rfl rfl)
abbrev cX7_in : ByteArray := prog_10_method_5_code
def yX7_in : MethodName := ⟨RX7, "in", "(III)Z"⟩
def dkwX7_in_0 : List UInt8 := [26, 27, 161, 0, 12, 26, 28, 163, 0, 7, 4, 167, 0, 4, 3, 172]
abbrev dktX7_in_0 : List UInt8 := dkwX7_in_0 ++ []
theorem dksX7_in_0 : cX7_in.data.toList.drop 0 = dktX7_in_0 := by decide +kernel
theorem dX7_in_0 : decode cX7_in 0 = .ok (.iload_n 0, 1) := dk_26 (dk_at dksX7_in_0 0 rfl rfl)
theorem dX7_in_1 : decode cX7_in 1 = .ok (.iload_n 1, 1) := dk_27 (dk_at dksX7_in_0 1 rfl rfl)
theorem dX7_in_2 : decode cX7_in 2 = .ok (.if_icmp .lt 12, 3) := dk_161 0 12 (dk_at dksX7_in_0 2 rfl rfl)
theorem dX7_in_5 : decode cX7_in 5 = .ok (.iload_n 0, 1) := dk_26 (dk_at dksX7_in_0 5 rfl rfl)
theorem dX7_in_6 : decode cX7_in 6 = .ok (.iload_n 2, 1) := dk_28 (dk_at dksX7_in_0 6 rfl rfl)
theorem dX7_in_7 : decode cX7_in 7 = .ok (.if_icmp .gt 7, 3) := dk_163 0 7 (dk_at dksX7_in_0 7 rfl rfl)
theorem dX7_in_10 : decode cX7_in 10 = .ok (.iconst 1, 1) := dk_4 (dk_at dksX7_in_0 10 rfl rfl)
theorem dX7_in_11 : decode cX7_in 11 = .ok (.goto 4, 3) := dk_167 0 4 (dk_at dksX7_in_0 11 rfl rfl)
theorem dX7_in_14 : decode cX7_in 14 = .ok (.iconst 0, 1) := dk_3 (dk_at dksX7_in_0 14 rfl rfl)
theorem dX7_in_15 : decode cX7_in 15 = .ok (.ireturn, 1) := dk_172 (dk_at dksX7_in_0 15 rfl rfl)
abbrev cX7_nextWord : ByteArray := prog_10_method_11_code
def yX7_nextWord : MethodName := ⟨RX7, "nextWord", "()V"⟩
def dkwX7_nextWord_3 : List UInt8 := [42, 42, 180, 0, 105, 42, 180, 0, 112, 100, 8, 164, 0, 7, 3, 167, 0, 4, 5, 181, 0, 115, 177]
abbrev dktX7_nextWord_3 : List UInt8 := dkwX7_nextWord_3 ++ []
def dkwX7_nextWord_2 : List UInt8 := [180, 0, 105, 182, 0, 108, 133, 129, 181, 0, 128, 42, 89, 180, 0, 105, 4, 96, 181, 0, 105, 167, 255, 194]
abbrev dktX7_nextWord_2 : List UInt8 := dkwX7_nextWord_2 ++ dktX7_nextWord_3
def dkwX7_nextWord_1 : List UInt8 := [180, 0, 105, 42, 180, 0, 112, 100, 8, 162, 0, 24, 42, 42, 180, 0, 128, 16, 8, 121, 42, 42]
abbrev dktX7_nextWord_1 : List UInt8 := dkwX7_nextWord_1 ++ dktX7_nextWord_2
def dkwX7_nextWord_0 : List UInt8 := [42, 9, 181, 0, 128, 42, 42, 180, 0, 105, 182, 0, 108, 16, 97, 16, 122, 184, 0, 118, 153, 0, 50, 42]
abbrev dktX7_nextWord_0 : List UInt8 := dkwX7_nextWord_0 ++ dktX7_nextWord_1
theorem dksX7_nextWord_0 : cX7_nextWord.data.toList.drop 0 = dktX7_nextWord_0 := by decide +kernel
theorem dksX7_nextWord_1 : cX7_nextWord.data.toList.drop 24 = dktX7_nextWord_1 := dk_seg dksX7_nextWord_0 24 rfl rfl
theorem dksX7_nextWord_2 : cX7_nextWord.data.toList.drop 46 = dktX7_nextWord_2 := dk_seg dksX7_nextWord_1 22 rfl rfl
theorem dksX7_nextWord_3 : cX7_nextWord.data.toList.drop 70 = dktX7_nextWord_3 := dk_seg dksX7_nextWord_2 24 rfl rfl
theorem dX7_nextWord_0 : decode cX7_nextWord 0 = .ok (.aload_n 0, 1) := dk_42 (dk_at dksX7_nextWord_0 0 rfl rfl)
theorem dX7_nextWord_1 : decode cX7_nextWord 1 = .ok (.lconst 0, 1) := dk_9 (dk_at dksX7_nextWord_0 1 rfl rfl)
theorem dX7_nextWord_2 : decode cX7_nextWord 2 = .ok (.putfield 128, 3) := dk_181 0 128 (dk_at dksX7_nextWord_0 2 rfl rfl)
theorem dX7_nextWord_5 : decode cX7_nextWord 5 = .ok (.aload_n 0, 1) := dk_42 (dk_at dksX7_nextWord_0 5 rfl rfl)
theorem dX7_nextWord_6 : decode cX7_nextWord 6 = .ok (.aload_n 0, 1) := dk_42 (dk_at dksX7_nextWord_0 6 rfl rfl)
theorem dX7_nextWord_7 : decode cX7_nextWord 7 = .ok (.getfield 105, 3) := dk_180 0 105 (dk_at dksX7_nextWord_0 7 rfl rfl)
theorem dX7_nextWord_10 : decode cX7_nextWord 10 = .ok (.invokevirtual 108, 3) := dk_182 0 108 (dk_at dksX7_nextWord_0 10 rfl rfl)
theorem dX7_nextWord_13 : decode cX7_nextWord 13 = .ok (.bipush 97, 2) := dk_16 97 (dk_at dksX7_nextWord_0 13 rfl rfl)
theorem dX7_nextWord_15 : decode cX7_nextWord 15 = .ok (.bipush 122, 2) := dk_16 122 (dk_at dksX7_nextWord_0 15 rfl rfl)
theorem dX7_nextWord_17 : decode cX7_nextWord 17 = .ok (.invokestatic 118, 3) := dk_184 0 118 (dk_at dksX7_nextWord_0 17 rfl rfl)
theorem dX7_nextWord_20 : decode cX7_nextWord 20 = .ok (.ifCond .eq 50, 3) := dk_153 0 50 (dk_at dksX7_nextWord_0 20 rfl rfl)
theorem dX7_nextWord_23 : decode cX7_nextWord 23 = .ok (.aload_n 0, 1) := dk_42 (dk_at dksX7_nextWord_0 23 rfl rfl)
theorem dX7_nextWord_24 : decode cX7_nextWord 24 = .ok (.getfield 105, 3) := dk_180 0 105 (dk_at dksX7_nextWord_1 0 rfl rfl)
theorem dX7_nextWord_27 : decode cX7_nextWord 27 = .ok (.aload_n 0, 1) := dk_42 (dk_at dksX7_nextWord_1 3 rfl rfl)
theorem dX7_nextWord_28 : decode cX7_nextWord 28 = .ok (.getfield 112, 3) := dk_180 0 112 (dk_at dksX7_nextWord_1 4 rfl rfl)
theorem dX7_nextWord_31 : decode cX7_nextWord 31 = .ok (.isub, 1) := dk_100 (dk_at dksX7_nextWord_1 7 rfl rfl)
theorem dX7_nextWord_32 : decode cX7_nextWord 32 = .ok (.iconst 5, 1) := dk_8 (dk_at dksX7_nextWord_1 8 rfl rfl)
theorem dX7_nextWord_33 : decode cX7_nextWord 33 = .ok (.if_icmp .ge 24, 3) := dk_162 0 24 (dk_at dksX7_nextWord_1 9 rfl rfl)
theorem dX7_nextWord_36 : decode cX7_nextWord 36 = .ok (.aload_n 0, 1) := dk_42 (dk_at dksX7_nextWord_1 12 rfl rfl)
theorem dX7_nextWord_37 : decode cX7_nextWord 37 = .ok (.aload_n 0, 1) := dk_42 (dk_at dksX7_nextWord_1 13 rfl rfl)
theorem dX7_nextWord_38 : decode cX7_nextWord 38 = .ok (.getfield 128, 3) := dk_180 0 128 (dk_at dksX7_nextWord_1 14 rfl rfl)
theorem dX7_nextWord_41 : decode cX7_nextWord 41 = .ok (.bipush 8, 2) := dk_16 8 (dk_at dksX7_nextWord_1 17 rfl rfl)
theorem dX7_nextWord_43 : decode cX7_nextWord 43 = .ok (.lshl, 1) := dk_121 (dk_at dksX7_nextWord_1 19 rfl rfl)
theorem dX7_nextWord_44 : decode cX7_nextWord 44 = .ok (.aload_n 0, 1) := dk_42 (dk_at dksX7_nextWord_1 20 rfl rfl)
theorem dX7_nextWord_45 : decode cX7_nextWord 45 = .ok (.aload_n 0, 1) := dk_42 (dk_at dksX7_nextWord_1 21 rfl rfl)
theorem dX7_nextWord_46 : decode cX7_nextWord 46 = .ok (.getfield 105, 3) := dk_180 0 105 (dk_at dksX7_nextWord_2 0 rfl rfl)
theorem dX7_nextWord_49 : decode cX7_nextWord 49 = .ok (.invokevirtual 108, 3) := dk_182 0 108 (dk_at dksX7_nextWord_2 3 rfl rfl)
theorem dX7_nextWord_52 : decode cX7_nextWord 52 = .ok (.i2l, 1) := dk_133 (dk_at dksX7_nextWord_2 6 rfl rfl)
theorem dX7_nextWord_53 : decode cX7_nextWord 53 = .ok (.lor, 1) := dk_129 (dk_at dksX7_nextWord_2 7 rfl rfl)
theorem dX7_nextWord_54 : decode cX7_nextWord 54 = .ok (.putfield 128, 3) := dk_181 0 128 (dk_at dksX7_nextWord_2 8 rfl rfl)
theorem dX7_nextWord_57 : decode cX7_nextWord 57 = .ok (.aload_n 0, 1) := dk_42 (dk_at dksX7_nextWord_2 11 rfl rfl)
theorem dX7_nextWord_58 : decode cX7_nextWord 58 = .ok (.dup, 1) := dk_89 (dk_at dksX7_nextWord_2 12 rfl rfl)
theorem dX7_nextWord_59 : decode cX7_nextWord 59 = .ok (.getfield 105, 3) := dk_180 0 105 (dk_at dksX7_nextWord_2 13 rfl rfl)
theorem dX7_nextWord_62 : decode cX7_nextWord 62 = .ok (.iconst 1, 1) := dk_4 (dk_at dksX7_nextWord_2 16 rfl rfl)
theorem dX7_nextWord_63 : decode cX7_nextWord 63 = .ok (.iadd, 1) := dk_96 (dk_at dksX7_nextWord_2 17 rfl rfl)
theorem dX7_nextWord_64 : decode cX7_nextWord 64 = .ok (.putfield 105, 3) := dk_181 0 105 (dk_at dksX7_nextWord_2 18 rfl rfl)
theorem dX7_nextWord_67 : decode cX7_nextWord 67 = .ok (.goto (-62), 3) := dk_167 255 194 (dk_at dksX7_nextWord_2 21 rfl rfl)
theorem dX7_nextWord_70 : decode cX7_nextWord 70 = .ok (.aload_n 0, 1) := dk_42 (dk_at dksX7_nextWord_3 0 rfl rfl)
theorem dX7_nextWord_71 : decode cX7_nextWord 71 = .ok (.aload_n 0, 1) := dk_42 (dk_at dksX7_nextWord_3 1 rfl rfl)
theorem dX7_nextWord_72 : decode cX7_nextWord 72 = .ok (.getfield 105, 3) := dk_180 0 105 (dk_at dksX7_nextWord_3 2 rfl rfl)
theorem dX7_nextWord_75 : decode cX7_nextWord 75 = .ok (.aload_n 0, 1) := dk_42 (dk_at dksX7_nextWord_3 5 rfl rfl)
theorem dX7_nextWord_76 : decode cX7_nextWord 76 = .ok (.getfield 112, 3) := dk_180 0 112 (dk_at dksX7_nextWord_3 6 rfl rfl)
theorem dX7_nextWord_79 : decode cX7_nextWord 79 = .ok (.isub, 1) := dk_100 (dk_at dksX7_nextWord_3 9 rfl rfl)
theorem dX7_nextWord_80 : decode cX7_nextWord 80 = .ok (.iconst 5, 1) := dk_8 (dk_at dksX7_nextWord_3 10 rfl rfl)
theorem dX7_nextWord_81 : decode cX7_nextWord 81 = .ok (.if_icmp .le 7, 3) := dk_164 0 7 (dk_at dksX7_nextWord_3 11 rfl rfl)
theorem dX7_nextWord_84 : decode cX7_nextWord 84 = .ok (.iconst 0, 1) := dk_3 (dk_at dksX7_nextWord_3 14 rfl rfl)
theorem dX7_nextWord_85 : decode cX7_nextWord 85 = .ok (.goto 4, 3) := dk_167 0 4 (dk_at dksX7_nextWord_3 15 rfl rfl)
theorem dX7_nextWord_88 : decode cX7_nextWord 88 = .ok (.iconst 2, 1) := dk_5 (dk_at dksX7_nextWord_3 18 rfl rfl)
theorem dX7_nextWord_89 : decode cX7_nextWord 89 = .ok (.putfield 115, 3) := dk_181 0 115 (dk_at dksX7_nextWord_3 19 rfl rfl)
theorem dX7_nextWord_92 : decode cX7_nextWord 92 = .ok (.return_, 1) := dk_177 (dk_at dksX7_nextWord_3 22 rfl rfl)
abbrev cX7_nextWhole : ByteArray := prog_10_method_12_code
def yX7_nextWhole : MethodName := ⟨RX7, "nextWhole", "()V"⟩
def dkwX7_nextWhole_4 : List UInt8 := [181, 0, 115, 177]
abbrev dktX7_nextWhole_4 : List UInt8 := dkwX7_nextWhole_4 ++ []
def dkwX7_nextWhole_3 : List UInt8 := [167, 255, 192, 42, 42, 180, 0, 105, 42, 180, 0, 112, 100, 7, 164, 0, 7, 3, 167, 0, 4, 6]
abbrev dktX7_nextWhole_3 : List UInt8 := dkwX7_nextWhole_3 ++ dktX7_nextWhole_4
def dkwX7_nextWhole_2 : List UInt8 := [180, 0, 105, 182, 0, 108, 96, 16, 48, 100, 181, 0, 132, 42, 89, 180, 0, 105, 4, 96, 181, 0, 105]
abbrev dktX7_nextWhole_2 : List UInt8 := dkwX7_nextWhole_2 ++ dktX7_nextWhole_3
def dkwX7_nextWhole_1 : List UInt8 := [180, 0, 105, 42, 180, 0, 112, 100, 7, 162, 0, 26, 42, 16, 10, 42, 180, 0, 132, 104, 42, 42]
abbrev dktX7_nextWhole_1 : List UInt8 := dkwX7_nextWhole_1 ++ dktX7_nextWhole_2
def dkwX7_nextWhole_0 : List UInt8 := [42, 3, 181, 0, 132, 42, 42, 180, 0, 105, 182, 0, 108, 16, 48, 16, 57, 184, 0, 118, 153, 0, 52, 42]
abbrev dktX7_nextWhole_0 : List UInt8 := dkwX7_nextWhole_0 ++ dktX7_nextWhole_1
theorem dksX7_nextWhole_0 : cX7_nextWhole.data.toList.drop 0 = dktX7_nextWhole_0 := by decide +kernel
theorem dksX7_nextWhole_1 : cX7_nextWhole.data.toList.drop 24 = dktX7_nextWhole_1 := dk_seg dksX7_nextWhole_0 24 rfl rfl
theorem dksX7_nextWhole_2 : cX7_nextWhole.data.toList.drop 46 = dktX7_nextWhole_2 := dk_seg dksX7_nextWhole_1 22 rfl rfl
theorem dksX7_nextWhole_3 : cX7_nextWhole.data.toList.drop 69 = dktX7_nextWhole_3 := dk_seg dksX7_nextWhole_2 23 rfl rfl
theorem dksX7_nextWhole_4 : cX7_nextWhole.data.toList.drop 91 = dktX7_nextWhole_4 := dk_seg dksX7_nextWhole_3 22 rfl rfl
theorem dX7_nextWhole_0 : decode cX7_nextWhole 0 = .ok (.aload_n 0, 1) := dk_42 (dk_at dksX7_nextWhole_0 0 rfl rfl)
theorem dX7_nextWhole_1 : decode cX7_nextWhole 1 = .ok (.iconst 0, 1) := dk_3 (dk_at dksX7_nextWhole_0 1 rfl rfl)
theorem dX7_nextWhole_2 : decode cX7_nextWhole 2 = .ok (.putfield 132, 3) := dk_181 0 132 (dk_at dksX7_nextWhole_0 2 rfl rfl)
theorem dX7_nextWhole_5 : decode cX7_nextWhole 5 = .ok (.aload_n 0, 1) := dk_42 (dk_at dksX7_nextWhole_0 5 rfl rfl)
theorem dX7_nextWhole_6 : decode cX7_nextWhole 6 = .ok (.aload_n 0, 1) := dk_42 (dk_at dksX7_nextWhole_0 6 rfl rfl)
theorem dX7_nextWhole_7 : decode cX7_nextWhole 7 = .ok (.getfield 105, 3) := dk_180 0 105 (dk_at dksX7_nextWhole_0 7 rfl rfl)
theorem dX7_nextWhole_10 : decode cX7_nextWhole 10 = .ok (.invokevirtual 108, 3) := dk_182 0 108 (dk_at dksX7_nextWhole_0 10 rfl rfl)
theorem dX7_nextWhole_13 : decode cX7_nextWhole 13 = .ok (.bipush 48, 2) := dk_16 48 (dk_at dksX7_nextWhole_0 13 rfl rfl)
theorem dX7_nextWhole_15 : decode cX7_nextWhole 15 = .ok (.bipush 57, 2) := dk_16 57 (dk_at dksX7_nextWhole_0 15 rfl rfl)
theorem dX7_nextWhole_17 : decode cX7_nextWhole 17 = .ok (.invokestatic 118, 3) := dk_184 0 118 (dk_at dksX7_nextWhole_0 17 rfl rfl)
theorem dX7_nextWhole_20 : decode cX7_nextWhole 20 = .ok (.ifCond .eq 52, 3) := dk_153 0 52 (dk_at dksX7_nextWhole_0 20 rfl rfl)
theorem dX7_nextWhole_23 : decode cX7_nextWhole 23 = .ok (.aload_n 0, 1) := dk_42 (dk_at dksX7_nextWhole_0 23 rfl rfl)
theorem dX7_nextWhole_24 : decode cX7_nextWhole 24 = .ok (.getfield 105, 3) := dk_180 0 105 (dk_at dksX7_nextWhole_1 0 rfl rfl)
theorem dX7_nextWhole_27 : decode cX7_nextWhole 27 = .ok (.aload_n 0, 1) := dk_42 (dk_at dksX7_nextWhole_1 3 rfl rfl)
theorem dX7_nextWhole_28 : decode cX7_nextWhole 28 = .ok (.getfield 112, 3) := dk_180 0 112 (dk_at dksX7_nextWhole_1 4 rfl rfl)
theorem dX7_nextWhole_31 : decode cX7_nextWhole 31 = .ok (.isub, 1) := dk_100 (dk_at dksX7_nextWhole_1 7 rfl rfl)
theorem dX7_nextWhole_32 : decode cX7_nextWhole 32 = .ok (.iconst 4, 1) := dk_7 (dk_at dksX7_nextWhole_1 8 rfl rfl)
theorem dX7_nextWhole_33 : decode cX7_nextWhole 33 = .ok (.if_icmp .ge 26, 3) := dk_162 0 26 (dk_at dksX7_nextWhole_1 9 rfl rfl)
theorem dX7_nextWhole_36 : decode cX7_nextWhole 36 = .ok (.aload_n 0, 1) := dk_42 (dk_at dksX7_nextWhole_1 12 rfl rfl)
theorem dX7_nextWhole_37 : decode cX7_nextWhole 37 = .ok (.bipush 10, 2) := dk_16 10 (dk_at dksX7_nextWhole_1 13 rfl rfl)
theorem dX7_nextWhole_39 : decode cX7_nextWhole 39 = .ok (.aload_n 0, 1) := dk_42 (dk_at dksX7_nextWhole_1 15 rfl rfl)
theorem dX7_nextWhole_40 : decode cX7_nextWhole 40 = .ok (.getfield 132, 3) := dk_180 0 132 (dk_at dksX7_nextWhole_1 16 rfl rfl)
theorem dX7_nextWhole_43 : decode cX7_nextWhole 43 = .ok (.imul, 1) := dk_104 (dk_at dksX7_nextWhole_1 19 rfl rfl)
theorem dX7_nextWhole_44 : decode cX7_nextWhole 44 = .ok (.aload_n 0, 1) := dk_42 (dk_at dksX7_nextWhole_1 20 rfl rfl)
theorem dX7_nextWhole_45 : decode cX7_nextWhole 45 = .ok (.aload_n 0, 1) := dk_42 (dk_at dksX7_nextWhole_1 21 rfl rfl)
theorem dX7_nextWhole_46 : decode cX7_nextWhole 46 = .ok (.getfield 105, 3) := dk_180 0 105 (dk_at dksX7_nextWhole_2 0 rfl rfl)
theorem dX7_nextWhole_49 : decode cX7_nextWhole 49 = .ok (.invokevirtual 108, 3) := dk_182 0 108 (dk_at dksX7_nextWhole_2 3 rfl rfl)
theorem dX7_nextWhole_52 : decode cX7_nextWhole 52 = .ok (.iadd, 1) := dk_96 (dk_at dksX7_nextWhole_2 6 rfl rfl)
theorem dX7_nextWhole_53 : decode cX7_nextWhole 53 = .ok (.bipush 48, 2) := dk_16 48 (dk_at dksX7_nextWhole_2 7 rfl rfl)
theorem dX7_nextWhole_55 : decode cX7_nextWhole 55 = .ok (.isub, 1) := dk_100 (dk_at dksX7_nextWhole_2 9 rfl rfl)
theorem dX7_nextWhole_56 : decode cX7_nextWhole 56 = .ok (.putfield 132, 3) := dk_181 0 132 (dk_at dksX7_nextWhole_2 10 rfl rfl)
theorem dX7_nextWhole_59 : decode cX7_nextWhole 59 = .ok (.aload_n 0, 1) := dk_42 (dk_at dksX7_nextWhole_2 13 rfl rfl)
theorem dX7_nextWhole_60 : decode cX7_nextWhole 60 = .ok (.dup, 1) := dk_89 (dk_at dksX7_nextWhole_2 14 rfl rfl)
theorem dX7_nextWhole_61 : decode cX7_nextWhole 61 = .ok (.getfield 105, 3) := dk_180 0 105 (dk_at dksX7_nextWhole_2 15 rfl rfl)
theorem dX7_nextWhole_64 : decode cX7_nextWhole 64 = .ok (.iconst 1, 1) := dk_4 (dk_at dksX7_nextWhole_2 18 rfl rfl)
theorem dX7_nextWhole_65 : decode cX7_nextWhole 65 = .ok (.iadd, 1) := dk_96 (dk_at dksX7_nextWhole_2 19 rfl rfl)
theorem dX7_nextWhole_66 : decode cX7_nextWhole 66 = .ok (.putfield 105, 3) := dk_181 0 105 (dk_at dksX7_nextWhole_2 20 rfl rfl)
theorem dX7_nextWhole_69 : decode cX7_nextWhole 69 = .ok (.goto (-64), 3) := dk_167 255 192 (dk_at dksX7_nextWhole_3 0 rfl rfl)
theorem dX7_nextWhole_72 : decode cX7_nextWhole 72 = .ok (.aload_n 0, 1) := dk_42 (dk_at dksX7_nextWhole_3 3 rfl rfl)
theorem dX7_nextWhole_73 : decode cX7_nextWhole 73 = .ok (.aload_n 0, 1) := dk_42 (dk_at dksX7_nextWhole_3 4 rfl rfl)
theorem dX7_nextWhole_74 : decode cX7_nextWhole 74 = .ok (.getfield 105, 3) := dk_180 0 105 (dk_at dksX7_nextWhole_3 5 rfl rfl)
theorem dX7_nextWhole_77 : decode cX7_nextWhole 77 = .ok (.aload_n 0, 1) := dk_42 (dk_at dksX7_nextWhole_3 8 rfl rfl)
theorem dX7_nextWhole_78 : decode cX7_nextWhole 78 = .ok (.getfield 112, 3) := dk_180 0 112 (dk_at dksX7_nextWhole_3 9 rfl rfl)
theorem dX7_nextWhole_81 : decode cX7_nextWhole 81 = .ok (.isub, 1) := dk_100 (dk_at dksX7_nextWhole_3 12 rfl rfl)
theorem dX7_nextWhole_82 : decode cX7_nextWhole 82 = .ok (.iconst 4, 1) := dk_7 (dk_at dksX7_nextWhole_3 13 rfl rfl)
theorem dX7_nextWhole_83 : decode cX7_nextWhole 83 = .ok (.if_icmp .le 7, 3) := dk_164 0 7 (dk_at dksX7_nextWhole_3 14 rfl rfl)
theorem dX7_nextWhole_86 : decode cX7_nextWhole 86 = .ok (.iconst 0, 1) := dk_3 (dk_at dksX7_nextWhole_3 17 rfl rfl)
theorem dX7_nextWhole_87 : decode cX7_nextWhole 87 = .ok (.goto 4, 3) := dk_167 0 4 (dk_at dksX7_nextWhole_3 18 rfl rfl)
theorem dX7_nextWhole_90 : decode cX7_nextWhole 90 = .ok (.iconst 3, 1) := dk_6 (dk_at dksX7_nextWhole_3 21 rfl rfl)
theorem dX7_nextWhole_91 : decode cX7_nextWhole 91 = .ok (.putfield 115, 3) := dk_181 0 115 (dk_at dksX7_nextWhole_4 0 rfl rfl)
theorem dX7_nextWhole_94 : decode cX7_nextWhole 94 = .ok (.return_, 1) := dk_177 (dk_at dksX7_nextWhole_4 3 rfl rfl)
abbrev cX7_readLine : ByteArray := prog_10_method_18_code
def yX7_readLine : MethodName := ⟨RX7, "readLine", "()V"⟩
def dkwX7_readLine_1 : List UInt8 := [153, 0, 10, 42, 182, 0, 178, 167, 0, 8, 42, 4, 182, 0, 149, 177]
abbrev dktX7_readLine_1 : List UInt8 := dkwX7_readLine_1 ++ []
def dkwX7_readLine_0 : List UInt8 := [42, 18, 171, 182, 0, 145, 153, 0, 10, 42, 182, 0, 173, 167, 0, 24, 42, 18, 176, 182, 0, 145]
abbrev dktX7_readLine_0 : List UInt8 := dkwX7_readLine_0 ++ dktX7_readLine_1
theorem dksX7_readLine_0 : cX7_readLine.data.toList.drop 0 = dktX7_readLine_0 := by decide +kernel
theorem dksX7_readLine_1 : cX7_readLine.data.toList.drop 22 = dktX7_readLine_1 := dk_seg dksX7_readLine_0 22 rfl rfl
theorem dX7_readLine_0 : decode cX7_readLine 0 = .ok (.aload_n 0, 1) := dk_42 (dk_at dksX7_readLine_0 0 rfl rfl)
theorem dX7_readLine_1 : decode cX7_readLine 1 = .ok (.ldc 171, 2) := dk_18 171 (dk_at dksX7_readLine_0 1 rfl rfl)
theorem dX7_readLine_3 : decode cX7_readLine 3 = .ok (.invokevirtual 145, 3) := dk_182 0 145 (dk_at dksX7_readLine_0 3 rfl rfl)
theorem dX7_readLine_6 : decode cX7_readLine 6 = .ok (.ifCond .eq 10, 3) := dk_153 0 10 (dk_at dksX7_readLine_0 6 rfl rfl)
theorem dX7_readLine_9 : decode cX7_readLine 9 = .ok (.aload_n 0, 1) := dk_42 (dk_at dksX7_readLine_0 9 rfl rfl)
theorem dX7_readLine_10 : decode cX7_readLine 10 = .ok (.invokevirtual 173, 3) := dk_182 0 173 (dk_at dksX7_readLine_0 10 rfl rfl)
theorem dX7_readLine_13 : decode cX7_readLine 13 = .ok (.goto 24, 3) := dk_167 0 24 (dk_at dksX7_readLine_0 13 rfl rfl)
theorem dX7_readLine_16 : decode cX7_readLine 16 = .ok (.aload_n 0, 1) := dk_42 (dk_at dksX7_readLine_0 16 rfl rfl)
theorem dX7_readLine_17 : decode cX7_readLine 17 = .ok (.ldc 176, 2) := dk_18 176 (dk_at dksX7_readLine_0 17 rfl rfl)
theorem dX7_readLine_19 : decode cX7_readLine 19 = .ok (.invokevirtual 145, 3) := dk_182 0 145 (dk_at dksX7_readLine_0 19 rfl rfl)
theorem dX7_readLine_22 : decode cX7_readLine 22 = .ok (.ifCond .eq 10, 3) := dk_153 0 10 (dk_at dksX7_readLine_1 0 rfl rfl)
theorem dX7_readLine_25 : decode cX7_readLine 25 = .ok (.aload_n 0, 1) := dk_42 (dk_at dksX7_readLine_1 3 rfl rfl)
theorem dX7_readLine_26 : decode cX7_readLine 26 = .ok (.invokevirtual 178, 3) := dk_182 0 178 (dk_at dksX7_readLine_1 4 rfl rfl)
theorem dX7_readLine_29 : decode cX7_readLine 29 = .ok (.goto 8, 3) := dk_167 0 8 (dk_at dksX7_readLine_1 7 rfl rfl)
theorem dX7_readLine_32 : decode cX7_readLine 32 = .ok (.aload_n 0, 1) := dk_42 (dk_at dksX7_readLine_1 10 rfl rfl)
theorem dX7_readLine_33 : decode cX7_readLine 33 = .ok (.iconst 1, 1) := dk_4 (dk_at dksX7_readLine_1 11 rfl rfl)
theorem dX7_readLine_34 : decode cX7_readLine 34 = .ok (.invokevirtual 149, 3) := dk_182 0 149 (dk_at dksX7_readLine_1 12 rfl rfl)
theorem dX7_readLine_37 : decode cX7_readLine 37 = .ok (.return_, 1) := dk_177 (dk_at dksX7_readLine_1 15 rfl rfl)
abbrev cX7_isWord : ByteArray := prog_10_method_14_code
def yX7_isWord : MethodName := ⟨RX7, "isWord", "(Ljava/lang/String;)Z"⟩
def dkwX7_isWord_2 : List UInt8 := [154, 0, 7, 4, 167, 0, 4, 3, 172]
abbrev dktX7_isWord_2 : List UInt8 := dkwX7_isWord_2 ++ []
def dkwX7_isWord_1 : List UInt8 := [133, 129, 65, 132, 4, 1, 167, 255, 231, 42, 180, 0, 115, 5, 160, 0, 16, 42, 180, 0, 128, 32, 148]
abbrev dktX7_isWord_1 : List UInt8 := dkwX7_isWord_1 ++ dktX7_isWord_2
def dkwX7_isWord_0 : List UInt8 := [9, 65, 3, 54, 4, 21, 4, 43, 182, 0, 135, 162, 0, 22, 32, 16, 8, 121, 43, 21, 4, 182, 0, 141]
abbrev dktX7_isWord_0 : List UInt8 := dkwX7_isWord_0 ++ dktX7_isWord_1
theorem dksX7_isWord_0 : cX7_isWord.data.toList.drop 0 = dktX7_isWord_0 := by decide +kernel
theorem dksX7_isWord_1 : cX7_isWord.data.toList.drop 24 = dktX7_isWord_1 := dk_seg dksX7_isWord_0 24 rfl rfl
theorem dksX7_isWord_2 : cX7_isWord.data.toList.drop 47 = dktX7_isWord_2 := dk_seg dksX7_isWord_1 23 rfl rfl
theorem dX7_isWord_0 : decode cX7_isWord 0 = .ok (.lconst 0, 1) := dk_9 (dk_at dksX7_isWord_0 0 rfl rfl)
theorem dX7_isWord_1 : decode cX7_isWord 1 = .ok (.lstore_n 2, 1) := dk_65 (dk_at dksX7_isWord_0 1 rfl rfl)
theorem dX7_isWord_2 : decode cX7_isWord 2 = .ok (.iconst 0, 1) := dk_3 (dk_at dksX7_isWord_0 2 rfl rfl)
theorem dX7_isWord_3 : decode cX7_isWord 3 = .ok (.istore 4, 2) := dk_54 4 (dk_at dksX7_isWord_0 3 rfl rfl)
theorem dX7_isWord_5 : decode cX7_isWord 5 = .ok (.iload 4, 2) := dk_21 4 (dk_at dksX7_isWord_0 5 rfl rfl)
theorem dX7_isWord_7 : decode cX7_isWord 7 = .ok (.aload_n 1, 1) := dk_43 (dk_at dksX7_isWord_0 7 rfl rfl)
theorem dX7_isWord_8 : decode cX7_isWord 8 = .ok (.invokevirtual 135, 3) := dk_182 0 135 (dk_at dksX7_isWord_0 8 rfl rfl)
theorem dX7_isWord_11 : decode cX7_isWord 11 = .ok (.if_icmp .ge 22, 3) := dk_162 0 22 (dk_at dksX7_isWord_0 11 rfl rfl)
theorem dX7_isWord_14 : decode cX7_isWord 14 = .ok (.lload_n 2, 1) := dk_32 (dk_at dksX7_isWord_0 14 rfl rfl)
theorem dX7_isWord_15 : decode cX7_isWord 15 = .ok (.bipush 8, 2) := dk_16 8 (dk_at dksX7_isWord_0 15 rfl rfl)
theorem dX7_isWord_17 : decode cX7_isWord 17 = .ok (.lshl, 1) := dk_121 (dk_at dksX7_isWord_0 17 rfl rfl)
theorem dX7_isWord_18 : decode cX7_isWord 18 = .ok (.aload_n 1, 1) := dk_43 (dk_at dksX7_isWord_0 18 rfl rfl)
theorem dX7_isWord_19 : decode cX7_isWord 19 = .ok (.iload 4, 2) := dk_21 4 (dk_at dksX7_isWord_0 19 rfl rfl)
theorem dX7_isWord_21 : decode cX7_isWord 21 = .ok (.invokevirtual 141, 3) := dk_182 0 141 (dk_at dksX7_isWord_0 21 rfl rfl)
theorem dX7_isWord_24 : decode cX7_isWord 24 = .ok (.i2l, 1) := dk_133 (dk_at dksX7_isWord_1 0 rfl rfl)
theorem dX7_isWord_25 : decode cX7_isWord 25 = .ok (.lor, 1) := dk_129 (dk_at dksX7_isWord_1 1 rfl rfl)
theorem dX7_isWord_26 : decode cX7_isWord 26 = .ok (.lstore_n 2, 1) := dk_65 (dk_at dksX7_isWord_1 2 rfl rfl)
theorem dX7_isWord_27 : decode cX7_isWord 27 = .ok (.iinc 4 1, 3) := dk_132 4 1 (dk_at dksX7_isWord_1 3 rfl rfl)
theorem dX7_isWord_30 : decode cX7_isWord 30 = .ok (.goto (-25), 3) := dk_167 255 231 (dk_at dksX7_isWord_1 6 rfl rfl)
theorem dX7_isWord_33 : decode cX7_isWord 33 = .ok (.aload_n 0, 1) := dk_42 (dk_at dksX7_isWord_1 9 rfl rfl)
theorem dX7_isWord_34 : decode cX7_isWord 34 = .ok (.getfield 115, 3) := dk_180 0 115 (dk_at dksX7_isWord_1 10 rfl rfl)
theorem dX7_isWord_37 : decode cX7_isWord 37 = .ok (.iconst 2, 1) := dk_5 (dk_at dksX7_isWord_1 13 rfl rfl)
theorem dX7_isWord_38 : decode cX7_isWord 38 = .ok (.if_icmp .ne 16, 3) := dk_160 0 16 (dk_at dksX7_isWord_1 14 rfl rfl)
theorem dX7_isWord_41 : decode cX7_isWord 41 = .ok (.aload_n 0, 1) := dk_42 (dk_at dksX7_isWord_1 17 rfl rfl)
theorem dX7_isWord_42 : decode cX7_isWord 42 = .ok (.getfield 128, 3) := dk_180 0 128 (dk_at dksX7_isWord_1 18 rfl rfl)
theorem dX7_isWord_45 : decode cX7_isWord 45 = .ok (.lload_n 2, 1) := dk_32 (dk_at dksX7_isWord_1 21 rfl rfl)
theorem dX7_isWord_46 : decode cX7_isWord 46 = .ok (.lcmp, 1) := dk_148 (dk_at dksX7_isWord_1 22 rfl rfl)
theorem dX7_isWord_47 : decode cX7_isWord 47 = .ok (.ifCond .ne 7, 3) := dk_154 0 7 (dk_at dksX7_isWord_2 0 rfl rfl)
theorem dX7_isWord_50 : decode cX7_isWord 50 = .ok (.iconst 1, 1) := dk_4 (dk_at dksX7_isWord_2 3 rfl rfl)
theorem dX7_isWord_51 : decode cX7_isWord 51 = .ok (.goto 4, 3) := dk_167 0 4 (dk_at dksX7_isWord_2 4 rfl rfl)
theorem dX7_isWord_54 : decode cX7_isWord 54 = .ok (.iconst 0, 1) := dk_3 (dk_at dksX7_isWord_2 7 rfl rfl)
theorem dX7_isWord_55 : decode cX7_isWord 55 = .ok (.ireturn, 1) := dk_172 (dk_at dksX7_isWord_2 8 rfl rfl)
abbrev cX7_readRing : ByteArray := prog_10_method_20_code
def yX7_readRing : MethodName := ⟨RX7, "readRing", "()V"⟩
def dkwX7_readRing_7 : List UInt8 := [87, 42, 180, 0, 102, 154, 0, 8, 42, 27, 181, 0, 162, 177]
abbrev dktX7_readRing_7 : List UInt8 := dkwX7_readRing_7 ++ []
def dkwX7_readRing_6 : List UInt8 := [42, 42, 180, 0, 205, 2, 182, 0, 202, 181, 0, 208, 42, 42, 180, 0, 205, 42, 180, 0, 208, 182, 0, 202]
abbrev dktX7_readRing_6 : List UInt8 := dkwX7_readRing_6 ++ dktX7_readRing_7
def dkwX7_readRing_5 : List UInt8 := [2, 160, 0, 8, 42, 4, 182, 0, 149, 42, 182, 0, 153, 42, 42, 2, 2, 182, 0, 202, 181, 0, 205, 42]
abbrev dktX7_readRing_5 : List UInt8 := dkwX7_readRing_5 ++ dktX7_readRing_6
def dkwX7_readRing_4 : List UInt8 := [167, 0, 17, 42, 18, 197, 182, 0, 145, 153, 0, 7, 5, 167, 0, 4, 2, 181, 0, 199, 42, 180, 0, 199]
abbrev dktX7_readRing_4 : List UInt8 := dkwX7_readRing_4 ++ dktX7_readRing_5
def dkwX7_readRing_3 : List UInt8 := [42, 18, 193, 182, 0, 145, 153, 0, 7, 3, 167, 0, 30, 42, 18, 195, 182, 0, 145, 153, 0, 7, 4]
abbrev dktX7_readRing_3 : List UInt8 := dkwX7_readRing_3 ++ dktX7_readRing_4
def dkwX7_readRing_2 : List UInt8 := [154, 0, 8, 42, 5, 182, 0, 149, 42, 180, 0, 132, 60, 42, 182, 0, 153, 42, 18, 191, 182, 0, 183, 42]
abbrev dktX7_readRing_2 : List UInt8 := dkwX7_readRing_2 ++ dktX7_readRing_3
def dkwX7_readRing_1 : List UInt8 := [180, 0, 115, 6, 159, 0, 11, 42, 4, 182, 0, 149, 167, 0, 18, 42, 180, 0, 132, 184, 0, 187]
abbrev dktX7_readRing_1 : List UInt8 := dkwX7_readRing_1 ++ dktX7_readRing_2
def dkwX7_readRing_0 : List UInt8 := [42, 180, 0, 162, 158, 0, 8, 42, 6, 182, 0, 149, 42, 182, 0, 153, 42, 18, 181, 182, 0, 183, 42]
abbrev dktX7_readRing_0 : List UInt8 := dkwX7_readRing_0 ++ dktX7_readRing_1
theorem dksX7_readRing_0 : cX7_readRing.data.toList.drop 0 = dktX7_readRing_0 := by decide +kernel
theorem dksX7_readRing_1 : cX7_readRing.data.toList.drop 23 = dktX7_readRing_1 := dk_seg dksX7_readRing_0 23 rfl rfl
theorem dksX7_readRing_2 : cX7_readRing.data.toList.drop 45 = dktX7_readRing_2 := dk_seg dksX7_readRing_1 22 rfl rfl
theorem dksX7_readRing_3 : cX7_readRing.data.toList.drop 69 = dktX7_readRing_3 := dk_seg dksX7_readRing_2 24 rfl rfl
theorem dksX7_readRing_4 : cX7_readRing.data.toList.drop 92 = dktX7_readRing_4 := dk_seg dksX7_readRing_3 23 rfl rfl
theorem dksX7_readRing_5 : cX7_readRing.data.toList.drop 116 = dktX7_readRing_5 := dk_seg dksX7_readRing_4 24 rfl rfl
theorem dksX7_readRing_6 : cX7_readRing.data.toList.drop 140 = dktX7_readRing_6 := dk_seg dksX7_readRing_5 24 rfl rfl
theorem dksX7_readRing_7 : cX7_readRing.data.toList.drop 164 = dktX7_readRing_7 := dk_seg dksX7_readRing_6 24 rfl rfl
theorem dX7_readRing_0 : decode cX7_readRing 0 = .ok (.aload_n 0, 1) := dk_42 (dk_at dksX7_readRing_0 0 rfl rfl)
theorem dX7_readRing_1 : decode cX7_readRing 1 = .ok (.getfield 162, 3) := dk_180 0 162 (dk_at dksX7_readRing_0 1 rfl rfl)
theorem dX7_readRing_4 : decode cX7_readRing 4 = .ok (.ifCond .le 8, 3) := dk_158 0 8 (dk_at dksX7_readRing_0 4 rfl rfl)
theorem dX7_readRing_7 : decode cX7_readRing 7 = .ok (.aload_n 0, 1) := dk_42 (dk_at dksX7_readRing_0 7 rfl rfl)
theorem dX7_readRing_8 : decode cX7_readRing 8 = .ok (.iconst 3, 1) := dk_6 (dk_at dksX7_readRing_0 8 rfl rfl)
theorem dX7_readRing_9 : decode cX7_readRing 9 = .ok (.invokevirtual 149, 3) := dk_182 0 149 (dk_at dksX7_readRing_0 9 rfl rfl)
theorem dX7_readRing_12 : decode cX7_readRing 12 = .ok (.aload_n 0, 1) := dk_42 (dk_at dksX7_readRing_0 12 rfl rfl)
theorem dX7_readRing_13 : decode cX7_readRing 13 = .ok (.invokevirtual 153, 3) := dk_182 0 153 (dk_at dksX7_readRing_0 13 rfl rfl)
theorem dX7_readRing_16 : decode cX7_readRing 16 = .ok (.aload_n 0, 1) := dk_42 (dk_at dksX7_readRing_0 16 rfl rfl)
theorem dX7_readRing_17 : decode cX7_readRing 17 = .ok (.ldc 181, 2) := dk_18 181 (dk_at dksX7_readRing_0 17 rfl rfl)
theorem dX7_readRing_19 : decode cX7_readRing 19 = .ok (.invokevirtual 183, 3) := dk_182 0 183 (dk_at dksX7_readRing_0 19 rfl rfl)
theorem dX7_readRing_22 : decode cX7_readRing 22 = .ok (.aload_n 0, 1) := dk_42 (dk_at dksX7_readRing_0 22 rfl rfl)
theorem dX7_readRing_23 : decode cX7_readRing 23 = .ok (.getfield 115, 3) := dk_180 0 115 (dk_at dksX7_readRing_1 0 rfl rfl)
theorem dX7_readRing_26 : decode cX7_readRing 26 = .ok (.iconst 3, 1) := dk_6 (dk_at dksX7_readRing_1 3 rfl rfl)
theorem dX7_readRing_27 : decode cX7_readRing 27 = .ok (.if_icmp .eq 11, 3) := dk_159 0 11 (dk_at dksX7_readRing_1 4 rfl rfl)
theorem dX7_readRing_30 : decode cX7_readRing 30 = .ok (.aload_n 0, 1) := dk_42 (dk_at dksX7_readRing_1 7 rfl rfl)
theorem dX7_readRing_31 : decode cX7_readRing 31 = .ok (.iconst 1, 1) := dk_4 (dk_at dksX7_readRing_1 8 rfl rfl)
theorem dX7_readRing_32 : decode cX7_readRing 32 = .ok (.invokevirtual 149, 3) := dk_182 0 149 (dk_at dksX7_readRing_1 9 rfl rfl)
theorem dX7_readRing_35 : decode cX7_readRing 35 = .ok (.goto 18, 3) := dk_167 0 18 (dk_at dksX7_readRing_1 12 rfl rfl)
theorem dX7_readRing_38 : decode cX7_readRing 38 = .ok (.aload_n 0, 1) := dk_42 (dk_at dksX7_readRing_1 15 rfl rfl)
theorem dX7_readRing_39 : decode cX7_readRing 39 = .ok (.getfield 132, 3) := dk_180 0 132 (dk_at dksX7_readRing_1 16 rfl rfl)
theorem dX7_readRing_42 : decode cX7_readRing 42 = .ok (.invokestatic 187, 3) := dk_184 0 187 (dk_at dksX7_readRing_1 19 rfl rfl)
theorem dX7_readRing_45 : decode cX7_readRing 45 = .ok (.ifCond .ne 8, 3) := dk_154 0 8 (dk_at dksX7_readRing_2 0 rfl rfl)
theorem dX7_readRing_48 : decode cX7_readRing 48 = .ok (.aload_n 0, 1) := dk_42 (dk_at dksX7_readRing_2 3 rfl rfl)
theorem dX7_readRing_49 : decode cX7_readRing 49 = .ok (.iconst 2, 1) := dk_5 (dk_at dksX7_readRing_2 4 rfl rfl)
theorem dX7_readRing_50 : decode cX7_readRing 50 = .ok (.invokevirtual 149, 3) := dk_182 0 149 (dk_at dksX7_readRing_2 5 rfl rfl)
theorem dX7_readRing_53 : decode cX7_readRing 53 = .ok (.aload_n 0, 1) := dk_42 (dk_at dksX7_readRing_2 8 rfl rfl)
theorem dX7_readRing_54 : decode cX7_readRing 54 = .ok (.getfield 132, 3) := dk_180 0 132 (dk_at dksX7_readRing_2 9 rfl rfl)
theorem dX7_readRing_57 : decode cX7_readRing 57 = .ok (.istore_n 1, 1) := dk_60 (dk_at dksX7_readRing_2 12 rfl rfl)
theorem dX7_readRing_58 : decode cX7_readRing 58 = .ok (.aload_n 0, 1) := dk_42 (dk_at dksX7_readRing_2 13 rfl rfl)
theorem dX7_readRing_59 : decode cX7_readRing 59 = .ok (.invokevirtual 153, 3) := dk_182 0 153 (dk_at dksX7_readRing_2 14 rfl rfl)
theorem dX7_readRing_62 : decode cX7_readRing 62 = .ok (.aload_n 0, 1) := dk_42 (dk_at dksX7_readRing_2 17 rfl rfl)
theorem dX7_readRing_63 : decode cX7_readRing 63 = .ok (.ldc 191, 2) := dk_18 191 (dk_at dksX7_readRing_2 18 rfl rfl)
theorem dX7_readRing_65 : decode cX7_readRing 65 = .ok (.invokevirtual 183, 3) := dk_182 0 183 (dk_at dksX7_readRing_2 20 rfl rfl)
theorem dX7_readRing_68 : decode cX7_readRing 68 = .ok (.aload_n 0, 1) := dk_42 (dk_at dksX7_readRing_2 23 rfl rfl)
theorem dX7_readRing_69 : decode cX7_readRing 69 = .ok (.aload_n 0, 1) := dk_42 (dk_at dksX7_readRing_3 0 rfl rfl)
theorem dX7_readRing_70 : decode cX7_readRing 70 = .ok (.ldc 193, 2) := dk_18 193 (dk_at dksX7_readRing_3 1 rfl rfl)
theorem dX7_readRing_72 : decode cX7_readRing 72 = .ok (.invokevirtual 145, 3) := dk_182 0 145 (dk_at dksX7_readRing_3 3 rfl rfl)
theorem dX7_readRing_75 : decode cX7_readRing 75 = .ok (.ifCond .eq 7, 3) := dk_153 0 7 (dk_at dksX7_readRing_3 6 rfl rfl)
theorem dX7_readRing_78 : decode cX7_readRing 78 = .ok (.iconst 0, 1) := dk_3 (dk_at dksX7_readRing_3 9 rfl rfl)
theorem dX7_readRing_79 : decode cX7_readRing 79 = .ok (.goto 30, 3) := dk_167 0 30 (dk_at dksX7_readRing_3 10 rfl rfl)
theorem dX7_readRing_82 : decode cX7_readRing 82 = .ok (.aload_n 0, 1) := dk_42 (dk_at dksX7_readRing_3 13 rfl rfl)
theorem dX7_readRing_83 : decode cX7_readRing 83 = .ok (.ldc 195, 2) := dk_18 195 (dk_at dksX7_readRing_3 14 rfl rfl)
theorem dX7_readRing_85 : decode cX7_readRing 85 = .ok (.invokevirtual 145, 3) := dk_182 0 145 (dk_at dksX7_readRing_3 16 rfl rfl)
theorem dX7_readRing_88 : decode cX7_readRing 88 = .ok (.ifCond .eq 7, 3) := dk_153 0 7 (dk_at dksX7_readRing_3 19 rfl rfl)
theorem dX7_readRing_91 : decode cX7_readRing 91 = .ok (.iconst 1, 1) := dk_4 (dk_at dksX7_readRing_3 22 rfl rfl)
theorem dX7_readRing_92 : decode cX7_readRing 92 = .ok (.goto 17, 3) := dk_167 0 17 (dk_at dksX7_readRing_4 0 rfl rfl)
theorem dX7_readRing_95 : decode cX7_readRing 95 = .ok (.aload_n 0, 1) := dk_42 (dk_at dksX7_readRing_4 3 rfl rfl)
theorem dX7_readRing_96 : decode cX7_readRing 96 = .ok (.ldc 197, 2) := dk_18 197 (dk_at dksX7_readRing_4 4 rfl rfl)
theorem dX7_readRing_98 : decode cX7_readRing 98 = .ok (.invokevirtual 145, 3) := dk_182 0 145 (dk_at dksX7_readRing_4 6 rfl rfl)
theorem dX7_readRing_101 : decode cX7_readRing 101 = .ok (.ifCond .eq 7, 3) := dk_153 0 7 (dk_at dksX7_readRing_4 9 rfl rfl)
theorem dX7_readRing_104 : decode cX7_readRing 104 = .ok (.iconst 2, 1) := dk_5 (dk_at dksX7_readRing_4 12 rfl rfl)
theorem dX7_readRing_105 : decode cX7_readRing 105 = .ok (.goto 4, 3) := dk_167 0 4 (dk_at dksX7_readRing_4 13 rfl rfl)
theorem dX7_readRing_108 : decode cX7_readRing 108 = .ok (.iconst (-1), 1) := dk_2 (dk_at dksX7_readRing_4 16 rfl rfl)
theorem dX7_readRing_109 : decode cX7_readRing 109 = .ok (.putfield 199, 3) := dk_181 0 199 (dk_at dksX7_readRing_4 17 rfl rfl)
theorem dX7_readRing_112 : decode cX7_readRing 112 = .ok (.aload_n 0, 1) := dk_42 (dk_at dksX7_readRing_4 20 rfl rfl)
theorem dX7_readRing_113 : decode cX7_readRing 113 = .ok (.getfield 199, 3) := dk_180 0 199 (dk_at dksX7_readRing_4 21 rfl rfl)
theorem dX7_readRing_116 : decode cX7_readRing 116 = .ok (.iconst (-1), 1) := dk_2 (dk_at dksX7_readRing_5 0 rfl rfl)
theorem dX7_readRing_117 : decode cX7_readRing 117 = .ok (.if_icmp .ne 8, 3) := dk_160 0 8 (dk_at dksX7_readRing_5 1 rfl rfl)
theorem dX7_readRing_120 : decode cX7_readRing 120 = .ok (.aload_n 0, 1) := dk_42 (dk_at dksX7_readRing_5 4 rfl rfl)
theorem dX7_readRing_121 : decode cX7_readRing 121 = .ok (.iconst 1, 1) := dk_4 (dk_at dksX7_readRing_5 5 rfl rfl)
theorem dX7_readRing_122 : decode cX7_readRing 122 = .ok (.invokevirtual 149, 3) := dk_182 0 149 (dk_at dksX7_readRing_5 6 rfl rfl)
theorem dX7_readRing_125 : decode cX7_readRing 125 = .ok (.aload_n 0, 1) := dk_42 (dk_at dksX7_readRing_5 9 rfl rfl)
theorem dX7_readRing_126 : decode cX7_readRing 126 = .ok (.invokevirtual 153, 3) := dk_182 0 153 (dk_at dksX7_readRing_5 10 rfl rfl)
theorem dX7_readRing_129 : decode cX7_readRing 129 = .ok (.aload_n 0, 1) := dk_42 (dk_at dksX7_readRing_5 13 rfl rfl)
theorem dX7_readRing_130 : decode cX7_readRing 130 = .ok (.aload_n 0, 1) := dk_42 (dk_at dksX7_readRing_5 14 rfl rfl)
theorem dX7_readRing_131 : decode cX7_readRing 131 = .ok (.iconst (-1), 1) := dk_2 (dk_at dksX7_readRing_5 15 rfl rfl)
theorem dX7_readRing_132 : decode cX7_readRing 132 = .ok (.iconst (-1), 1) := dk_2 (dk_at dksX7_readRing_5 16 rfl rfl)
theorem dX7_readRing_133 : decode cX7_readRing 133 = .ok (.invokevirtual 202, 3) := dk_182 0 202 (dk_at dksX7_readRing_5 17 rfl rfl)
theorem dX7_readRing_136 : decode cX7_readRing 136 = .ok (.putfield 205, 3) := dk_181 0 205 (dk_at dksX7_readRing_5 20 rfl rfl)
theorem dX7_readRing_139 : decode cX7_readRing 139 = .ok (.aload_n 0, 1) := dk_42 (dk_at dksX7_readRing_5 23 rfl rfl)
theorem dX7_readRing_140 : decode cX7_readRing 140 = .ok (.aload_n 0, 1) := dk_42 (dk_at dksX7_readRing_6 0 rfl rfl)
theorem dX7_readRing_141 : decode cX7_readRing 141 = .ok (.aload_n 0, 1) := dk_42 (dk_at dksX7_readRing_6 1 rfl rfl)
theorem dX7_readRing_142 : decode cX7_readRing 142 = .ok (.getfield 205, 3) := dk_180 0 205 (dk_at dksX7_readRing_6 2 rfl rfl)
theorem dX7_readRing_145 : decode cX7_readRing 145 = .ok (.iconst (-1), 1) := dk_2 (dk_at dksX7_readRing_6 5 rfl rfl)
theorem dX7_readRing_146 : decode cX7_readRing 146 = .ok (.invokevirtual 202, 3) := dk_182 0 202 (dk_at dksX7_readRing_6 6 rfl rfl)
theorem dX7_readRing_149 : decode cX7_readRing 149 = .ok (.putfield 208, 3) := dk_181 0 208 (dk_at dksX7_readRing_6 9 rfl rfl)
theorem dX7_readRing_152 : decode cX7_readRing 152 = .ok (.aload_n 0, 1) := dk_42 (dk_at dksX7_readRing_6 12 rfl rfl)
theorem dX7_readRing_153 : decode cX7_readRing 153 = .ok (.aload_n 0, 1) := dk_42 (dk_at dksX7_readRing_6 13 rfl rfl)
theorem dX7_readRing_154 : decode cX7_readRing 154 = .ok (.getfield 205, 3) := dk_180 0 205 (dk_at dksX7_readRing_6 14 rfl rfl)
theorem dX7_readRing_157 : decode cX7_readRing 157 = .ok (.aload_n 0, 1) := dk_42 (dk_at dksX7_readRing_6 17 rfl rfl)
theorem dX7_readRing_158 : decode cX7_readRing 158 = .ok (.getfield 208, 3) := dk_180 0 208 (dk_at dksX7_readRing_6 18 rfl rfl)
theorem dX7_readRing_161 : decode cX7_readRing 161 = .ok (.invokevirtual 202, 3) := dk_182 0 202 (dk_at dksX7_readRing_6 21 rfl rfl)
theorem dX7_readRing_164 : decode cX7_readRing 164 = .ok (.pop, 1) := dk_87 (dk_at dksX7_readRing_7 0 rfl rfl)
theorem dX7_readRing_165 : decode cX7_readRing 165 = .ok (.aload_n 0, 1) := dk_42 (dk_at dksX7_readRing_7 1 rfl rfl)
theorem dX7_readRing_166 : decode cX7_readRing 166 = .ok (.getfield 102, 3) := dk_180 0 102 (dk_at dksX7_readRing_7 2 rfl rfl)
theorem dX7_readRing_169 : decode cX7_readRing 169 = .ok (.ifCond .ne 8, 3) := dk_154 0 8 (dk_at dksX7_readRing_7 5 rfl rfl)
theorem dX7_readRing_172 : decode cX7_readRing 172 = .ok (.aload_n 0, 1) := dk_42 (dk_at dksX7_readRing_7 8 rfl rfl)
theorem dX7_readRing_173 : decode cX7_readRing 173 = .ok (.iload_n 1, 1) := dk_27 (dk_at dksX7_readRing_7 9 rfl rfl)
theorem dX7_readRing_174 : decode cX7_readRing 174 = .ok (.putfield 162, 3) := dk_181 0 162 (dk_at dksX7_readRing_7 10 rfl rfl)
theorem dX7_readRing_177 : decode cX7_readRing 177 = .ok (.return_, 1) := dk_177 (dk_at dksX7_readRing_7 13 rfl rfl)
abbrev cX7_flaw : ByteArray := prog_10_method_13_code
def yX7_flaw : MethodName := ⟨RX7, "flaw", "(I)V"⟩
def dkwX7_flaw_0 : List UInt8 := [42, 180, 0, 102, 154, 0, 8, 42, 27, 181, 0, 102, 42, 3, 181, 0, 115, 177]
abbrev dktX7_flaw_0 : List UInt8 := dkwX7_flaw_0 ++ []
theorem dksX7_flaw_0 : cX7_flaw.data.toList.drop 0 = dktX7_flaw_0 := by decide +kernel
theorem dX7_flaw_0 : decode cX7_flaw 0 = .ok (.aload_n 0, 1) := dk_42 (dk_at dksX7_flaw_0 0 rfl rfl)
theorem dX7_flaw_1 : decode cX7_flaw 1 = .ok (.getfield 102, 3) := dk_180 0 102 (dk_at dksX7_flaw_0 1 rfl rfl)
theorem dX7_flaw_4 : decode cX7_flaw 4 = .ok (.ifCond .ne 8, 3) := dk_154 0 8 (dk_at dksX7_flaw_0 4 rfl rfl)
theorem dX7_flaw_7 : decode cX7_flaw 7 = .ok (.aload_n 0, 1) := dk_42 (dk_at dksX7_flaw_0 7 rfl rfl)
theorem dX7_flaw_8 : decode cX7_flaw 8 = .ok (.iload_n 1, 1) := dk_27 (dk_at dksX7_flaw_0 8 rfl rfl)
theorem dX7_flaw_9 : decode cX7_flaw 9 = .ok (.putfield 102, 3) := dk_181 0 102 (dk_at dksX7_flaw_0 9 rfl rfl)
theorem dX7_flaw_12 : decode cX7_flaw 12 = .ok (.aload_n 0, 1) := dk_42 (dk_at dksX7_flaw_0 12 rfl rfl)
theorem dX7_flaw_13 : decode cX7_flaw 13 = .ok (.iconst 0, 1) := dk_3 (dk_at dksX7_flaw_0 13 rfl rfl)
theorem dX7_flaw_14 : decode cX7_flaw 14 = .ok (.putfield 115, 3) := dk_181 0 115 (dk_at dksX7_flaw_0 14 rfl rfl)
theorem dX7_flaw_17 : decode cX7_flaw 17 = .ok (.return_, 1) := dk_177 (dk_at dksX7_flaw_0 17 rfl rfl)
abbrev cX7_needs : ByteArray := prog_10_method_15_code
def yX7_needs : MethodName := ⟨RX7, "needs", "(Ljava/lang/String;)V"⟩
def dkwX7_needs_0 : List UInt8 := [42, 43, 182, 0, 145, 154, 0, 8, 42, 4, 182, 0, 149, 42, 182, 0, 153, 177]
abbrev dktX7_needs_0 : List UInt8 := dkwX7_needs_0 ++ []
theorem dksX7_needs_0 : cX7_needs.data.toList.drop 0 = dktX7_needs_0 := by decide +kernel
theorem dX7_needs_0 : decode cX7_needs 0 = .ok (.aload_n 0, 1) := dk_42 (dk_at dksX7_needs_0 0 rfl rfl)
theorem dX7_needs_1 : decode cX7_needs 1 = .ok (.aload_n 1, 1) := dk_43 (dk_at dksX7_needs_0 1 rfl rfl)
theorem dX7_needs_2 : decode cX7_needs 2 = .ok (.invokevirtual 145, 3) := dk_182 0 145 (dk_at dksX7_needs_0 2 rfl rfl)
theorem dX7_needs_5 : decode cX7_needs 5 = .ok (.ifCond .ne 8, 3) := dk_154 0 8 (dk_at dksX7_needs_0 5 rfl rfl)
theorem dX7_needs_8 : decode cX7_needs 8 = .ok (.aload_n 0, 1) := dk_42 (dk_at dksX7_needs_0 8 rfl rfl)
theorem dX7_needs_9 : decode cX7_needs 9 = .ok (.iconst 1, 1) := dk_4 (dk_at dksX7_needs_0 9 rfl rfl)
theorem dX7_needs_10 : decode cX7_needs 10 = .ok (.invokevirtual 149, 3) := dk_182 0 149 (dk_at dksX7_needs_0 10 rfl rfl)
theorem dX7_needs_13 : decode cX7_needs 13 = .ok (.aload_n 0, 1) := dk_42 (dk_at dksX7_needs_0 13 rfl rfl)
theorem dX7_needs_14 : decode cX7_needs 14 = .ok (.invokevirtual 153, 3) := dk_182 0 153 (dk_at dksX7_needs_0 14 rfl rfl)
theorem dX7_needs_17 : decode cX7_needs 17 = .ok (.return_, 1) := dk_177 (dk_at dksX7_needs_0 17 rfl rfl)
abbrev cX7_isPrime : ByteArray := prog_10_method_19_code
def yX7_isPrime : MethodName := ⟨RX7, "isPrime", "(I)Z"⟩
def dkwX7_isPrime_1 : List UInt8 := [16, 97, 184, 0, 118, 172]
abbrev dktX7_isPrime_1 : List UInt8 := dkwX7_isPrime_1 ++ []
def dkwX7_isPrime_0 : List UInt8 := [5, 60, 27, 26, 162, 0, 17, 26, 27, 112, 154, 0, 5, 3, 172, 132, 1, 1, 167, 255, 240, 26, 5]
abbrev dktX7_isPrime_0 : List UInt8 := dkwX7_isPrime_0 ++ dktX7_isPrime_1
theorem dksX7_isPrime_0 : cX7_isPrime.data.toList.drop 0 = dktX7_isPrime_0 := by decide +kernel
theorem dksX7_isPrime_1 : cX7_isPrime.data.toList.drop 23 = dktX7_isPrime_1 := dk_seg dksX7_isPrime_0 23 rfl rfl
theorem dX7_isPrime_0 : decode cX7_isPrime 0 = .ok (.iconst 2, 1) := dk_5 (dk_at dksX7_isPrime_0 0 rfl rfl)
theorem dX7_isPrime_1 : decode cX7_isPrime 1 = .ok (.istore_n 1, 1) := dk_60 (dk_at dksX7_isPrime_0 1 rfl rfl)
theorem dX7_isPrime_2 : decode cX7_isPrime 2 = .ok (.iload_n 1, 1) := dk_27 (dk_at dksX7_isPrime_0 2 rfl rfl)
theorem dX7_isPrime_3 : decode cX7_isPrime 3 = .ok (.iload_n 0, 1) := dk_26 (dk_at dksX7_isPrime_0 3 rfl rfl)
theorem dX7_isPrime_4 : decode cX7_isPrime 4 = .ok (.if_icmp .ge 17, 3) := dk_162 0 17 (dk_at dksX7_isPrime_0 4 rfl rfl)
theorem dX7_isPrime_7 : decode cX7_isPrime 7 = .ok (.iload_n 0, 1) := dk_26 (dk_at dksX7_isPrime_0 7 rfl rfl)
theorem dX7_isPrime_8 : decode cX7_isPrime 8 = .ok (.iload_n 1, 1) := dk_27 (dk_at dksX7_isPrime_0 8 rfl rfl)
theorem dX7_isPrime_9 : decode cX7_isPrime 9 = .ok (.irem, 1) := dk_112 (dk_at dksX7_isPrime_0 9 rfl rfl)
theorem dX7_isPrime_10 : decode cX7_isPrime 10 = .ok (.ifCond .ne 5, 3) := dk_154 0 5 (dk_at dksX7_isPrime_0 10 rfl rfl)
theorem dX7_isPrime_13 : decode cX7_isPrime 13 = .ok (.iconst 0, 1) := dk_3 (dk_at dksX7_isPrime_0 13 rfl rfl)
theorem dX7_isPrime_14 : decode cX7_isPrime 14 = .ok (.ireturn, 1) := dk_172 (dk_at dksX7_isPrime_0 14 rfl rfl)
theorem dX7_isPrime_15 : decode cX7_isPrime 15 = .ok (.iinc 1 1, 3) := dk_132 1 1 (dk_at dksX7_isPrime_0 15 rfl rfl)
theorem dX7_isPrime_18 : decode cX7_isPrime 18 = .ok (.goto (-16), 3) := dk_167 255 240 (dk_at dksX7_isPrime_0 18 rfl rfl)
theorem dX7_isPrime_21 : decode cX7_isPrime 21 = .ok (.iload_n 0, 1) := dk_26 (dk_at dksX7_isPrime_0 21 rfl rfl)
theorem dX7_isPrime_22 : decode cX7_isPrime 22 = .ok (.iconst 2, 1) := dk_5 (dk_at dksX7_isPrime_0 22 rfl rfl)
theorem dX7_isPrime_23 : decode cX7_isPrime 23 = .ok (.bipush 97, 2) := dk_16 97 (dk_at dksX7_isPrime_1 0 rfl rfl)
theorem dX7_isPrime_25 : decode cX7_isPrime 25 = .ok (.invokestatic 118, 3) := dk_184 0 118 (dk_at dksX7_isPrime_1 2 rfl rfl)
theorem dX7_isPrime_28 : decode cX7_isPrime 28 = .ok (.ireturn, 1) := dk_172 (dk_at dksX7_isPrime_1 5 rfl rfl)
abbrev cX7_readUnknown : ByteArray := prog_10_method_21_code
def yX7_readUnknown : MethodName := ⟨RX7, "readUnknown", "(II)I"⟩
def dkwX7_readUnknown_1 : List UInt8 := [28, 160, 0, 8, 42, 6, 182, 0, 149, 42, 182, 0, 153, 29, 172]
abbrev dktX7_readUnknown_1 : List UInt8 := dkwX7_readUnknown_1 ++ []
def dkwX7_readUnknown_0 : List UInt8 := [42, 182, 0, 211, 62, 29, 2, 160, 0, 11, 42, 4, 182, 0, 149, 167, 0, 18, 29, 27, 159, 0, 8, 29]
abbrev dktX7_readUnknown_0 : List UInt8 := dkwX7_readUnknown_0 ++ dktX7_readUnknown_1
theorem dksX7_readUnknown_0 : cX7_readUnknown.data.toList.drop 0 = dktX7_readUnknown_0 := by decide +kernel
theorem dksX7_readUnknown_1 : cX7_readUnknown.data.toList.drop 24 = dktX7_readUnknown_1 := dk_seg dksX7_readUnknown_0 24 rfl rfl
theorem dX7_readUnknown_0 : decode cX7_readUnknown 0 = .ok (.aload_n 0, 1) := dk_42 (dk_at dksX7_readUnknown_0 0 rfl rfl)
theorem dX7_readUnknown_1 : decode cX7_readUnknown 1 = .ok (.invokevirtual 211, 3) := dk_182 0 211 (dk_at dksX7_readUnknown_0 1 rfl rfl)
theorem dX7_readUnknown_4 : decode cX7_readUnknown 4 = .ok (.istore_n 3, 1) := dk_62 (dk_at dksX7_readUnknown_0 4 rfl rfl)
theorem dX7_readUnknown_5 : decode cX7_readUnknown 5 = .ok (.iload_n 3, 1) := dk_29 (dk_at dksX7_readUnknown_0 5 rfl rfl)
theorem dX7_readUnknown_6 : decode cX7_readUnknown 6 = .ok (.iconst (-1), 1) := dk_2 (dk_at dksX7_readUnknown_0 6 rfl rfl)
theorem dX7_readUnknown_7 : decode cX7_readUnknown 7 = .ok (.if_icmp .ne 11, 3) := dk_160 0 11 (dk_at dksX7_readUnknown_0 7 rfl rfl)
theorem dX7_readUnknown_10 : decode cX7_readUnknown 10 = .ok (.aload_n 0, 1) := dk_42 (dk_at dksX7_readUnknown_0 10 rfl rfl)
theorem dX7_readUnknown_11 : decode cX7_readUnknown 11 = .ok (.iconst 1, 1) := dk_4 (dk_at dksX7_readUnknown_0 11 rfl rfl)
theorem dX7_readUnknown_12 : decode cX7_readUnknown 12 = .ok (.invokevirtual 149, 3) := dk_182 0 149 (dk_at dksX7_readUnknown_0 12 rfl rfl)
theorem dX7_readUnknown_15 : decode cX7_readUnknown 15 = .ok (.goto 18, 3) := dk_167 0 18 (dk_at dksX7_readUnknown_0 15 rfl rfl)
theorem dX7_readUnknown_18 : decode cX7_readUnknown 18 = .ok (.iload_n 3, 1) := dk_29 (dk_at dksX7_readUnknown_0 18 rfl rfl)
theorem dX7_readUnknown_19 : decode cX7_readUnknown 19 = .ok (.iload_n 1, 1) := dk_27 (dk_at dksX7_readUnknown_0 19 rfl rfl)
theorem dX7_readUnknown_20 : decode cX7_readUnknown 20 = .ok (.if_icmp .eq 8, 3) := dk_159 0 8 (dk_at dksX7_readUnknown_0 20 rfl rfl)
theorem dX7_readUnknown_23 : decode cX7_readUnknown 23 = .ok (.iload_n 3, 1) := dk_29 (dk_at dksX7_readUnknown_0 23 rfl rfl)
theorem dX7_readUnknown_24 : decode cX7_readUnknown 24 = .ok (.iload_n 2, 1) := dk_28 (dk_at dksX7_readUnknown_1 0 rfl rfl)
theorem dX7_readUnknown_25 : decode cX7_readUnknown 25 = .ok (.if_icmp .ne 8, 3) := dk_160 0 8 (dk_at dksX7_readUnknown_1 1 rfl rfl)
theorem dX7_readUnknown_28 : decode cX7_readUnknown 28 = .ok (.aload_n 0, 1) := dk_42 (dk_at dksX7_readUnknown_1 4 rfl rfl)
theorem dX7_readUnknown_29 : decode cX7_readUnknown 29 = .ok (.iconst 3, 1) := dk_6 (dk_at dksX7_readUnknown_1 5 rfl rfl)
theorem dX7_readUnknown_30 : decode cX7_readUnknown 30 = .ok (.invokevirtual 149, 3) := dk_182 0 149 (dk_at dksX7_readUnknown_1 6 rfl rfl)
theorem dX7_readUnknown_33 : decode cX7_readUnknown 33 = .ok (.aload_n 0, 1) := dk_42 (dk_at dksX7_readUnknown_1 9 rfl rfl)
theorem dX7_readUnknown_34 : decode cX7_readUnknown 34 = .ok (.invokevirtual 153, 3) := dk_182 0 153 (dk_at dksX7_readUnknown_1 10 rfl rfl)
theorem dX7_readUnknown_37 : decode cX7_readUnknown 37 = .ok (.iload_n 3, 1) := dk_29 (dk_at dksX7_readUnknown_1 13 rfl rfl)
theorem dX7_readUnknown_38 : decode cX7_readUnknown 38 = .ok (.ireturn, 1) := dk_172 (dk_at dksX7_readUnknown_1 14 rfl rfl)
abbrev cX7_unknownHere : ByteArray := prog_10_method_16_code
def yX7_unknownHere : MethodName := ⟨RX7, "unknownHere", "()I"⟩
def dkwX7_unknownHere_1 : List UInt8 := [167, 0, 17, 42, 18, 160, 182, 0, 145, 153, 0, 7, 5, 167, 0, 4, 2, 172]
abbrev dktX7_unknownHere_1 : List UInt8 := dkwX7_unknownHere_1 ++ []
def dkwX7_unknownHere_0 : List UInt8 := [42, 18, 156, 182, 0, 145, 153, 0, 7, 3, 167, 0, 30, 42, 18, 158, 182, 0, 145, 153, 0, 7, 4]
abbrev dktX7_unknownHere_0 : List UInt8 := dkwX7_unknownHere_0 ++ dktX7_unknownHere_1
theorem dksX7_unknownHere_0 : cX7_unknownHere.data.toList.drop 0 = dktX7_unknownHere_0 := by decide +kernel
theorem dksX7_unknownHere_1 : cX7_unknownHere.data.toList.drop 23 = dktX7_unknownHere_1 := dk_seg dksX7_unknownHere_0 23 rfl rfl
theorem dX7_unknownHere_0 : decode cX7_unknownHere 0 = .ok (.aload_n 0, 1) := dk_42 (dk_at dksX7_unknownHere_0 0 rfl rfl)
theorem dX7_unknownHere_1 : decode cX7_unknownHere 1 = .ok (.ldc 156, 2) := dk_18 156 (dk_at dksX7_unknownHere_0 1 rfl rfl)
theorem dX7_unknownHere_3 : decode cX7_unknownHere 3 = .ok (.invokevirtual 145, 3) := dk_182 0 145 (dk_at dksX7_unknownHere_0 3 rfl rfl)
theorem dX7_unknownHere_6 : decode cX7_unknownHere 6 = .ok (.ifCond .eq 7, 3) := dk_153 0 7 (dk_at dksX7_unknownHere_0 6 rfl rfl)
theorem dX7_unknownHere_9 : decode cX7_unknownHere 9 = .ok (.iconst 0, 1) := dk_3 (dk_at dksX7_unknownHere_0 9 rfl rfl)
theorem dX7_unknownHere_10 : decode cX7_unknownHere 10 = .ok (.goto 30, 3) := dk_167 0 30 (dk_at dksX7_unknownHere_0 10 rfl rfl)
theorem dX7_unknownHere_13 : decode cX7_unknownHere 13 = .ok (.aload_n 0, 1) := dk_42 (dk_at dksX7_unknownHere_0 13 rfl rfl)
theorem dX7_unknownHere_14 : decode cX7_unknownHere 14 = .ok (.ldc 158, 2) := dk_18 158 (dk_at dksX7_unknownHere_0 14 rfl rfl)
theorem dX7_unknownHere_16 : decode cX7_unknownHere 16 = .ok (.invokevirtual 145, 3) := dk_182 0 145 (dk_at dksX7_unknownHere_0 16 rfl rfl)
theorem dX7_unknownHere_19 : decode cX7_unknownHere 19 = .ok (.ifCond .eq 7, 3) := dk_153 0 7 (dk_at dksX7_unknownHere_0 19 rfl rfl)
theorem dX7_unknownHere_22 : decode cX7_unknownHere 22 = .ok (.iconst 1, 1) := dk_4 (dk_at dksX7_unknownHere_0 22 rfl rfl)
theorem dX7_unknownHere_23 : decode cX7_unknownHere 23 = .ok (.goto 17, 3) := dk_167 0 17 (dk_at dksX7_unknownHere_1 0 rfl rfl)
theorem dX7_unknownHere_26 : decode cX7_unknownHere 26 = .ok (.aload_n 0, 1) := dk_42 (dk_at dksX7_unknownHere_1 3 rfl rfl)
theorem dX7_unknownHere_27 : decode cX7_unknownHere 27 = .ok (.ldc 160, 2) := dk_18 160 (dk_at dksX7_unknownHere_1 4 rfl rfl)
theorem dX7_unknownHere_29 : decode cX7_unknownHere 29 = .ok (.invokevirtual 145, 3) := dk_182 0 145 (dk_at dksX7_unknownHere_1 6 rfl rfl)
theorem dX7_unknownHere_32 : decode cX7_unknownHere 32 = .ok (.ifCond .eq 7, 3) := dk_153 0 7 (dk_at dksX7_unknownHere_1 9 rfl rfl)
theorem dX7_unknownHere_35 : decode cX7_unknownHere 35 = .ok (.iconst 2, 1) := dk_5 (dk_at dksX7_unknownHere_1 12 rfl rfl)
theorem dX7_unknownHere_36 : decode cX7_unknownHere 36 = .ok (.goto 4, 3) := dk_167 0 4 (dk_at dksX7_unknownHere_1 13 rfl rfl)
theorem dX7_unknownHere_39 : decode cX7_unknownHere 39 = .ok (.iconst (-1), 1) := dk_2 (dk_at dksX7_unknownHere_1 16 rfl rfl)
theorem dX7_unknownHere_40 : decode cX7_unknownHere 40 = .ok (.ireturn, 1) := dk_172 (dk_at dksX7_unknownHere_1 17 rfl rfl)
abbrev cX7_readPoly : ByteArray := prog_10_method_22_code
def yX7_readPoly : MethodName := ⟨RX7, "readPoly", "()V"⟩
def dkwX7_readPoly_6 : List UInt8 := [181, 0, 165, 177]
abbrev dktX7_readPoly_6 : List UInt8 := dkwX7_readPoly_6 ++ []
def dkwX7_readPoly_5 : List UInt8 := [182, 0, 214, 132, 2, 1, 167, 255, 194, 42, 180, 0, 102, 154, 0, 13, 42, 89, 180, 0, 165, 4, 96]
abbrev dktX7_readPoly_5 : List UInt8 := dkwX7_readPoly_5 ++ dktX7_readPoly_6
def dkwX7_readPoly_4 : List UInt8 := [182, 0, 149, 42, 180, 0, 115, 16, 6, 160, 0, 7, 4, 167, 0, 4, 3, 60, 42, 182, 0, 153, 42, 27]
abbrev dktX7_readPoly_4 : List UInt8 := dkwX7_readPoly_4 ++ dktX7_readPoly_5
def dkwX7_readPoly_3 : List UInt8 := [180, 0, 115, 8, 159, 0, 12, 42, 180, 0, 115, 16, 6, 160, 0, 44, 28, 16, 12, 160, 0, 8, 42, 8]
abbrev dktX7_readPoly_3 : List UInt8 := dkwX7_readPoly_3 ++ dktX7_readPoly_4
def dkwX7_readPoly_2 : List UInt8 := [153, 0, 7, 42, 182, 0, 153, 42, 27, 182, 0, 214, 4, 61, 42, 180, 0, 102, 154, 0, 61, 42]
abbrev dktX7_readPoly_2 : List UInt8 := dkwX7_readPoly_2 ++ dktX7_readPoly_3
def dkwX7_readPoly_1 : List UInt8 := [182, 0, 149, 42, 182, 0, 153, 42, 180, 0, 115, 16, 6, 160, 0, 7, 4, 167, 0, 4, 3, 60, 27]
abbrev dktX7_readPoly_1 : List UInt8 := dkwX7_readPoly_1 ++ dktX7_readPoly_2
def dkwX7_readPoly_0 : List UInt8 := [42, 180, 0, 165, 16, 6, 160, 0, 8, 42, 8, 182, 0, 149, 42, 180, 0, 162, 154, 0, 9, 42, 16, 6]
abbrev dktX7_readPoly_0 : List UInt8 := dkwX7_readPoly_0 ++ dktX7_readPoly_1
theorem dksX7_readPoly_0 : cX7_readPoly.data.toList.drop 0 = dktX7_readPoly_0 := by decide +kernel
theorem dksX7_readPoly_1 : cX7_readPoly.data.toList.drop 24 = dktX7_readPoly_1 := dk_seg dksX7_readPoly_0 24 rfl rfl
theorem dksX7_readPoly_2 : cX7_readPoly.data.toList.drop 47 = dktX7_readPoly_2 := dk_seg dksX7_readPoly_1 23 rfl rfl
theorem dksX7_readPoly_3 : cX7_readPoly.data.toList.drop 69 = dktX7_readPoly_3 := dk_seg dksX7_readPoly_2 22 rfl rfl
theorem dksX7_readPoly_4 : cX7_readPoly.data.toList.drop 93 = dktX7_readPoly_4 := dk_seg dksX7_readPoly_3 24 rfl rfl
theorem dksX7_readPoly_5 : cX7_readPoly.data.toList.drop 117 = dktX7_readPoly_5 := dk_seg dksX7_readPoly_4 24 rfl rfl
theorem dksX7_readPoly_6 : cX7_readPoly.data.toList.drop 140 = dktX7_readPoly_6 := dk_seg dksX7_readPoly_5 23 rfl rfl
theorem dX7_readPoly_0 : decode cX7_readPoly 0 = .ok (.aload_n 0, 1) := dk_42 (dk_at dksX7_readPoly_0 0 rfl rfl)
theorem dX7_readPoly_1 : decode cX7_readPoly 1 = .ok (.getfield 165, 3) := dk_180 0 165 (dk_at dksX7_readPoly_0 1 rfl rfl)
theorem dX7_readPoly_4 : decode cX7_readPoly 4 = .ok (.bipush 6, 2) := dk_16 6 (dk_at dksX7_readPoly_0 4 rfl rfl)
theorem dX7_readPoly_6 : decode cX7_readPoly 6 = .ok (.if_icmp .ne 8, 3) := dk_160 0 8 (dk_at dksX7_readPoly_0 6 rfl rfl)
theorem dX7_readPoly_9 : decode cX7_readPoly 9 = .ok (.aload_n 0, 1) := dk_42 (dk_at dksX7_readPoly_0 9 rfl rfl)
theorem dX7_readPoly_10 : decode cX7_readPoly 10 = .ok (.iconst 5, 1) := dk_8 (dk_at dksX7_readPoly_0 10 rfl rfl)
theorem dX7_readPoly_11 : decode cX7_readPoly 11 = .ok (.invokevirtual 149, 3) := dk_182 0 149 (dk_at dksX7_readPoly_0 11 rfl rfl)
theorem dX7_readPoly_14 : decode cX7_readPoly 14 = .ok (.aload_n 0, 1) := dk_42 (dk_at dksX7_readPoly_0 14 rfl rfl)
theorem dX7_readPoly_15 : decode cX7_readPoly 15 = .ok (.getfield 162, 3) := dk_180 0 162 (dk_at dksX7_readPoly_0 15 rfl rfl)
theorem dX7_readPoly_18 : decode cX7_readPoly 18 = .ok (.ifCond .ne 9, 3) := dk_154 0 9 (dk_at dksX7_readPoly_0 18 rfl rfl)
theorem dX7_readPoly_21 : decode cX7_readPoly 21 = .ok (.aload_n 0, 1) := dk_42 (dk_at dksX7_readPoly_0 21 rfl rfl)
theorem dX7_readPoly_22 : decode cX7_readPoly 22 = .ok (.bipush 6, 2) := dk_16 6 (dk_at dksX7_readPoly_0 22 rfl rfl)
theorem dX7_readPoly_24 : decode cX7_readPoly 24 = .ok (.invokevirtual 149, 3) := dk_182 0 149 (dk_at dksX7_readPoly_1 0 rfl rfl)
theorem dX7_readPoly_27 : decode cX7_readPoly 27 = .ok (.aload_n 0, 1) := dk_42 (dk_at dksX7_readPoly_1 3 rfl rfl)
theorem dX7_readPoly_28 : decode cX7_readPoly 28 = .ok (.invokevirtual 153, 3) := dk_182 0 153 (dk_at dksX7_readPoly_1 4 rfl rfl)
theorem dX7_readPoly_31 : decode cX7_readPoly 31 = .ok (.aload_n 0, 1) := dk_42 (dk_at dksX7_readPoly_1 7 rfl rfl)
theorem dX7_readPoly_32 : decode cX7_readPoly 32 = .ok (.getfield 115, 3) := dk_180 0 115 (dk_at dksX7_readPoly_1 8 rfl rfl)
theorem dX7_readPoly_35 : decode cX7_readPoly 35 = .ok (.bipush 6, 2) := dk_16 6 (dk_at dksX7_readPoly_1 11 rfl rfl)
theorem dX7_readPoly_37 : decode cX7_readPoly 37 = .ok (.if_icmp .ne 7, 3) := dk_160 0 7 (dk_at dksX7_readPoly_1 13 rfl rfl)
theorem dX7_readPoly_40 : decode cX7_readPoly 40 = .ok (.iconst 1, 1) := dk_4 (dk_at dksX7_readPoly_1 16 rfl rfl)
theorem dX7_readPoly_41 : decode cX7_readPoly 41 = .ok (.goto 4, 3) := dk_167 0 4 (dk_at dksX7_readPoly_1 17 rfl rfl)
theorem dX7_readPoly_44 : decode cX7_readPoly 44 = .ok (.iconst 0, 1) := dk_3 (dk_at dksX7_readPoly_1 20 rfl rfl)
theorem dX7_readPoly_45 : decode cX7_readPoly 45 = .ok (.istore_n 1, 1) := dk_60 (dk_at dksX7_readPoly_1 21 rfl rfl)
theorem dX7_readPoly_46 : decode cX7_readPoly 46 = .ok (.iload_n 1, 1) := dk_27 (dk_at dksX7_readPoly_1 22 rfl rfl)
theorem dX7_readPoly_47 : decode cX7_readPoly 47 = .ok (.ifCond .eq 7, 3) := dk_153 0 7 (dk_at dksX7_readPoly_2 0 rfl rfl)
theorem dX7_readPoly_50 : decode cX7_readPoly 50 = .ok (.aload_n 0, 1) := dk_42 (dk_at dksX7_readPoly_2 3 rfl rfl)
theorem dX7_readPoly_51 : decode cX7_readPoly 51 = .ok (.invokevirtual 153, 3) := dk_182 0 153 (dk_at dksX7_readPoly_2 4 rfl rfl)
theorem dX7_readPoly_54 : decode cX7_readPoly 54 = .ok (.aload_n 0, 1) := dk_42 (dk_at dksX7_readPoly_2 7 rfl rfl)
theorem dX7_readPoly_55 : decode cX7_readPoly 55 = .ok (.iload_n 1, 1) := dk_27 (dk_at dksX7_readPoly_2 8 rfl rfl)
theorem dX7_readPoly_56 : decode cX7_readPoly 56 = .ok (.invokevirtual 214, 3) := dk_182 0 214 (dk_at dksX7_readPoly_2 9 rfl rfl)
theorem dX7_readPoly_59 : decode cX7_readPoly 59 = .ok (.iconst 1, 1) := dk_4 (dk_at dksX7_readPoly_2 12 rfl rfl)
theorem dX7_readPoly_60 : decode cX7_readPoly 60 = .ok (.istore_n 2, 1) := dk_61 (dk_at dksX7_readPoly_2 13 rfl rfl)
theorem dX7_readPoly_61 : decode cX7_readPoly 61 = .ok (.aload_n 0, 1) := dk_42 (dk_at dksX7_readPoly_2 14 rfl rfl)
theorem dX7_readPoly_62 : decode cX7_readPoly 62 = .ok (.getfield 102, 3) := dk_180 0 102 (dk_at dksX7_readPoly_2 15 rfl rfl)
theorem dX7_readPoly_65 : decode cX7_readPoly 65 = .ok (.ifCond .ne 61, 3) := dk_154 0 61 (dk_at dksX7_readPoly_2 18 rfl rfl)
theorem dX7_readPoly_68 : decode cX7_readPoly 68 = .ok (.aload_n 0, 1) := dk_42 (dk_at dksX7_readPoly_2 21 rfl rfl)
theorem dX7_readPoly_69 : decode cX7_readPoly 69 = .ok (.getfield 115, 3) := dk_180 0 115 (dk_at dksX7_readPoly_3 0 rfl rfl)
theorem dX7_readPoly_72 : decode cX7_readPoly 72 = .ok (.iconst 5, 1) := dk_8 (dk_at dksX7_readPoly_3 3 rfl rfl)
theorem dX7_readPoly_73 : decode cX7_readPoly 73 = .ok (.if_icmp .eq 12, 3) := dk_159 0 12 (dk_at dksX7_readPoly_3 4 rfl rfl)
theorem dX7_readPoly_76 : decode cX7_readPoly 76 = .ok (.aload_n 0, 1) := dk_42 (dk_at dksX7_readPoly_3 7 rfl rfl)
theorem dX7_readPoly_77 : decode cX7_readPoly 77 = .ok (.getfield 115, 3) := dk_180 0 115 (dk_at dksX7_readPoly_3 8 rfl rfl)
theorem dX7_readPoly_80 : decode cX7_readPoly 80 = .ok (.bipush 6, 2) := dk_16 6 (dk_at dksX7_readPoly_3 11 rfl rfl)
theorem dX7_readPoly_82 : decode cX7_readPoly 82 = .ok (.if_icmp .ne 44, 3) := dk_160 0 44 (dk_at dksX7_readPoly_3 13 rfl rfl)
theorem dX7_readPoly_85 : decode cX7_readPoly 85 = .ok (.iload_n 2, 1) := dk_28 (dk_at dksX7_readPoly_3 16 rfl rfl)
theorem dX7_readPoly_86 : decode cX7_readPoly 86 = .ok (.bipush 12, 2) := dk_16 12 (dk_at dksX7_readPoly_3 17 rfl rfl)
theorem dX7_readPoly_88 : decode cX7_readPoly 88 = .ok (.if_icmp .ne 8, 3) := dk_160 0 8 (dk_at dksX7_readPoly_3 19 rfl rfl)
theorem dX7_readPoly_91 : decode cX7_readPoly 91 = .ok (.aload_n 0, 1) := dk_42 (dk_at dksX7_readPoly_3 22 rfl rfl)
theorem dX7_readPoly_92 : decode cX7_readPoly 92 = .ok (.iconst 5, 1) := dk_8 (dk_at dksX7_readPoly_3 23 rfl rfl)
theorem dX7_readPoly_93 : decode cX7_readPoly 93 = .ok (.invokevirtual 149, 3) := dk_182 0 149 (dk_at dksX7_readPoly_4 0 rfl rfl)
theorem dX7_readPoly_96 : decode cX7_readPoly 96 = .ok (.aload_n 0, 1) := dk_42 (dk_at dksX7_readPoly_4 3 rfl rfl)
theorem dX7_readPoly_97 : decode cX7_readPoly 97 = .ok (.getfield 115, 3) := dk_180 0 115 (dk_at dksX7_readPoly_4 4 rfl rfl)
theorem dX7_readPoly_100 : decode cX7_readPoly 100 = .ok (.bipush 6, 2) := dk_16 6 (dk_at dksX7_readPoly_4 7 rfl rfl)
theorem dX7_readPoly_102 : decode cX7_readPoly 102 = .ok (.if_icmp .ne 7, 3) := dk_160 0 7 (dk_at dksX7_readPoly_4 9 rfl rfl)
theorem dX7_readPoly_105 : decode cX7_readPoly 105 = .ok (.iconst 1, 1) := dk_4 (dk_at dksX7_readPoly_4 12 rfl rfl)
theorem dX7_readPoly_106 : decode cX7_readPoly 106 = .ok (.goto 4, 3) := dk_167 0 4 (dk_at dksX7_readPoly_4 13 rfl rfl)
theorem dX7_readPoly_109 : decode cX7_readPoly 109 = .ok (.iconst 0, 1) := dk_3 (dk_at dksX7_readPoly_4 16 rfl rfl)
theorem dX7_readPoly_110 : decode cX7_readPoly 110 = .ok (.istore_n 1, 1) := dk_60 (dk_at dksX7_readPoly_4 17 rfl rfl)
theorem dX7_readPoly_111 : decode cX7_readPoly 111 = .ok (.aload_n 0, 1) := dk_42 (dk_at dksX7_readPoly_4 18 rfl rfl)
theorem dX7_readPoly_112 : decode cX7_readPoly 112 = .ok (.invokevirtual 153, 3) := dk_182 0 153 (dk_at dksX7_readPoly_4 19 rfl rfl)
theorem dX7_readPoly_115 : decode cX7_readPoly 115 = .ok (.aload_n 0, 1) := dk_42 (dk_at dksX7_readPoly_4 22 rfl rfl)
theorem dX7_readPoly_116 : decode cX7_readPoly 116 = .ok (.iload_n 1, 1) := dk_27 (dk_at dksX7_readPoly_4 23 rfl rfl)
theorem dX7_readPoly_117 : decode cX7_readPoly 117 = .ok (.invokevirtual 214, 3) := dk_182 0 214 (dk_at dksX7_readPoly_5 0 rfl rfl)
theorem dX7_readPoly_120 : decode cX7_readPoly 120 = .ok (.iinc 2 1, 3) := dk_132 2 1 (dk_at dksX7_readPoly_5 3 rfl rfl)
theorem dX7_readPoly_123 : decode cX7_readPoly 123 = .ok (.goto (-62), 3) := dk_167 255 194 (dk_at dksX7_readPoly_5 6 rfl rfl)
theorem dX7_readPoly_126 : decode cX7_readPoly 126 = .ok (.aload_n 0, 1) := dk_42 (dk_at dksX7_readPoly_5 9 rfl rfl)
theorem dX7_readPoly_127 : decode cX7_readPoly 127 = .ok (.getfield 102, 3) := dk_180 0 102 (dk_at dksX7_readPoly_5 10 rfl rfl)
theorem dX7_readPoly_130 : decode cX7_readPoly 130 = .ok (.ifCond .ne 13, 3) := dk_154 0 13 (dk_at dksX7_readPoly_5 13 rfl rfl)
theorem dX7_readPoly_133 : decode cX7_readPoly 133 = .ok (.aload_n 0, 1) := dk_42 (dk_at dksX7_readPoly_5 16 rfl rfl)
theorem dX7_readPoly_134 : decode cX7_readPoly 134 = .ok (.dup, 1) := dk_89 (dk_at dksX7_readPoly_5 17 rfl rfl)
theorem dX7_readPoly_135 : decode cX7_readPoly 135 = .ok (.getfield 165, 3) := dk_180 0 165 (dk_at dksX7_readPoly_5 18 rfl rfl)
theorem dX7_readPoly_138 : decode cX7_readPoly 138 = .ok (.iconst 1, 1) := dk_4 (dk_at dksX7_readPoly_5 21 rfl rfl)
theorem dX7_readPoly_139 : decode cX7_readPoly 139 = .ok (.iadd, 1) := dk_96 (dk_at dksX7_readPoly_5 22 rfl rfl)
theorem dX7_readPoly_140 : decode cX7_readPoly 140 = .ok (.putfield 165, 3) := dk_181 0 165 (dk_at dksX7_readPoly_6 0 rfl rfl)
theorem dX7_readPoly_143 : decode cX7_readPoly 143 = .ok (.return_, 1) := dk_177 (dk_at dksX7_readPoly_6 3 rfl rfl)
abbrev cX7_readTerm : ByteArray := prog_10_method_23_code
def yX7_readTerm : MethodName := ⟨RX7, "readTerm", "(Z)V"⟩
def dkwX7_readTerm_9 : List UInt8 := [153, 0, 12, 42, 180, 0, 162, 28, 100, 167, 0, 4, 28, 96, 42, 180, 0, 162, 112, 79, 177]
abbrev dktX7_readTerm_9 : List UInt8 := dkwX7_readTerm_9 ++ []
def dkwX7_readTerm_8 : List UInt8 := [180, 0, 165, 104, 21, 4, 96, 54, 6, 42, 180, 0, 18, 21, 6, 42, 180, 0, 18, 21, 6, 46, 27]
abbrev dktX7_readTerm_8 : List UInt8 := dkwX7_readTerm_8 ++ dktX7_readTerm_9
def dkwX7_readTerm_7 : List UInt8 := [7, 21, 6, 104, 120, 128, 54, 4, 167, 255, 141, 42, 180, 0, 102, 158, 0, 4, 177, 17, 16, 0, 42]
abbrev dktX7_readTerm_7 : List UInt8 := dkwX7_readTerm_7 ++ dktX7_readTerm_8
def dkwX7_readTerm_6 : List UInt8 := [182, 0, 149, 42, 180, 0, 132, 54, 7, 42, 182, 0, 153, 42, 180, 0, 102, 154, 0, 15, 21, 4, 21, 7]
abbrev dktX7_readTerm_6 : List UInt8 := dkwX7_readTerm_6 ++ dktX7_readTerm_7
def dkwX7_readTerm_5 : List UInt8 := [180, 0, 115, 6, 160, 0, 31, 42, 180, 0, 132, 4, 16, 15, 184, 0, 118, 154, 0, 8, 42, 7]
abbrev dktX7_readTerm_5 : List UInt8 := dkwX7_readTerm_5 ++ dktX7_readTerm_6
def dkwX7_readTerm_4 : List UInt8 := [4, 21, 6, 120, 128, 54, 5, 42, 182, 0, 153, 4, 54, 7, 42, 180, 0, 102, 154, 0, 39, 42]
abbrev dktX7_readTerm_4 : List UInt8 := dkwX7_readTerm_4 ++ dktX7_readTerm_5
def dkwX7_readTerm_3 : List UInt8 := [42, 182, 0, 211, 54, 6, 21, 5, 21, 6, 122, 4, 126, 4, 160, 0, 8, 42, 6, 182, 0, 149, 21, 5]
abbrev dktX7_readTerm_3 : List UInt8 := dkwX7_readTerm_3 ++ dktX7_readTerm_4
def dkwX7_readTerm_2 : List UInt8 := [182, 0, 149, 3, 54, 4, 3, 54, 5, 42, 180, 0, 102, 154, 0, 114, 42, 182, 0, 211, 2, 159, 0, 106]
abbrev dktX7_readTerm_2 : List UInt8 := dkwX7_readTerm_2 ++ dktX7_readTerm_3
def dkwX7_readTerm_1 : List UInt8 := [42, 180, 0, 162, 112, 61, 42, 182, 0, 153, 167, 0, 16, 42, 182, 0, 211, 2, 160, 0, 8, 42, 4]
abbrev dktX7_readTerm_1 : List UInt8 := dkwX7_readTerm_1 ++ dktX7_readTerm_2
def dkwX7_readTerm_0 : List UInt8 := [4, 61, 42, 180, 0, 115, 6, 160, 0, 7, 4, 167, 0, 4, 3, 62, 29, 153, 0, 20, 42, 180, 0, 132]
abbrev dktX7_readTerm_0 : List UInt8 := dkwX7_readTerm_0 ++ dktX7_readTerm_1
theorem dksX7_readTerm_0 : cX7_readTerm.data.toList.drop 0 = dktX7_readTerm_0 := by decide +kernel
theorem dksX7_readTerm_1 : cX7_readTerm.data.toList.drop 24 = dktX7_readTerm_1 := dk_seg dksX7_readTerm_0 24 rfl rfl
theorem dksX7_readTerm_2 : cX7_readTerm.data.toList.drop 47 = dktX7_readTerm_2 := dk_seg dksX7_readTerm_1 23 rfl rfl
theorem dksX7_readTerm_3 : cX7_readTerm.data.toList.drop 71 = dktX7_readTerm_3 := dk_seg dksX7_readTerm_2 24 rfl rfl
theorem dksX7_readTerm_4 : cX7_readTerm.data.toList.drop 95 = dktX7_readTerm_4 := dk_seg dksX7_readTerm_3 24 rfl rfl
theorem dksX7_readTerm_5 : cX7_readTerm.data.toList.drop 117 = dktX7_readTerm_5 := dk_seg dksX7_readTerm_4 22 rfl rfl
theorem dksX7_readTerm_6 : cX7_readTerm.data.toList.drop 139 = dktX7_readTerm_6 := dk_seg dksX7_readTerm_5 22 rfl rfl
theorem dksX7_readTerm_7 : cX7_readTerm.data.toList.drop 163 = dktX7_readTerm_7 := dk_seg dksX7_readTerm_6 24 rfl rfl
theorem dksX7_readTerm_8 : cX7_readTerm.data.toList.drop 186 = dktX7_readTerm_8 := dk_seg dksX7_readTerm_7 23 rfl rfl
theorem dksX7_readTerm_9 : cX7_readTerm.data.toList.drop 209 = dktX7_readTerm_9 := dk_seg dksX7_readTerm_8 23 rfl rfl
theorem dX7_readTerm_0 : decode cX7_readTerm 0 = .ok (.iconst 1, 1) := dk_4 (dk_at dksX7_readTerm_0 0 rfl rfl)
theorem dX7_readTerm_1 : decode cX7_readTerm 1 = .ok (.istore_n 2, 1) := dk_61 (dk_at dksX7_readTerm_0 1 rfl rfl)
theorem dX7_readTerm_2 : decode cX7_readTerm 2 = .ok (.aload_n 0, 1) := dk_42 (dk_at dksX7_readTerm_0 2 rfl rfl)
theorem dX7_readTerm_3 : decode cX7_readTerm 3 = .ok (.getfield 115, 3) := dk_180 0 115 (dk_at dksX7_readTerm_0 3 rfl rfl)
theorem dX7_readTerm_6 : decode cX7_readTerm 6 = .ok (.iconst 3, 1) := dk_6 (dk_at dksX7_readTerm_0 6 rfl rfl)
theorem dX7_readTerm_7 : decode cX7_readTerm 7 = .ok (.if_icmp .ne 7, 3) := dk_160 0 7 (dk_at dksX7_readTerm_0 7 rfl rfl)
theorem dX7_readTerm_10 : decode cX7_readTerm 10 = .ok (.iconst 1, 1) := dk_4 (dk_at dksX7_readTerm_0 10 rfl rfl)
theorem dX7_readTerm_11 : decode cX7_readTerm 11 = .ok (.goto 4, 3) := dk_167 0 4 (dk_at dksX7_readTerm_0 11 rfl rfl)
theorem dX7_readTerm_14 : decode cX7_readTerm 14 = .ok (.iconst 0, 1) := dk_3 (dk_at dksX7_readTerm_0 14 rfl rfl)
theorem dX7_readTerm_15 : decode cX7_readTerm 15 = .ok (.istore_n 3, 1) := dk_62 (dk_at dksX7_readTerm_0 15 rfl rfl)
theorem dX7_readTerm_16 : decode cX7_readTerm 16 = .ok (.iload_n 3, 1) := dk_29 (dk_at dksX7_readTerm_0 16 rfl rfl)
theorem dX7_readTerm_17 : decode cX7_readTerm 17 = .ok (.ifCond .eq 20, 3) := dk_153 0 20 (dk_at dksX7_readTerm_0 17 rfl rfl)
theorem dX7_readTerm_20 : decode cX7_readTerm 20 = .ok (.aload_n 0, 1) := dk_42 (dk_at dksX7_readTerm_0 20 rfl rfl)
theorem dX7_readTerm_21 : decode cX7_readTerm 21 = .ok (.getfield 132, 3) := dk_180 0 132 (dk_at dksX7_readTerm_0 21 rfl rfl)
theorem dX7_readTerm_24 : decode cX7_readTerm 24 = .ok (.aload_n 0, 1) := dk_42 (dk_at dksX7_readTerm_1 0 rfl rfl)
theorem dX7_readTerm_25 : decode cX7_readTerm 25 = .ok (.getfield 162, 3) := dk_180 0 162 (dk_at dksX7_readTerm_1 1 rfl rfl)
theorem dX7_readTerm_28 : decode cX7_readTerm 28 = .ok (.irem, 1) := dk_112 (dk_at dksX7_readTerm_1 4 rfl rfl)
theorem dX7_readTerm_29 : decode cX7_readTerm 29 = .ok (.istore_n 2, 1) := dk_61 (dk_at dksX7_readTerm_1 5 rfl rfl)
theorem dX7_readTerm_30 : decode cX7_readTerm 30 = .ok (.aload_n 0, 1) := dk_42 (dk_at dksX7_readTerm_1 6 rfl rfl)
theorem dX7_readTerm_31 : decode cX7_readTerm 31 = .ok (.invokevirtual 153, 3) := dk_182 0 153 (dk_at dksX7_readTerm_1 7 rfl rfl)
theorem dX7_readTerm_34 : decode cX7_readTerm 34 = .ok (.goto 16, 3) := dk_167 0 16 (dk_at dksX7_readTerm_1 10 rfl rfl)
theorem dX7_readTerm_37 : decode cX7_readTerm 37 = .ok (.aload_n 0, 1) := dk_42 (dk_at dksX7_readTerm_1 13 rfl rfl)
theorem dX7_readTerm_38 : decode cX7_readTerm 38 = .ok (.invokevirtual 211, 3) := dk_182 0 211 (dk_at dksX7_readTerm_1 14 rfl rfl)
theorem dX7_readTerm_41 : decode cX7_readTerm 41 = .ok (.iconst (-1), 1) := dk_2 (dk_at dksX7_readTerm_1 17 rfl rfl)
theorem dX7_readTerm_42 : decode cX7_readTerm 42 = .ok (.if_icmp .ne 8, 3) := dk_160 0 8 (dk_at dksX7_readTerm_1 18 rfl rfl)
theorem dX7_readTerm_45 : decode cX7_readTerm 45 = .ok (.aload_n 0, 1) := dk_42 (dk_at dksX7_readTerm_1 21 rfl rfl)
theorem dX7_readTerm_46 : decode cX7_readTerm 46 = .ok (.iconst 1, 1) := dk_4 (dk_at dksX7_readTerm_1 22 rfl rfl)
theorem dX7_readTerm_47 : decode cX7_readTerm 47 = .ok (.invokevirtual 149, 3) := dk_182 0 149 (dk_at dksX7_readTerm_2 0 rfl rfl)
theorem dX7_readTerm_50 : decode cX7_readTerm 50 = .ok (.iconst 0, 1) := dk_3 (dk_at dksX7_readTerm_2 3 rfl rfl)
theorem dX7_readTerm_51 : decode cX7_readTerm 51 = .ok (.istore 4, 2) := dk_54 4 (dk_at dksX7_readTerm_2 4 rfl rfl)
theorem dX7_readTerm_53 : decode cX7_readTerm 53 = .ok (.iconst 0, 1) := dk_3 (dk_at dksX7_readTerm_2 6 rfl rfl)
theorem dX7_readTerm_54 : decode cX7_readTerm 54 = .ok (.istore 5, 2) := dk_54 5 (dk_at dksX7_readTerm_2 7 rfl rfl)
theorem dX7_readTerm_56 : decode cX7_readTerm 56 = .ok (.aload_n 0, 1) := dk_42 (dk_at dksX7_readTerm_2 9 rfl rfl)
theorem dX7_readTerm_57 : decode cX7_readTerm 57 = .ok (.getfield 102, 3) := dk_180 0 102 (dk_at dksX7_readTerm_2 10 rfl rfl)
theorem dX7_readTerm_60 : decode cX7_readTerm 60 = .ok (.ifCond .ne 114, 3) := dk_154 0 114 (dk_at dksX7_readTerm_2 13 rfl rfl)
theorem dX7_readTerm_63 : decode cX7_readTerm 63 = .ok (.aload_n 0, 1) := dk_42 (dk_at dksX7_readTerm_2 16 rfl rfl)
theorem dX7_readTerm_64 : decode cX7_readTerm 64 = .ok (.invokevirtual 211, 3) := dk_182 0 211 (dk_at dksX7_readTerm_2 17 rfl rfl)
theorem dX7_readTerm_67 : decode cX7_readTerm 67 = .ok (.iconst (-1), 1) := dk_2 (dk_at dksX7_readTerm_2 20 rfl rfl)
theorem dX7_readTerm_68 : decode cX7_readTerm 68 = .ok (.if_icmp .eq 106, 3) := dk_159 0 106 (dk_at dksX7_readTerm_2 21 rfl rfl)
theorem dX7_readTerm_71 : decode cX7_readTerm 71 = .ok (.aload_n 0, 1) := dk_42 (dk_at dksX7_readTerm_3 0 rfl rfl)
theorem dX7_readTerm_72 : decode cX7_readTerm 72 = .ok (.invokevirtual 211, 3) := dk_182 0 211 (dk_at dksX7_readTerm_3 1 rfl rfl)
theorem dX7_readTerm_75 : decode cX7_readTerm 75 = .ok (.istore 6, 2) := dk_54 6 (dk_at dksX7_readTerm_3 4 rfl rfl)
theorem dX7_readTerm_77 : decode cX7_readTerm 77 = .ok (.iload 5, 2) := dk_21 5 (dk_at dksX7_readTerm_3 6 rfl rfl)
theorem dX7_readTerm_79 : decode cX7_readTerm 79 = .ok (.iload 6, 2) := dk_21 6 (dk_at dksX7_readTerm_3 8 rfl rfl)
theorem dX7_readTerm_81 : decode cX7_readTerm 81 = .ok (.ishr, 1) := dk_122 (dk_at dksX7_readTerm_3 10 rfl rfl)
theorem dX7_readTerm_82 : decode cX7_readTerm 82 = .ok (.iconst 1, 1) := dk_4 (dk_at dksX7_readTerm_3 11 rfl rfl)
theorem dX7_readTerm_83 : decode cX7_readTerm 83 = .ok (.iand, 1) := dk_126 (dk_at dksX7_readTerm_3 12 rfl rfl)
theorem dX7_readTerm_84 : decode cX7_readTerm 84 = .ok (.iconst 1, 1) := dk_4 (dk_at dksX7_readTerm_3 13 rfl rfl)
theorem dX7_readTerm_85 : decode cX7_readTerm 85 = .ok (.if_icmp .ne 8, 3) := dk_160 0 8 (dk_at dksX7_readTerm_3 14 rfl rfl)
theorem dX7_readTerm_88 : decode cX7_readTerm 88 = .ok (.aload_n 0, 1) := dk_42 (dk_at dksX7_readTerm_3 17 rfl rfl)
theorem dX7_readTerm_89 : decode cX7_readTerm 89 = .ok (.iconst 3, 1) := dk_6 (dk_at dksX7_readTerm_3 18 rfl rfl)
theorem dX7_readTerm_90 : decode cX7_readTerm 90 = .ok (.invokevirtual 149, 3) := dk_182 0 149 (dk_at dksX7_readTerm_3 19 rfl rfl)
theorem dX7_readTerm_93 : decode cX7_readTerm 93 = .ok (.iload 5, 2) := dk_21 5 (dk_at dksX7_readTerm_3 22 rfl rfl)
theorem dX7_readTerm_95 : decode cX7_readTerm 95 = .ok (.iconst 1, 1) := dk_4 (dk_at dksX7_readTerm_4 0 rfl rfl)
theorem dX7_readTerm_96 : decode cX7_readTerm 96 = .ok (.iload 6, 2) := dk_21 6 (dk_at dksX7_readTerm_4 1 rfl rfl)
theorem dX7_readTerm_98 : decode cX7_readTerm 98 = .ok (.ishl, 1) := dk_120 (dk_at dksX7_readTerm_4 3 rfl rfl)
theorem dX7_readTerm_99 : decode cX7_readTerm 99 = .ok (.ior, 1) := dk_128 (dk_at dksX7_readTerm_4 4 rfl rfl)
theorem dX7_readTerm_100 : decode cX7_readTerm 100 = .ok (.istore 5, 2) := dk_54 5 (dk_at dksX7_readTerm_4 5 rfl rfl)
theorem dX7_readTerm_102 : decode cX7_readTerm 102 = .ok (.aload_n 0, 1) := dk_42 (dk_at dksX7_readTerm_4 7 rfl rfl)
theorem dX7_readTerm_103 : decode cX7_readTerm 103 = .ok (.invokevirtual 153, 3) := dk_182 0 153 (dk_at dksX7_readTerm_4 8 rfl rfl)
theorem dX7_readTerm_106 : decode cX7_readTerm 106 = .ok (.iconst 1, 1) := dk_4 (dk_at dksX7_readTerm_4 11 rfl rfl)
theorem dX7_readTerm_107 : decode cX7_readTerm 107 = .ok (.istore 7, 2) := dk_54 7 (dk_at dksX7_readTerm_4 12 rfl rfl)
theorem dX7_readTerm_109 : decode cX7_readTerm 109 = .ok (.aload_n 0, 1) := dk_42 (dk_at dksX7_readTerm_4 14 rfl rfl)
theorem dX7_readTerm_110 : decode cX7_readTerm 110 = .ok (.getfield 102, 3) := dk_180 0 102 (dk_at dksX7_readTerm_4 15 rfl rfl)
theorem dX7_readTerm_113 : decode cX7_readTerm 113 = .ok (.ifCond .ne 39, 3) := dk_154 0 39 (dk_at dksX7_readTerm_4 18 rfl rfl)
theorem dX7_readTerm_116 : decode cX7_readTerm 116 = .ok (.aload_n 0, 1) := dk_42 (dk_at dksX7_readTerm_4 21 rfl rfl)
theorem dX7_readTerm_117 : decode cX7_readTerm 117 = .ok (.getfield 115, 3) := dk_180 0 115 (dk_at dksX7_readTerm_5 0 rfl rfl)
theorem dX7_readTerm_120 : decode cX7_readTerm 120 = .ok (.iconst 3, 1) := dk_6 (dk_at dksX7_readTerm_5 3 rfl rfl)
theorem dX7_readTerm_121 : decode cX7_readTerm 121 = .ok (.if_icmp .ne 31, 3) := dk_160 0 31 (dk_at dksX7_readTerm_5 4 rfl rfl)
theorem dX7_readTerm_124 : decode cX7_readTerm 124 = .ok (.aload_n 0, 1) := dk_42 (dk_at dksX7_readTerm_5 7 rfl rfl)
theorem dX7_readTerm_125 : decode cX7_readTerm 125 = .ok (.getfield 132, 3) := dk_180 0 132 (dk_at dksX7_readTerm_5 8 rfl rfl)
theorem dX7_readTerm_128 : decode cX7_readTerm 128 = .ok (.iconst 1, 1) := dk_4 (dk_at dksX7_readTerm_5 11 rfl rfl)
theorem dX7_readTerm_129 : decode cX7_readTerm 129 = .ok (.bipush 15, 2) := dk_16 15 (dk_at dksX7_readTerm_5 12 rfl rfl)
theorem dX7_readTerm_131 : decode cX7_readTerm 131 = .ok (.invokestatic 118, 3) := dk_184 0 118 (dk_at dksX7_readTerm_5 14 rfl rfl)
theorem dX7_readTerm_134 : decode cX7_readTerm 134 = .ok (.ifCond .ne 8, 3) := dk_154 0 8 (dk_at dksX7_readTerm_5 17 rfl rfl)
theorem dX7_readTerm_137 : decode cX7_readTerm 137 = .ok (.aload_n 0, 1) := dk_42 (dk_at dksX7_readTerm_5 20 rfl rfl)
theorem dX7_readTerm_138 : decode cX7_readTerm 138 = .ok (.iconst 4, 1) := dk_7 (dk_at dksX7_readTerm_5 21 rfl rfl)
theorem dX7_readTerm_139 : decode cX7_readTerm 139 = .ok (.invokevirtual 149, 3) := dk_182 0 149 (dk_at dksX7_readTerm_6 0 rfl rfl)
theorem dX7_readTerm_142 : decode cX7_readTerm 142 = .ok (.aload_n 0, 1) := dk_42 (dk_at dksX7_readTerm_6 3 rfl rfl)
theorem dX7_readTerm_143 : decode cX7_readTerm 143 = .ok (.getfield 132, 3) := dk_180 0 132 (dk_at dksX7_readTerm_6 4 rfl rfl)
theorem dX7_readTerm_146 : decode cX7_readTerm 146 = .ok (.istore 7, 2) := dk_54 7 (dk_at dksX7_readTerm_6 7 rfl rfl)
theorem dX7_readTerm_148 : decode cX7_readTerm 148 = .ok (.aload_n 0, 1) := dk_42 (dk_at dksX7_readTerm_6 9 rfl rfl)
theorem dX7_readTerm_149 : decode cX7_readTerm 149 = .ok (.invokevirtual 153, 3) := dk_182 0 153 (dk_at dksX7_readTerm_6 10 rfl rfl)
theorem dX7_readTerm_152 : decode cX7_readTerm 152 = .ok (.aload_n 0, 1) := dk_42 (dk_at dksX7_readTerm_6 13 rfl rfl)
theorem dX7_readTerm_153 : decode cX7_readTerm 153 = .ok (.getfield 102, 3) := dk_180 0 102 (dk_at dksX7_readTerm_6 14 rfl rfl)
theorem dX7_readTerm_156 : decode cX7_readTerm 156 = .ok (.ifCond .ne 15, 3) := dk_154 0 15 (dk_at dksX7_readTerm_6 17 rfl rfl)
theorem dX7_readTerm_159 : decode cX7_readTerm 159 = .ok (.iload 4, 2) := dk_21 4 (dk_at dksX7_readTerm_6 20 rfl rfl)
theorem dX7_readTerm_161 : decode cX7_readTerm 161 = .ok (.iload 7, 2) := dk_21 7 (dk_at dksX7_readTerm_6 22 rfl rfl)
theorem dX7_readTerm_163 : decode cX7_readTerm 163 = .ok (.iconst 4, 1) := dk_7 (dk_at dksX7_readTerm_7 0 rfl rfl)
theorem dX7_readTerm_164 : decode cX7_readTerm 164 = .ok (.iload 6, 2) := dk_21 6 (dk_at dksX7_readTerm_7 1 rfl rfl)
theorem dX7_readTerm_166 : decode cX7_readTerm 166 = .ok (.imul, 1) := dk_104 (dk_at dksX7_readTerm_7 3 rfl rfl)
theorem dX7_readTerm_167 : decode cX7_readTerm 167 = .ok (.ishl, 1) := dk_120 (dk_at dksX7_readTerm_7 4 rfl rfl)
theorem dX7_readTerm_168 : decode cX7_readTerm 168 = .ok (.ior, 1) := dk_128 (dk_at dksX7_readTerm_7 5 rfl rfl)
theorem dX7_readTerm_169 : decode cX7_readTerm 169 = .ok (.istore 4, 2) := dk_54 4 (dk_at dksX7_readTerm_7 6 rfl rfl)
theorem dX7_readTerm_171 : decode cX7_readTerm 171 = .ok (.goto (-115), 3) := dk_167 255 141 (dk_at dksX7_readTerm_7 8 rfl rfl)
theorem dX7_readTerm_174 : decode cX7_readTerm 174 = .ok (.aload_n 0, 1) := dk_42 (dk_at dksX7_readTerm_7 11 rfl rfl)
theorem dX7_readTerm_175 : decode cX7_readTerm 175 = .ok (.getfield 102, 3) := dk_180 0 102 (dk_at dksX7_readTerm_7 12 rfl rfl)
theorem dX7_readTerm_178 : decode cX7_readTerm 178 = .ok (.ifCond .le 4, 3) := dk_158 0 4 (dk_at dksX7_readTerm_7 15 rfl rfl)
theorem dX7_readTerm_181 : decode cX7_readTerm 181 = .ok (.return_, 1) := dk_177 (dk_at dksX7_readTerm_7 18 rfl rfl)
theorem dX7_readTerm_182 : decode cX7_readTerm 182 = .ok (.sipush 4096, 3) := dk_17 16 0 (dk_at dksX7_readTerm_7 19 rfl rfl)
theorem dX7_readTerm_185 : decode cX7_readTerm 185 = .ok (.aload_n 0, 1) := dk_42 (dk_at dksX7_readTerm_7 22 rfl rfl)
theorem dX7_readTerm_186 : decode cX7_readTerm 186 = .ok (.getfield 165, 3) := dk_180 0 165 (dk_at dksX7_readTerm_8 0 rfl rfl)
theorem dX7_readTerm_189 : decode cX7_readTerm 189 = .ok (.imul, 1) := dk_104 (dk_at dksX7_readTerm_8 3 rfl rfl)
theorem dX7_readTerm_190 : decode cX7_readTerm 190 = .ok (.iload 4, 2) := dk_21 4 (dk_at dksX7_readTerm_8 4 rfl rfl)
theorem dX7_readTerm_192 : decode cX7_readTerm 192 = .ok (.iadd, 1) := dk_96 (dk_at dksX7_readTerm_8 6 rfl rfl)
theorem dX7_readTerm_193 : decode cX7_readTerm 193 = .ok (.istore 6, 2) := dk_54 6 (dk_at dksX7_readTerm_8 7 rfl rfl)
theorem dX7_readTerm_195 : decode cX7_readTerm 195 = .ok (.aload_n 0, 1) := dk_42 (dk_at dksX7_readTerm_8 9 rfl rfl)
theorem dX7_readTerm_196 : decode cX7_readTerm 196 = .ok (.getfield 18, 3) := dk_180 0 18 (dk_at dksX7_readTerm_8 10 rfl rfl)
theorem dX7_readTerm_199 : decode cX7_readTerm 199 = .ok (.iload 6, 2) := dk_21 6 (dk_at dksX7_readTerm_8 13 rfl rfl)
theorem dX7_readTerm_201 : decode cX7_readTerm 201 = .ok (.aload_n 0, 1) := dk_42 (dk_at dksX7_readTerm_8 15 rfl rfl)
theorem dX7_readTerm_202 : decode cX7_readTerm 202 = .ok (.getfield 18, 3) := dk_180 0 18 (dk_at dksX7_readTerm_8 16 rfl rfl)
theorem dX7_readTerm_205 : decode cX7_readTerm 205 = .ok (.iload 6, 2) := dk_21 6 (dk_at dksX7_readTerm_8 19 rfl rfl)
theorem dX7_readTerm_207 : decode cX7_readTerm 207 = .ok (.iaload, 1) := dk_46 (dk_at dksX7_readTerm_8 21 rfl rfl)
theorem dX7_readTerm_208 : decode cX7_readTerm 208 = .ok (.iload_n 1, 1) := dk_27 (dk_at dksX7_readTerm_8 22 rfl rfl)
theorem dX7_readTerm_209 : decode cX7_readTerm 209 = .ok (.ifCond .eq 12, 3) := dk_153 0 12 (dk_at dksX7_readTerm_9 0 rfl rfl)
theorem dX7_readTerm_212 : decode cX7_readTerm 212 = .ok (.aload_n 0, 1) := dk_42 (dk_at dksX7_readTerm_9 3 rfl rfl)
theorem dX7_readTerm_213 : decode cX7_readTerm 213 = .ok (.getfield 162, 3) := dk_180 0 162 (dk_at dksX7_readTerm_9 4 rfl rfl)
theorem dX7_readTerm_216 : decode cX7_readTerm 216 = .ok (.iload_n 2, 1) := dk_28 (dk_at dksX7_readTerm_9 7 rfl rfl)
theorem dX7_readTerm_217 : decode cX7_readTerm 217 = .ok (.isub, 1) := dk_100 (dk_at dksX7_readTerm_9 8 rfl rfl)
theorem dX7_readTerm_218 : decode cX7_readTerm 218 = .ok (.goto 4, 3) := dk_167 0 4 (dk_at dksX7_readTerm_9 9 rfl rfl)
theorem dX7_readTerm_221 : decode cX7_readTerm 221 = .ok (.iload_n 2, 1) := dk_28 (dk_at dksX7_readTerm_9 12 rfl rfl)
theorem dX7_readTerm_222 : decode cX7_readTerm 222 = .ok (.iadd, 1) := dk_96 (dk_at dksX7_readTerm_9 13 rfl rfl)
theorem dX7_readTerm_223 : decode cX7_readTerm 223 = .ok (.aload_n 0, 1) := dk_42 (dk_at dksX7_readTerm_9 14 rfl rfl)
theorem dX7_readTerm_224 : decode cX7_readTerm 224 = .ok (.getfield 162, 3) := dk_180 0 162 (dk_at dksX7_readTerm_9 15 rfl rfl)
theorem dX7_readTerm_227 : decode cX7_readTerm 227 = .ok (.irem, 1) := dk_112 (dk_at dksX7_readTerm_9 18 rfl rfl)
theorem dX7_readTerm_228 : decode cX7_readTerm 228 = .ok (.iastore, 1) := dk_79 (dk_at dksX7_readTerm_9 19 rfl rfl)
theorem dX7_readTerm_229 : decode cX7_readTerm 229 = .ok (.return_, 1) := dk_177 (dk_at dksX7_readTerm_9 20 rfl rfl)
abbrev cX7_laysOrder : ByteArray := prog_10_method_30_code
def yX7_laysOrder : MethodName := ⟨RX7, "laysOrder", "()V"⟩
def dkwX7_laysOrder_8 : List UInt8 := [177]
abbrev dktX7_laysOrder_8 : List UInt8 := dkwX7_laysOrder_8 ++ []
def dkwX7_laysOrder_7 : List UInt8 := [100, 29, 28, 182, 1, 1, 132, 3, 1, 167, 255, 222, 132, 2, 1, 167, 255, 208, 132, 1, 255, 167, 255, 134]
abbrev dktX7_laysOrder_7 : List UInt8 := dkwX7_laysOrder_7 ++ dktX7_laysOrder_8
def dkwX7_laysOrder_6 : List UInt8 := [16, 15, 163, 0, 34, 27, 29, 100, 28, 100, 3, 16, 15, 184, 0, 118, 153, 0, 14, 42, 27, 29, 100, 28]
abbrev dktX7_laysOrder_6 : List UInt8 := dkwX7_laysOrder_6 ++ dktX7_laysOrder_7
def dkwX7_laysOrder_5 : List UInt8 := [167, 255, 224, 132, 2, 255, 167, 255, 211, 167, 0, 56, 3, 61, 28, 16, 15, 163, 0, 48, 3, 62, 29]
abbrev dktX7_laysOrder_5 : List UInt8 := dkwX7_laysOrder_5 ++ dktX7_laysOrder_6
def dkwX7_laysOrder_4 : List UInt8 := [16, 15, 184, 0, 118, 153, 0, 14, 42, 28, 29, 27, 28, 100, 29, 100, 182, 1, 1, 132, 3, 255]
abbrev dktX7_laysOrder_4 : List UInt8 := dkwX7_laysOrder_4 ++ dktX7_laysOrder_5
def dkwX7_laysOrder_3 : List UInt8 := [4, 160, 0, 57, 16, 15, 61, 28, 155, 0, 47, 16, 15, 62, 29, 155, 0, 34, 27, 28, 100, 29, 100, 3]
abbrev dktX7_laysOrder_3 : List UInt8 := dkwX7_laysOrder_3 ++ dktX7_laysOrder_4
def dkwX7_laysOrder_2 : List UInt8 := [132, 2, 255, 167, 255, 229, 132, 1, 255, 167, 255, 216, 177, 16, 45, 60, 27, 155, 0, 124, 42, 180, 0, 233]
abbrev dktX7_laysOrder_2 : List UInt8 := dkwX7_laysOrder_2 ++ dktX7_laysOrder_3
def dkwX7_laysOrder_1 : List UInt8 := [155, 0, 29, 16, 15, 62, 29, 155, 0, 16, 42, 27, 28, 29, 182, 1, 1, 132, 3, 255, 167, 255, 242]
abbrev dktX7_laysOrder_1 : List UInt8 := dkwX7_laysOrder_1 ++ dktX7_laysOrder_2
def dkwX7_laysOrder_0 : List UInt8 := [42, 3, 181, 0, 251, 42, 180, 0, 233, 154, 0, 50, 16, 15, 60, 27, 155, 0, 42, 16, 15, 61, 28]
abbrev dktX7_laysOrder_0 : List UInt8 := dkwX7_laysOrder_0 ++ dktX7_laysOrder_1
theorem dksX7_laysOrder_0 : cX7_laysOrder.data.toList.drop 0 = dktX7_laysOrder_0 := by decide +kernel
theorem dksX7_laysOrder_1 : cX7_laysOrder.data.toList.drop 23 = dktX7_laysOrder_1 := dk_seg dksX7_laysOrder_0 23 rfl rfl
theorem dksX7_laysOrder_2 : cX7_laysOrder.data.toList.drop 46 = dktX7_laysOrder_2 := dk_seg dksX7_laysOrder_1 23 rfl rfl
theorem dksX7_laysOrder_3 : cX7_laysOrder.data.toList.drop 70 = dktX7_laysOrder_3 := dk_seg dksX7_laysOrder_2 24 rfl rfl
theorem dksX7_laysOrder_4 : cX7_laysOrder.data.toList.drop 94 = dktX7_laysOrder_4 := dk_seg dksX7_laysOrder_3 24 rfl rfl
theorem dksX7_laysOrder_5 : cX7_laysOrder.data.toList.drop 116 = dktX7_laysOrder_5 := dk_seg dksX7_laysOrder_4 22 rfl rfl
theorem dksX7_laysOrder_6 : cX7_laysOrder.data.toList.drop 139 = dktX7_laysOrder_6 := dk_seg dksX7_laysOrder_5 23 rfl rfl
theorem dksX7_laysOrder_7 : cX7_laysOrder.data.toList.drop 163 = dktX7_laysOrder_7 := dk_seg dksX7_laysOrder_6 24 rfl rfl
theorem dksX7_laysOrder_8 : cX7_laysOrder.data.toList.drop 187 = dktX7_laysOrder_8 := dk_seg dksX7_laysOrder_7 24 rfl rfl
theorem dX7_laysOrder_0 : decode cX7_laysOrder 0 = .ok (.aload_n 0, 1) := dk_42 (dk_at dksX7_laysOrder_0 0 rfl rfl)
theorem dX7_laysOrder_1 : decode cX7_laysOrder 1 = .ok (.iconst 0, 1) := dk_3 (dk_at dksX7_laysOrder_0 1 rfl rfl)
theorem dX7_laysOrder_2 : decode cX7_laysOrder 2 = .ok (.putfield 251, 3) := dk_181 0 251 (dk_at dksX7_laysOrder_0 2 rfl rfl)
theorem dX7_laysOrder_5 : decode cX7_laysOrder 5 = .ok (.aload_n 0, 1) := dk_42 (dk_at dksX7_laysOrder_0 5 rfl rfl)
theorem dX7_laysOrder_6 : decode cX7_laysOrder 6 = .ok (.getfield 233, 3) := dk_180 0 233 (dk_at dksX7_laysOrder_0 6 rfl rfl)
theorem dX7_laysOrder_9 : decode cX7_laysOrder 9 = .ok (.ifCond .ne 50, 3) := dk_154 0 50 (dk_at dksX7_laysOrder_0 9 rfl rfl)
theorem dX7_laysOrder_12 : decode cX7_laysOrder 12 = .ok (.bipush 15, 2) := dk_16 15 (dk_at dksX7_laysOrder_0 12 rfl rfl)
theorem dX7_laysOrder_14 : decode cX7_laysOrder 14 = .ok (.istore_n 1, 1) := dk_60 (dk_at dksX7_laysOrder_0 14 rfl rfl)
theorem dX7_laysOrder_15 : decode cX7_laysOrder 15 = .ok (.iload_n 1, 1) := dk_27 (dk_at dksX7_laysOrder_0 15 rfl rfl)
theorem dX7_laysOrder_16 : decode cX7_laysOrder 16 = .ok (.ifCond .lt 42, 3) := dk_155 0 42 (dk_at dksX7_laysOrder_0 16 rfl rfl)
theorem dX7_laysOrder_19 : decode cX7_laysOrder 19 = .ok (.bipush 15, 2) := dk_16 15 (dk_at dksX7_laysOrder_0 19 rfl rfl)
theorem dX7_laysOrder_21 : decode cX7_laysOrder 21 = .ok (.istore_n 2, 1) := dk_61 (dk_at dksX7_laysOrder_0 21 rfl rfl)
theorem dX7_laysOrder_22 : decode cX7_laysOrder 22 = .ok (.iload_n 2, 1) := dk_28 (dk_at dksX7_laysOrder_0 22 rfl rfl)
theorem dX7_laysOrder_23 : decode cX7_laysOrder 23 = .ok (.ifCond .lt 29, 3) := dk_155 0 29 (dk_at dksX7_laysOrder_1 0 rfl rfl)
theorem dX7_laysOrder_26 : decode cX7_laysOrder 26 = .ok (.bipush 15, 2) := dk_16 15 (dk_at dksX7_laysOrder_1 3 rfl rfl)
theorem dX7_laysOrder_28 : decode cX7_laysOrder 28 = .ok (.istore_n 3, 1) := dk_62 (dk_at dksX7_laysOrder_1 5 rfl rfl)
theorem dX7_laysOrder_29 : decode cX7_laysOrder 29 = .ok (.iload_n 3, 1) := dk_29 (dk_at dksX7_laysOrder_1 6 rfl rfl)
theorem dX7_laysOrder_30 : decode cX7_laysOrder 30 = .ok (.ifCond .lt 16, 3) := dk_155 0 16 (dk_at dksX7_laysOrder_1 7 rfl rfl)
theorem dX7_laysOrder_33 : decode cX7_laysOrder 33 = .ok (.aload_n 0, 1) := dk_42 (dk_at dksX7_laysOrder_1 10 rfl rfl)
theorem dX7_laysOrder_34 : decode cX7_laysOrder 34 = .ok (.iload_n 1, 1) := dk_27 (dk_at dksX7_laysOrder_1 11 rfl rfl)
theorem dX7_laysOrder_35 : decode cX7_laysOrder 35 = .ok (.iload_n 2, 1) := dk_28 (dk_at dksX7_laysOrder_1 12 rfl rfl)
theorem dX7_laysOrder_36 : decode cX7_laysOrder 36 = .ok (.iload_n 3, 1) := dk_29 (dk_at dksX7_laysOrder_1 13 rfl rfl)
theorem dX7_laysOrder_37 : decode cX7_laysOrder 37 = .ok (.invokevirtual 257, 3) := dk_182 1 1 (dk_at dksX7_laysOrder_1 14 rfl rfl)
theorem dX7_laysOrder_40 : decode cX7_laysOrder 40 = .ok (.iinc 3 (-1), 3) := dk_132 3 255 (dk_at dksX7_laysOrder_1 17 rfl rfl)
theorem dX7_laysOrder_43 : decode cX7_laysOrder 43 = .ok (.goto (-14), 3) := dk_167 255 242 (dk_at dksX7_laysOrder_1 20 rfl rfl)
theorem dX7_laysOrder_46 : decode cX7_laysOrder 46 = .ok (.iinc 2 (-1), 3) := dk_132 2 255 (dk_at dksX7_laysOrder_2 0 rfl rfl)
theorem dX7_laysOrder_49 : decode cX7_laysOrder 49 = .ok (.goto (-27), 3) := dk_167 255 229 (dk_at dksX7_laysOrder_2 3 rfl rfl)
theorem dX7_laysOrder_52 : decode cX7_laysOrder 52 = .ok (.iinc 1 (-1), 3) := dk_132 1 255 (dk_at dksX7_laysOrder_2 6 rfl rfl)
theorem dX7_laysOrder_55 : decode cX7_laysOrder 55 = .ok (.goto (-40), 3) := dk_167 255 216 (dk_at dksX7_laysOrder_2 9 rfl rfl)
theorem dX7_laysOrder_58 : decode cX7_laysOrder 58 = .ok (.return_, 1) := dk_177 (dk_at dksX7_laysOrder_2 12 rfl rfl)
theorem dX7_laysOrder_59 : decode cX7_laysOrder 59 = .ok (.bipush 45, 2) := dk_16 45 (dk_at dksX7_laysOrder_2 13 rfl rfl)
theorem dX7_laysOrder_61 : decode cX7_laysOrder 61 = .ok (.istore_n 1, 1) := dk_60 (dk_at dksX7_laysOrder_2 15 rfl rfl)
theorem dX7_laysOrder_62 : decode cX7_laysOrder 62 = .ok (.iload_n 1, 1) := dk_27 (dk_at dksX7_laysOrder_2 16 rfl rfl)
theorem dX7_laysOrder_63 : decode cX7_laysOrder 63 = .ok (.ifCond .lt 124, 3) := dk_155 0 124 (dk_at dksX7_laysOrder_2 17 rfl rfl)
theorem dX7_laysOrder_66 : decode cX7_laysOrder 66 = .ok (.aload_n 0, 1) := dk_42 (dk_at dksX7_laysOrder_2 20 rfl rfl)
theorem dX7_laysOrder_67 : decode cX7_laysOrder 67 = .ok (.getfield 233, 3) := dk_180 0 233 (dk_at dksX7_laysOrder_2 21 rfl rfl)
theorem dX7_laysOrder_70 : decode cX7_laysOrder 70 = .ok (.iconst 1, 1) := dk_4 (dk_at dksX7_laysOrder_3 0 rfl rfl)
theorem dX7_laysOrder_71 : decode cX7_laysOrder 71 = .ok (.if_icmp .ne 57, 3) := dk_160 0 57 (dk_at dksX7_laysOrder_3 1 rfl rfl)
theorem dX7_laysOrder_74 : decode cX7_laysOrder 74 = .ok (.bipush 15, 2) := dk_16 15 (dk_at dksX7_laysOrder_3 4 rfl rfl)
theorem dX7_laysOrder_76 : decode cX7_laysOrder 76 = .ok (.istore_n 2, 1) := dk_61 (dk_at dksX7_laysOrder_3 6 rfl rfl)
theorem dX7_laysOrder_77 : decode cX7_laysOrder 77 = .ok (.iload_n 2, 1) := dk_28 (dk_at dksX7_laysOrder_3 7 rfl rfl)
theorem dX7_laysOrder_78 : decode cX7_laysOrder 78 = .ok (.ifCond .lt 47, 3) := dk_155 0 47 (dk_at dksX7_laysOrder_3 8 rfl rfl)
theorem dX7_laysOrder_81 : decode cX7_laysOrder 81 = .ok (.bipush 15, 2) := dk_16 15 (dk_at dksX7_laysOrder_3 11 rfl rfl)
theorem dX7_laysOrder_83 : decode cX7_laysOrder 83 = .ok (.istore_n 3, 1) := dk_62 (dk_at dksX7_laysOrder_3 13 rfl rfl)
theorem dX7_laysOrder_84 : decode cX7_laysOrder 84 = .ok (.iload_n 3, 1) := dk_29 (dk_at dksX7_laysOrder_3 14 rfl rfl)
theorem dX7_laysOrder_85 : decode cX7_laysOrder 85 = .ok (.ifCond .lt 34, 3) := dk_155 0 34 (dk_at dksX7_laysOrder_3 15 rfl rfl)
theorem dX7_laysOrder_88 : decode cX7_laysOrder 88 = .ok (.iload_n 1, 1) := dk_27 (dk_at dksX7_laysOrder_3 18 rfl rfl)
theorem dX7_laysOrder_89 : decode cX7_laysOrder 89 = .ok (.iload_n 2, 1) := dk_28 (dk_at dksX7_laysOrder_3 19 rfl rfl)
theorem dX7_laysOrder_90 : decode cX7_laysOrder 90 = .ok (.isub, 1) := dk_100 (dk_at dksX7_laysOrder_3 20 rfl rfl)
theorem dX7_laysOrder_91 : decode cX7_laysOrder 91 = .ok (.iload_n 3, 1) := dk_29 (dk_at dksX7_laysOrder_3 21 rfl rfl)
theorem dX7_laysOrder_92 : decode cX7_laysOrder 92 = .ok (.isub, 1) := dk_100 (dk_at dksX7_laysOrder_3 22 rfl rfl)
theorem dX7_laysOrder_93 : decode cX7_laysOrder 93 = .ok (.iconst 0, 1) := dk_3 (dk_at dksX7_laysOrder_3 23 rfl rfl)
theorem dX7_laysOrder_94 : decode cX7_laysOrder 94 = .ok (.bipush 15, 2) := dk_16 15 (dk_at dksX7_laysOrder_4 0 rfl rfl)
theorem dX7_laysOrder_96 : decode cX7_laysOrder 96 = .ok (.invokestatic 118, 3) := dk_184 0 118 (dk_at dksX7_laysOrder_4 2 rfl rfl)
theorem dX7_laysOrder_99 : decode cX7_laysOrder 99 = .ok (.ifCond .eq 14, 3) := dk_153 0 14 (dk_at dksX7_laysOrder_4 5 rfl rfl)
theorem dX7_laysOrder_102 : decode cX7_laysOrder 102 = .ok (.aload_n 0, 1) := dk_42 (dk_at dksX7_laysOrder_4 8 rfl rfl)
theorem dX7_laysOrder_103 : decode cX7_laysOrder 103 = .ok (.iload_n 2, 1) := dk_28 (dk_at dksX7_laysOrder_4 9 rfl rfl)
theorem dX7_laysOrder_104 : decode cX7_laysOrder 104 = .ok (.iload_n 3, 1) := dk_29 (dk_at dksX7_laysOrder_4 10 rfl rfl)
theorem dX7_laysOrder_105 : decode cX7_laysOrder 105 = .ok (.iload_n 1, 1) := dk_27 (dk_at dksX7_laysOrder_4 11 rfl rfl)
theorem dX7_laysOrder_106 : decode cX7_laysOrder 106 = .ok (.iload_n 2, 1) := dk_28 (dk_at dksX7_laysOrder_4 12 rfl rfl)
theorem dX7_laysOrder_107 : decode cX7_laysOrder 107 = .ok (.isub, 1) := dk_100 (dk_at dksX7_laysOrder_4 13 rfl rfl)
theorem dX7_laysOrder_108 : decode cX7_laysOrder 108 = .ok (.iload_n 3, 1) := dk_29 (dk_at dksX7_laysOrder_4 14 rfl rfl)
theorem dX7_laysOrder_109 : decode cX7_laysOrder 109 = .ok (.isub, 1) := dk_100 (dk_at dksX7_laysOrder_4 15 rfl rfl)
theorem dX7_laysOrder_110 : decode cX7_laysOrder 110 = .ok (.invokevirtual 257, 3) := dk_182 1 1 (dk_at dksX7_laysOrder_4 16 rfl rfl)
theorem dX7_laysOrder_113 : decode cX7_laysOrder 113 = .ok (.iinc 3 (-1), 3) := dk_132 3 255 (dk_at dksX7_laysOrder_4 19 rfl rfl)
theorem dX7_laysOrder_116 : decode cX7_laysOrder 116 = .ok (.goto (-32), 3) := dk_167 255 224 (dk_at dksX7_laysOrder_5 0 rfl rfl)
theorem dX7_laysOrder_119 : decode cX7_laysOrder 119 = .ok (.iinc 2 (-1), 3) := dk_132 2 255 (dk_at dksX7_laysOrder_5 3 rfl rfl)
theorem dX7_laysOrder_122 : decode cX7_laysOrder 122 = .ok (.goto (-45), 3) := dk_167 255 211 (dk_at dksX7_laysOrder_5 6 rfl rfl)
theorem dX7_laysOrder_125 : decode cX7_laysOrder 125 = .ok (.goto 56, 3) := dk_167 0 56 (dk_at dksX7_laysOrder_5 9 rfl rfl)
theorem dX7_laysOrder_128 : decode cX7_laysOrder 128 = .ok (.iconst 0, 1) := dk_3 (dk_at dksX7_laysOrder_5 12 rfl rfl)
theorem dX7_laysOrder_129 : decode cX7_laysOrder 129 = .ok (.istore_n 2, 1) := dk_61 (dk_at dksX7_laysOrder_5 13 rfl rfl)
theorem dX7_laysOrder_130 : decode cX7_laysOrder 130 = .ok (.iload_n 2, 1) := dk_28 (dk_at dksX7_laysOrder_5 14 rfl rfl)
theorem dX7_laysOrder_131 : decode cX7_laysOrder 131 = .ok (.bipush 15, 2) := dk_16 15 (dk_at dksX7_laysOrder_5 15 rfl rfl)
theorem dX7_laysOrder_133 : decode cX7_laysOrder 133 = .ok (.if_icmp .gt 48, 3) := dk_163 0 48 (dk_at dksX7_laysOrder_5 17 rfl rfl)
theorem dX7_laysOrder_136 : decode cX7_laysOrder 136 = .ok (.iconst 0, 1) := dk_3 (dk_at dksX7_laysOrder_5 20 rfl rfl)
theorem dX7_laysOrder_137 : decode cX7_laysOrder 137 = .ok (.istore_n 3, 1) := dk_62 (dk_at dksX7_laysOrder_5 21 rfl rfl)
theorem dX7_laysOrder_138 : decode cX7_laysOrder 138 = .ok (.iload_n 3, 1) := dk_29 (dk_at dksX7_laysOrder_5 22 rfl rfl)
theorem dX7_laysOrder_139 : decode cX7_laysOrder 139 = .ok (.bipush 15, 2) := dk_16 15 (dk_at dksX7_laysOrder_6 0 rfl rfl)
theorem dX7_laysOrder_141 : decode cX7_laysOrder 141 = .ok (.if_icmp .gt 34, 3) := dk_163 0 34 (dk_at dksX7_laysOrder_6 2 rfl rfl)
theorem dX7_laysOrder_144 : decode cX7_laysOrder 144 = .ok (.iload_n 1, 1) := dk_27 (dk_at dksX7_laysOrder_6 5 rfl rfl)
theorem dX7_laysOrder_145 : decode cX7_laysOrder 145 = .ok (.iload_n 3, 1) := dk_29 (dk_at dksX7_laysOrder_6 6 rfl rfl)
theorem dX7_laysOrder_146 : decode cX7_laysOrder 146 = .ok (.isub, 1) := dk_100 (dk_at dksX7_laysOrder_6 7 rfl rfl)
theorem dX7_laysOrder_147 : decode cX7_laysOrder 147 = .ok (.iload_n 2, 1) := dk_28 (dk_at dksX7_laysOrder_6 8 rfl rfl)
theorem dX7_laysOrder_148 : decode cX7_laysOrder 148 = .ok (.isub, 1) := dk_100 (dk_at dksX7_laysOrder_6 9 rfl rfl)
theorem dX7_laysOrder_149 : decode cX7_laysOrder 149 = .ok (.iconst 0, 1) := dk_3 (dk_at dksX7_laysOrder_6 10 rfl rfl)
theorem dX7_laysOrder_150 : decode cX7_laysOrder 150 = .ok (.bipush 15, 2) := dk_16 15 (dk_at dksX7_laysOrder_6 11 rfl rfl)
theorem dX7_laysOrder_152 : decode cX7_laysOrder 152 = .ok (.invokestatic 118, 3) := dk_184 0 118 (dk_at dksX7_laysOrder_6 13 rfl rfl)
theorem dX7_laysOrder_155 : decode cX7_laysOrder 155 = .ok (.ifCond .eq 14, 3) := dk_153 0 14 (dk_at dksX7_laysOrder_6 16 rfl rfl)
theorem dX7_laysOrder_158 : decode cX7_laysOrder 158 = .ok (.aload_n 0, 1) := dk_42 (dk_at dksX7_laysOrder_6 19 rfl rfl)
theorem dX7_laysOrder_159 : decode cX7_laysOrder 159 = .ok (.iload_n 1, 1) := dk_27 (dk_at dksX7_laysOrder_6 20 rfl rfl)
theorem dX7_laysOrder_160 : decode cX7_laysOrder 160 = .ok (.iload_n 3, 1) := dk_29 (dk_at dksX7_laysOrder_6 21 rfl rfl)
theorem dX7_laysOrder_161 : decode cX7_laysOrder 161 = .ok (.isub, 1) := dk_100 (dk_at dksX7_laysOrder_6 22 rfl rfl)
theorem dX7_laysOrder_162 : decode cX7_laysOrder 162 = .ok (.iload_n 2, 1) := dk_28 (dk_at dksX7_laysOrder_6 23 rfl rfl)
theorem dX7_laysOrder_163 : decode cX7_laysOrder 163 = .ok (.isub, 1) := dk_100 (dk_at dksX7_laysOrder_7 0 rfl rfl)
theorem dX7_laysOrder_164 : decode cX7_laysOrder 164 = .ok (.iload_n 3, 1) := dk_29 (dk_at dksX7_laysOrder_7 1 rfl rfl)
theorem dX7_laysOrder_165 : decode cX7_laysOrder 165 = .ok (.iload_n 2, 1) := dk_28 (dk_at dksX7_laysOrder_7 2 rfl rfl)
theorem dX7_laysOrder_166 : decode cX7_laysOrder 166 = .ok (.invokevirtual 257, 3) := dk_182 1 1 (dk_at dksX7_laysOrder_7 3 rfl rfl)
theorem dX7_laysOrder_169 : decode cX7_laysOrder 169 = .ok (.iinc 3 1, 3) := dk_132 3 1 (dk_at dksX7_laysOrder_7 6 rfl rfl)
theorem dX7_laysOrder_172 : decode cX7_laysOrder 172 = .ok (.goto (-34), 3) := dk_167 255 222 (dk_at dksX7_laysOrder_7 9 rfl rfl)
theorem dX7_laysOrder_175 : decode cX7_laysOrder 175 = .ok (.iinc 2 1, 3) := dk_132 2 1 (dk_at dksX7_laysOrder_7 12 rfl rfl)
theorem dX7_laysOrder_178 : decode cX7_laysOrder 178 = .ok (.goto (-48), 3) := dk_167 255 208 (dk_at dksX7_laysOrder_7 15 rfl rfl)
theorem dX7_laysOrder_181 : decode cX7_laysOrder 181 = .ok (.iinc 1 (-1), 3) := dk_132 1 255 (dk_at dksX7_laysOrder_7 18 rfl rfl)
theorem dX7_laysOrder_184 : decode cX7_laysOrder 184 = .ok (.goto (-122), 3) := dk_167 255 134 (dk_at dksX7_laysOrder_7 21 rfl rfl)
theorem dX7_laysOrder_187 : decode cX7_laysOrder 187 = .ok (.return_, 1) := dk_177 (dk_at dksX7_laysOrder_8 0 rfl rfl)
abbrev cX7_laysKey : ByteArray := prog_10_method_29_code
def yX7_laysKey : MethodName := ⟨RX7, "laysKey", "(III)V"⟩
def dkwX7_laysKey_1 : List UInt8 := [128, 29, 7, 42, 182, 0, 254, 104, 120, 128, 79, 42, 89, 180, 0, 251, 4, 96, 181, 0, 251, 177]
abbrev dktX7_laysKey_1 : List UInt8 := dkwX7_laysKey_1 ++ []
def dkwX7_laysKey_0 : List UInt8 := [42, 180, 0, 25, 42, 180, 0, 251, 27, 7, 42, 180, 0, 236, 104, 120, 28, 7, 42, 180, 0, 239, 104, 120]
abbrev dktX7_laysKey_0 : List UInt8 := dkwX7_laysKey_0 ++ dktX7_laysKey_1
theorem dksX7_laysKey_0 : cX7_laysKey.data.toList.drop 0 = dktX7_laysKey_0 := by decide +kernel
theorem dksX7_laysKey_1 : cX7_laysKey.data.toList.drop 24 = dktX7_laysKey_1 := dk_seg dksX7_laysKey_0 24 rfl rfl
theorem dX7_laysKey_0 : decode cX7_laysKey 0 = .ok (.aload_n 0, 1) := dk_42 (dk_at dksX7_laysKey_0 0 rfl rfl)
theorem dX7_laysKey_1 : decode cX7_laysKey 1 = .ok (.getfield 25, 3) := dk_180 0 25 (dk_at dksX7_laysKey_0 1 rfl rfl)
theorem dX7_laysKey_4 : decode cX7_laysKey 4 = .ok (.aload_n 0, 1) := dk_42 (dk_at dksX7_laysKey_0 4 rfl rfl)
theorem dX7_laysKey_5 : decode cX7_laysKey 5 = .ok (.getfield 251, 3) := dk_180 0 251 (dk_at dksX7_laysKey_0 5 rfl rfl)
theorem dX7_laysKey_8 : decode cX7_laysKey 8 = .ok (.iload_n 1, 1) := dk_27 (dk_at dksX7_laysKey_0 8 rfl rfl)
theorem dX7_laysKey_9 : decode cX7_laysKey 9 = .ok (.iconst 4, 1) := dk_7 (dk_at dksX7_laysKey_0 9 rfl rfl)
theorem dX7_laysKey_10 : decode cX7_laysKey 10 = .ok (.aload_n 0, 1) := dk_42 (dk_at dksX7_laysKey_0 10 rfl rfl)
theorem dX7_laysKey_11 : decode cX7_laysKey 11 = .ok (.getfield 236, 3) := dk_180 0 236 (dk_at dksX7_laysKey_0 11 rfl rfl)
theorem dX7_laysKey_14 : decode cX7_laysKey 14 = .ok (.imul, 1) := dk_104 (dk_at dksX7_laysKey_0 14 rfl rfl)
theorem dX7_laysKey_15 : decode cX7_laysKey 15 = .ok (.ishl, 1) := dk_120 (dk_at dksX7_laysKey_0 15 rfl rfl)
theorem dX7_laysKey_16 : decode cX7_laysKey 16 = .ok (.iload_n 2, 1) := dk_28 (dk_at dksX7_laysKey_0 16 rfl rfl)
theorem dX7_laysKey_17 : decode cX7_laysKey 17 = .ok (.iconst 4, 1) := dk_7 (dk_at dksX7_laysKey_0 17 rfl rfl)
theorem dX7_laysKey_18 : decode cX7_laysKey 18 = .ok (.aload_n 0, 1) := dk_42 (dk_at dksX7_laysKey_0 18 rfl rfl)
theorem dX7_laysKey_19 : decode cX7_laysKey 19 = .ok (.getfield 239, 3) := dk_180 0 239 (dk_at dksX7_laysKey_0 19 rfl rfl)
theorem dX7_laysKey_22 : decode cX7_laysKey 22 = .ok (.imul, 1) := dk_104 (dk_at dksX7_laysKey_0 22 rfl rfl)
theorem dX7_laysKey_23 : decode cX7_laysKey 23 = .ok (.ishl, 1) := dk_120 (dk_at dksX7_laysKey_0 23 rfl rfl)
theorem dX7_laysKey_24 : decode cX7_laysKey 24 = .ok (.ior, 1) := dk_128 (dk_at dksX7_laysKey_1 0 rfl rfl)
theorem dX7_laysKey_25 : decode cX7_laysKey 25 = .ok (.iload_n 3, 1) := dk_29 (dk_at dksX7_laysKey_1 1 rfl rfl)
theorem dX7_laysKey_26 : decode cX7_laysKey 26 = .ok (.iconst 4, 1) := dk_7 (dk_at dksX7_laysKey_1 2 rfl rfl)
theorem dX7_laysKey_27 : decode cX7_laysKey 27 = .ok (.aload_n 0, 1) := dk_42 (dk_at dksX7_laysKey_1 3 rfl rfl)
theorem dX7_laysKey_28 : decode cX7_laysKey 28 = .ok (.invokevirtual 254, 3) := dk_182 0 254 (dk_at dksX7_laysKey_1 4 rfl rfl)
theorem dX7_laysKey_31 : decode cX7_laysKey 31 = .ok (.imul, 1) := dk_104 (dk_at dksX7_laysKey_1 7 rfl rfl)
theorem dX7_laysKey_32 : decode cX7_laysKey 32 = .ok (.ishl, 1) := dk_120 (dk_at dksX7_laysKey_1 8 rfl rfl)
theorem dX7_laysKey_33 : decode cX7_laysKey 33 = .ok (.ior, 1) := dk_128 (dk_at dksX7_laysKey_1 9 rfl rfl)
theorem dX7_laysKey_34 : decode cX7_laysKey 34 = .ok (.iastore, 1) := dk_79 (dk_at dksX7_laysKey_1 10 rfl rfl)
theorem dX7_laysKey_35 : decode cX7_laysKey 35 = .ok (.aload_n 0, 1) := dk_42 (dk_at dksX7_laysKey_1 11 rfl rfl)
theorem dX7_laysKey_36 : decode cX7_laysKey 36 = .ok (.dup, 1) := dk_89 (dk_at dksX7_laysKey_1 12 rfl rfl)
theorem dX7_laysKey_37 : decode cX7_laysKey 37 = .ok (.getfield 251, 3) := dk_180 0 251 (dk_at dksX7_laysKey_1 13 rfl rfl)
theorem dX7_laysKey_40 : decode cX7_laysKey 40 = .ok (.iconst 1, 1) := dk_4 (dk_at dksX7_laysKey_1 16 rfl rfl)
theorem dX7_laysKey_41 : decode cX7_laysKey 41 = .ok (.iadd, 1) := dk_96 (dk_at dksX7_laysKey_1 17 rfl rfl)
theorem dX7_laysKey_42 : decode cX7_laysKey 42 = .ok (.putfield 251, 3) := dk_181 0 251 (dk_at dksX7_laysKey_1 18 rfl rfl)
theorem dX7_laysKey_45 : decode cX7_laysKey 45 = .ok (.return_, 1) := dk_177 (dk_at dksX7_laysKey_1 21 rfl rfl)
abbrev cX7_third : ByteArray := prog_10_method_28_code
def yX7_third : MethodName := ⟨RX7, "third", "()I"⟩
def dkwX7_third_0 : List UInt8 := [6, 42, 180, 0, 236, 100, 42, 180, 0, 239, 100, 172]
abbrev dktX7_third_0 : List UInt8 := dkwX7_third_0 ++ []
theorem dksX7_third_0 : cX7_third.data.toList.drop 0 = dktX7_third_0 := by decide +kernel
theorem dX7_third_0 : decode cX7_third 0 = .ok (.iconst 3, 1) := dk_6 (dk_at dksX7_third_0 0 rfl rfl)
theorem dX7_third_1 : decode cX7_third 1 = .ok (.aload_n 0, 1) := dk_42 (dk_at dksX7_third_0 1 rfl rfl)
theorem dX7_third_2 : decode cX7_third 2 = .ok (.getfield 236, 3) := dk_180 0 236 (dk_at dksX7_third_0 2 rfl rfl)
theorem dX7_third_5 : decode cX7_third 5 = .ok (.isub, 1) := dk_100 (dk_at dksX7_third_0 5 rfl rfl)
theorem dX7_third_6 : decode cX7_third 6 = .ok (.aload_n 0, 1) := dk_42 (dk_at dksX7_third_0 6 rfl rfl)
theorem dX7_third_7 : decode cX7_third 7 = .ok (.getfield 239, 3) := dk_180 0 239 (dk_at dksX7_third_0 7 rfl rfl)
theorem dX7_third_10 : decode cX7_third 10 = .ok (.isub, 1) := dk_100 (dk_at dksX7_third_0 10 rfl rfl)
theorem dX7_third_11 : decode cX7_third 11 = .ok (.ireturn, 1) := dk_172 (dk_at dksX7_third_0 11 rfl rfl)
abbrev cX7_good : ByteArray := prog_10_method_4_code
def yX7_good : MethodName := ⟨RX7, "good", "(I)I"⟩
def dkwX7_good_0 : List UInt8 := [42, 3, 181, 0, 92, 42, 2, 181, 0, 9, 27, 172]
abbrev dktX7_good_0 : List UInt8 := dkwX7_good_0 ++ []
theorem dksX7_good_0 : cX7_good.data.toList.drop 0 = dktX7_good_0 := by decide +kernel
theorem dX7_good_0 : decode cX7_good 0 = .ok (.aload_n 0, 1) := dk_42 (dk_at dksX7_good_0 0 rfl rfl)
theorem dX7_good_1 : decode cX7_good 1 = .ok (.iconst 0, 1) := dk_3 (dk_at dksX7_good_0 1 rfl rfl)
theorem dX7_good_2 : decode cX7_good 2 = .ok (.putfield 92, 3) := dk_181 0 92 (dk_at dksX7_good_0 2 rfl rfl)
theorem dX7_good_5 : decode cX7_good 5 = .ok (.aload_n 0, 1) := dk_42 (dk_at dksX7_good_0 5 rfl rfl)
theorem dX7_good_6 : decode cX7_good 6 = .ok (.iconst (-1), 1) := dk_2 (dk_at dksX7_good_0 6 rfl rfl)
theorem dX7_good_7 : decode cX7_good 7 = .ok (.putfield 9, 3) := dk_181 0 9 (dk_at dksX7_good_0 7 rfl rfl)
theorem dX7_good_10 : decode cX7_good 10 = .ok (.iload_n 1, 1) := dk_27 (dk_at dksX7_good_0 10 rfl rfl)
theorem dX7_good_11 : decode cX7_good 11 = .ok (.ireturn, 1) := dk_172 (dk_at dksX7_good_0 11 rfl rfl)
abbrev cX7_fault : ByteArray := prog_10_method_26_code
def yX7_fault : MethodName := ⟨RX7, "fault", "()I"⟩
def dkwX7_fault_0 : List UInt8 := [42, 3, 181, 0, 89, 42, 180, 0, 102, 172]
abbrev dktX7_fault_0 : List UInt8 := dkwX7_fault_0 ++ []
theorem dksX7_fault_0 : cX7_fault.data.toList.drop 0 = dktX7_fault_0 := by decide +kernel
theorem dX7_fault_0 : decode cX7_fault 0 = .ok (.aload_n 0, 1) := dk_42 (dk_at dksX7_fault_0 0 rfl rfl)
theorem dX7_fault_1 : decode cX7_fault 1 = .ok (.iconst 0, 1) := dk_3 (dk_at dksX7_fault_0 1 rfl rfl)
theorem dX7_fault_2 : decode cX7_fault 2 = .ok (.putfield 89, 3) := dk_181 0 89 (dk_at dksX7_fault_0 2 rfl rfl)
theorem dX7_fault_5 : decode cX7_fault 5 = .ok (.aload_n 0, 1) := dk_42 (dk_at dksX7_fault_0 5 rfl rfl)
theorem dX7_fault_6 : decode cX7_fault 6 = .ok (.getfield 102, 3) := dk_180 0 102 (dk_at dksX7_fault_0 6 rfl rfl)
theorem dX7_fault_9 : decode cX7_fault 9 = .ok (.ireturn, 1) := dk_172 (dk_at dksX7_fault_0 9 rfl rfl)
abbrev cX7_where : ByteArray := prog_10_method_27_code
def yX7_where : MethodName := ⟨RX7, "where", "()I"⟩
def dkwX7_where_0 : List UInt8 := [42, 3, 181, 0, 89, 42, 180, 0, 9, 172]
abbrev dktX7_where_0 : List UInt8 := dkwX7_where_0 ++ []
theorem dksX7_where_0 : cX7_where.data.toList.drop 0 = dktX7_where_0 := by decide +kernel
theorem dX7_where_0 : decode cX7_where 0 = .ok (.aload_n 0, 1) := dk_42 (dk_at dksX7_where_0 0 rfl rfl)
theorem dX7_where_1 : decode cX7_where 1 = .ok (.iconst 0, 1) := dk_3 (dk_at dksX7_where_0 1 rfl rfl)
theorem dX7_where_2 : decode cX7_where 2 = .ok (.putfield 89, 3) := dk_181 0 89 (dk_at dksX7_where_0 2 rfl rfl)
theorem dX7_where_5 : decode cX7_where 5 = .ok (.aload_n 0, 1) := dk_42 (dk_at dksX7_where_0 5 rfl rfl)
theorem dX7_where_6 : decode cX7_where 6 = .ok (.getfield 9, 3) := dk_180 0 9 (dk_at dksX7_where_0 6 rfl rfl)
theorem dX7_where_9 : decode cX7_where 9 = .ok (.ireturn, 1) := dk_172 (dk_at dksX7_where_0 9 rfl rfl)
abbrev cX7_about : ByteArray := prog_10_method_41_code
def yX7_about : MethodName := ⟨RX7, "about", "(I)I"⟩
def dkwX7_about_4 : List UInt8 := [182, 1, 17, 182, 0, 248, 172, 42, 4, 182, 0, 221, 172]
abbrev dktX7_about_4 : List UInt8 := dkwX7_about_4 ++ []
def dkwX7_about_3 : List UInt8 := [182, 0, 248, 172, 42, 42, 180, 0, 239, 182, 0, 248, 172, 42, 42, 182, 0, 254, 182, 0, 248, 172, 42, 42]
abbrev dktX7_about_3 : List UInt8 := dkwX7_about_3 ++ dktX7_about_4
def dkwX7_about_2 : List UInt8 := [42, 42, 180, 0, 231, 182, 0, 248, 172, 42, 42, 180, 0, 233, 182, 0, 248, 172, 42, 42, 180, 0, 236]
abbrev dktX7_about_2 : List UInt8 := dkwX7_about_2 ++ dktX7_about_3
def dkwX7_about_1 : List UInt8 := [170, 0, 0, 0, 91, 0, 0, 0, 0, 0, 0, 0, 5, 0, 0, 0, 37, 0, 0, 0, 46, 0, 0, 0, 55, 0, 0, 0, 64, 0, 0, 0, 73, 0, 0, 0, 82]
abbrev dktX7_about_1 : List UInt8 := dkwX7_about_1 ++ dktX7_about_2
def dkwX7_about_0 : List UInt8 := [42, 3, 181, 0, 89, 42, 180, 0, 227, 154, 0, 9, 42, 4, 182, 0, 221, 172, 27]
abbrev dktX7_about_0 : List UInt8 := dkwX7_about_0 ++ dktX7_about_1
theorem dksX7_about_0 : cX7_about.data.toList.drop 0 = dktX7_about_0 := by decide +kernel
theorem dksX7_about_1 : cX7_about.data.toList.drop 19 = dktX7_about_1 := dk_seg dksX7_about_0 19 rfl rfl
theorem dksX7_about_2 : cX7_about.data.toList.drop 56 = dktX7_about_2 := dk_seg dksX7_about_1 37 rfl rfl
theorem dksX7_about_3 : cX7_about.data.toList.drop 79 = dktX7_about_3 := dk_seg dksX7_about_2 23 rfl rfl
theorem dksX7_about_4 : cX7_about.data.toList.drop 103 = dktX7_about_4 := dk_seg dksX7_about_3 24 rfl rfl
theorem dX7_about_0 : decode cX7_about 0 = .ok (.aload_n 0, 1) := dk_42 (dk_at dksX7_about_0 0 rfl rfl)
theorem dX7_about_1 : decode cX7_about 1 = .ok (.iconst 0, 1) := dk_3 (dk_at dksX7_about_0 1 rfl rfl)
theorem dX7_about_2 : decode cX7_about 2 = .ok (.putfield 89, 3) := dk_181 0 89 (dk_at dksX7_about_0 2 rfl rfl)
theorem dX7_about_5 : decode cX7_about 5 = .ok (.aload_n 0, 1) := dk_42 (dk_at dksX7_about_0 5 rfl rfl)
theorem dX7_about_6 : decode cX7_about 6 = .ok (.getfield 227, 3) := dk_180 0 227 (dk_at dksX7_about_0 6 rfl rfl)
theorem dX7_about_9 : decode cX7_about 9 = .ok (.ifCond .ne 9, 3) := dk_154 0 9 (dk_at dksX7_about_0 9 rfl rfl)
theorem dX7_about_12 : decode cX7_about 12 = .ok (.aload_n 0, 1) := dk_42 (dk_at dksX7_about_0 12 rfl rfl)
theorem dX7_about_13 : decode cX7_about 13 = .ok (.iconst 1, 1) := dk_4 (dk_at dksX7_about_0 13 rfl rfl)
theorem dX7_about_14 : decode cX7_about 14 = .ok (.invokevirtual 221, 3) := dk_182 0 221 (dk_at dksX7_about_0 14 rfl rfl)
theorem dX7_about_17 : decode cX7_about 17 = .ok (.ireturn, 1) := dk_172 (dk_at dksX7_about_0 17 rfl rfl)
theorem dX7_about_18 : decode cX7_about 18 = .ok (.iload_n 1, 1) := dk_27 (dk_at dksX7_about_0 18 rfl rfl)
theorem dX7_about_19 : decode cX7_about 19 = .ok (.tableswitch 91 0 5 #[37, 46, 55, 64, 73, 82], 37) := by decide +kernel
theorem dX7_about_56 : decode cX7_about 56 = .ok (.aload_n 0, 1) := dk_42 (dk_at dksX7_about_2 0 rfl rfl)
theorem dX7_about_57 : decode cX7_about 57 = .ok (.aload_n 0, 1) := dk_42 (dk_at dksX7_about_2 1 rfl rfl)
theorem dX7_about_58 : decode cX7_about 58 = .ok (.getfield 231, 3) := dk_180 0 231 (dk_at dksX7_about_2 2 rfl rfl)
theorem dX7_about_61 : decode cX7_about 61 = .ok (.invokevirtual 248, 3) := dk_182 0 248 (dk_at dksX7_about_2 5 rfl rfl)
theorem dX7_about_64 : decode cX7_about 64 = .ok (.ireturn, 1) := dk_172 (dk_at dksX7_about_2 8 rfl rfl)
theorem dX7_about_65 : decode cX7_about 65 = .ok (.aload_n 0, 1) := dk_42 (dk_at dksX7_about_2 9 rfl rfl)
theorem dX7_about_66 : decode cX7_about 66 = .ok (.aload_n 0, 1) := dk_42 (dk_at dksX7_about_2 10 rfl rfl)
theorem dX7_about_67 : decode cX7_about 67 = .ok (.getfield 233, 3) := dk_180 0 233 (dk_at dksX7_about_2 11 rfl rfl)
theorem dX7_about_70 : decode cX7_about 70 = .ok (.invokevirtual 248, 3) := dk_182 0 248 (dk_at dksX7_about_2 14 rfl rfl)
theorem dX7_about_73 : decode cX7_about 73 = .ok (.ireturn, 1) := dk_172 (dk_at dksX7_about_2 17 rfl rfl)
theorem dX7_about_74 : decode cX7_about 74 = .ok (.aload_n 0, 1) := dk_42 (dk_at dksX7_about_2 18 rfl rfl)
theorem dX7_about_75 : decode cX7_about 75 = .ok (.aload_n 0, 1) := dk_42 (dk_at dksX7_about_2 19 rfl rfl)
theorem dX7_about_76 : decode cX7_about 76 = .ok (.getfield 236, 3) := dk_180 0 236 (dk_at dksX7_about_2 20 rfl rfl)
theorem dX7_about_79 : decode cX7_about 79 = .ok (.invokevirtual 248, 3) := dk_182 0 248 (dk_at dksX7_about_3 0 rfl rfl)
theorem dX7_about_82 : decode cX7_about 82 = .ok (.ireturn, 1) := dk_172 (dk_at dksX7_about_3 3 rfl rfl)
theorem dX7_about_83 : decode cX7_about 83 = .ok (.aload_n 0, 1) := dk_42 (dk_at dksX7_about_3 4 rfl rfl)
theorem dX7_about_84 : decode cX7_about 84 = .ok (.aload_n 0, 1) := dk_42 (dk_at dksX7_about_3 5 rfl rfl)
theorem dX7_about_85 : decode cX7_about 85 = .ok (.getfield 239, 3) := dk_180 0 239 (dk_at dksX7_about_3 6 rfl rfl)
theorem dX7_about_88 : decode cX7_about 88 = .ok (.invokevirtual 248, 3) := dk_182 0 248 (dk_at dksX7_about_3 9 rfl rfl)
theorem dX7_about_91 : decode cX7_about 91 = .ok (.ireturn, 1) := dk_172 (dk_at dksX7_about_3 12 rfl rfl)
theorem dX7_about_92 : decode cX7_about 92 = .ok (.aload_n 0, 1) := dk_42 (dk_at dksX7_about_3 13 rfl rfl)
theorem dX7_about_93 : decode cX7_about 93 = .ok (.aload_n 0, 1) := dk_42 (dk_at dksX7_about_3 14 rfl rfl)
theorem dX7_about_94 : decode cX7_about 94 = .ok (.invokevirtual 254, 3) := dk_182 0 254 (dk_at dksX7_about_3 15 rfl rfl)
theorem dX7_about_97 : decode cX7_about 97 = .ok (.invokevirtual 248, 3) := dk_182 0 248 (dk_at dksX7_about_3 18 rfl rfl)
theorem dX7_about_100 : decode cX7_about 100 = .ok (.ireturn, 1) := dk_172 (dk_at dksX7_about_3 21 rfl rfl)
theorem dX7_about_101 : decode cX7_about 101 = .ok (.aload_n 0, 1) := dk_42 (dk_at dksX7_about_3 22 rfl rfl)
theorem dX7_about_102 : decode cX7_about 102 = .ok (.aload_n 0, 1) := dk_42 (dk_at dksX7_about_3 23 rfl rfl)
theorem dX7_about_103 : decode cX7_about 103 = .ok (.invokevirtual 273, 3) := dk_182 1 17 (dk_at dksX7_about_4 0 rfl rfl)
theorem dX7_about_106 : decode cX7_about 106 = .ok (.invokevirtual 248, 3) := dk_182 0 248 (dk_at dksX7_about_4 3 rfl rfl)
theorem dX7_about_109 : decode cX7_about 109 = .ok (.ireturn, 1) := dk_172 (dk_at dksX7_about_4 6 rfl rfl)
theorem dX7_about_110 : decode cX7_about 110 = .ok (.aload_n 0, 1) := dk_42 (dk_at dksX7_about_4 7 rfl rfl)
theorem dX7_about_111 : decode cX7_about 111 = .ok (.iconst 1, 1) := dk_4 (dk_at dksX7_about_4 8 rfl rfl)
theorem dX7_about_112 : decode cX7_about 112 = .ok (.invokevirtual 221, 3) := dk_182 0 221 (dk_at dksX7_about_4 9 rfl rfl)
theorem dX7_about_115 : decode cX7_about 115 = .ok (.ireturn, 1) := dk_172 (dk_at dksX7_about_4 12 rfl rfl)
abbrev cX7_notZero : ByteArray := prog_10_method_40_code
def yX7_notZero : MethodName := ⟨RX7, "notZero", "()I"⟩
def dkwX7_notZero_1 : List UInt8 := [96, 60, 132, 2, 1, 167, 255, 231, 27, 172]
abbrev dktX7_notZero_1 : List UInt8 := dkwX7_notZero_1 ++ []
def dkwX7_notZero_0 : List UInt8 := [3, 60, 3, 61, 28, 16, 8, 162, 0, 25, 27, 42, 28, 182, 1, 14, 153, 0, 7, 3, 167, 0, 4, 4]
abbrev dktX7_notZero_0 : List UInt8 := dkwX7_notZero_0 ++ dktX7_notZero_1
theorem dksX7_notZero_0 : cX7_notZero.data.toList.drop 0 = dktX7_notZero_0 := by decide +kernel
theorem dksX7_notZero_1 : cX7_notZero.data.toList.drop 24 = dktX7_notZero_1 := dk_seg dksX7_notZero_0 24 rfl rfl
theorem dX7_notZero_0 : decode cX7_notZero 0 = .ok (.iconst 0, 1) := dk_3 (dk_at dksX7_notZero_0 0 rfl rfl)
theorem dX7_notZero_1 : decode cX7_notZero 1 = .ok (.istore_n 1, 1) := dk_60 (dk_at dksX7_notZero_0 1 rfl rfl)
theorem dX7_notZero_2 : decode cX7_notZero 2 = .ok (.iconst 0, 1) := dk_3 (dk_at dksX7_notZero_0 2 rfl rfl)
theorem dX7_notZero_3 : decode cX7_notZero 3 = .ok (.istore_n 2, 1) := dk_61 (dk_at dksX7_notZero_0 3 rfl rfl)
theorem dX7_notZero_4 : decode cX7_notZero 4 = .ok (.iload_n 2, 1) := dk_28 (dk_at dksX7_notZero_0 4 rfl rfl)
theorem dX7_notZero_5 : decode cX7_notZero 5 = .ok (.bipush 8, 2) := dk_16 8 (dk_at dksX7_notZero_0 5 rfl rfl)
theorem dX7_notZero_7 : decode cX7_notZero 7 = .ok (.if_icmp .ge 25, 3) := dk_162 0 25 (dk_at dksX7_notZero_0 7 rfl rfl)
theorem dX7_notZero_10 : decode cX7_notZero 10 = .ok (.iload_n 1, 1) := dk_27 (dk_at dksX7_notZero_0 10 rfl rfl)
theorem dX7_notZero_11 : decode cX7_notZero 11 = .ok (.aload_n 0, 1) := dk_42 (dk_at dksX7_notZero_0 11 rfl rfl)
theorem dX7_notZero_12 : decode cX7_notZero 12 = .ok (.iload_n 2, 1) := dk_28 (dk_at dksX7_notZero_0 12 rfl rfl)
theorem dX7_notZero_13 : decode cX7_notZero 13 = .ok (.invokevirtual 270, 3) := dk_182 1 14 (dk_at dksX7_notZero_0 13 rfl rfl)
theorem dX7_notZero_16 : decode cX7_notZero 16 = .ok (.ifCond .eq 7, 3) := dk_153 0 7 (dk_at dksX7_notZero_0 16 rfl rfl)
theorem dX7_notZero_19 : decode cX7_notZero 19 = .ok (.iconst 0, 1) := dk_3 (dk_at dksX7_notZero_0 19 rfl rfl)
theorem dX7_notZero_20 : decode cX7_notZero 20 = .ok (.goto 4, 3) := dk_167 0 4 (dk_at dksX7_notZero_0 20 rfl rfl)
theorem dX7_notZero_23 : decode cX7_notZero 23 = .ok (.iconst 1, 1) := dk_4 (dk_at dksX7_notZero_0 23 rfl rfl)
theorem dX7_notZero_24 : decode cX7_notZero 24 = .ok (.iadd, 1) := dk_96 (dk_at dksX7_notZero_1 0 rfl rfl)
theorem dX7_notZero_25 : decode cX7_notZero 25 = .ok (.istore_n 1, 1) := dk_60 (dk_at dksX7_notZero_1 1 rfl rfl)
theorem dX7_notZero_26 : decode cX7_notZero 26 = .ok (.iinc 2 1, 3) := dk_132 2 1 (dk_at dksX7_notZero_1 2 rfl rfl)
theorem dX7_notZero_29 : decode cX7_notZero 29 = .ok (.goto (-25), 3) := dk_167 255 231 (dk_at dksX7_notZero_1 5 rfl rfl)
theorem dX7_notZero_32 : decode cX7_notZero 32 = .ok (.iload_n 1, 1) := dk_27 (dk_at dksX7_notZero_1 8 rfl rfl)
theorem dX7_notZero_33 : decode cX7_notZero 33 = .ok (.ireturn, 1) := dk_172 (dk_at dksX7_notZero_1 9 rfl rfl)
abbrev cX7_isZero : ByteArray := prog_10_method_38_code
def yX7_isZero : MethodName := ⟨RX7, "isZero", "(I)Z"⟩
def dkwX7_isZero_0 : List UInt8 := [42, 27, 182, 1, 11, 154, 0, 7, 4, 167, 0, 4, 3, 172]
abbrev dktX7_isZero_0 : List UInt8 := dkwX7_isZero_0 ++ []
theorem dksX7_isZero_0 : cX7_isZero.data.toList.drop 0 = dktX7_isZero_0 := by decide +kernel
theorem dX7_isZero_0 : decode cX7_isZero 0 = .ok (.aload_n 0, 1) := dk_42 (dk_at dksX7_isZero_0 0 rfl rfl)
theorem dX7_isZero_1 : decode cX7_isZero 1 = .ok (.iload_n 1, 1) := dk_27 (dk_at dksX7_isZero_0 1 rfl rfl)
theorem dX7_isZero_2 : decode cX7_isZero 2 = .ok (.invokevirtual 267, 3) := dk_182 1 11 (dk_at dksX7_isZero_0 2 rfl rfl)
theorem dX7_isZero_5 : decode cX7_isZero 5 = .ok (.ifCond .ne 7, 3) := dk_154 0 7 (dk_at dksX7_isZero_0 5 rfl rfl)
theorem dX7_isZero_8 : decode cX7_isZero 8 = .ok (.iconst 1, 1) := dk_4 (dk_at dksX7_isZero_0 8 rfl rfl)
theorem dX7_isZero_9 : decode cX7_isZero 9 = .ok (.goto 4, 3) := dk_167 0 4 (dk_at dksX7_isZero_0 9 rfl rfl)
theorem dX7_isZero_12 : decode cX7_isZero 12 = .ok (.iconst 0, 1) := dk_3 (dk_at dksX7_isZero_0 12 rfl rfl)
theorem dX7_isZero_13 : decode cX7_isZero 13 = .ok (.ireturn, 1) := dk_172 (dk_at dksX7_isZero_0 13 rfl rfl)
abbrev cX7_termsOf : ByteArray := prog_10_method_37_code
def yX7_termsOf : MethodName := ⟨RX7, "termsOf", "(I)I"⟩
def dkwX7_termsOf_1 : List UInt8 := [167, 0, 4, 3, 96, 61, 132, 3, 1, 167, 255, 229, 28, 172]
abbrev dktX7_termsOf_1 : List UInt8 := dkwX7_termsOf_1 ++ []
def dkwX7_termsOf_0 : List UInt8 := [3, 61, 3, 62, 29, 17, 16, 0, 162, 0, 26, 28, 42, 27, 29, 182, 1, 8, 153, 0, 7, 4]
abbrev dktX7_termsOf_0 : List UInt8 := dkwX7_termsOf_0 ++ dktX7_termsOf_1
theorem dksX7_termsOf_0 : cX7_termsOf.data.toList.drop 0 = dktX7_termsOf_0 := by decide +kernel
theorem dksX7_termsOf_1 : cX7_termsOf.data.toList.drop 22 = dktX7_termsOf_1 := dk_seg dksX7_termsOf_0 22 rfl rfl
theorem dX7_termsOf_0 : decode cX7_termsOf 0 = .ok (.iconst 0, 1) := dk_3 (dk_at dksX7_termsOf_0 0 rfl rfl)
theorem dX7_termsOf_1 : decode cX7_termsOf 1 = .ok (.istore_n 2, 1) := dk_61 (dk_at dksX7_termsOf_0 1 rfl rfl)
theorem dX7_termsOf_2 : decode cX7_termsOf 2 = .ok (.iconst 0, 1) := dk_3 (dk_at dksX7_termsOf_0 2 rfl rfl)
theorem dX7_termsOf_3 : decode cX7_termsOf 3 = .ok (.istore_n 3, 1) := dk_62 (dk_at dksX7_termsOf_0 3 rfl rfl)
theorem dX7_termsOf_4 : decode cX7_termsOf 4 = .ok (.iload_n 3, 1) := dk_29 (dk_at dksX7_termsOf_0 4 rfl rfl)
theorem dX7_termsOf_5 : decode cX7_termsOf 5 = .ok (.sipush 4096, 3) := dk_17 16 0 (dk_at dksX7_termsOf_0 5 rfl rfl)
theorem dX7_termsOf_8 : decode cX7_termsOf 8 = .ok (.if_icmp .ge 26, 3) := dk_162 0 26 (dk_at dksX7_termsOf_0 8 rfl rfl)
theorem dX7_termsOf_11 : decode cX7_termsOf 11 = .ok (.iload_n 2, 1) := dk_28 (dk_at dksX7_termsOf_0 11 rfl rfl)
theorem dX7_termsOf_12 : decode cX7_termsOf 12 = .ok (.aload_n 0, 1) := dk_42 (dk_at dksX7_termsOf_0 12 rfl rfl)
theorem dX7_termsOf_13 : decode cX7_termsOf 13 = .ok (.iload_n 1, 1) := dk_27 (dk_at dksX7_termsOf_0 13 rfl rfl)
theorem dX7_termsOf_14 : decode cX7_termsOf 14 = .ok (.iload_n 3, 1) := dk_29 (dk_at dksX7_termsOf_0 14 rfl rfl)
theorem dX7_termsOf_15 : decode cX7_termsOf 15 = .ok (.invokevirtual 264, 3) := dk_182 1 8 (dk_at dksX7_termsOf_0 15 rfl rfl)
theorem dX7_termsOf_18 : decode cX7_termsOf 18 = .ok (.ifCond .eq 7, 3) := dk_153 0 7 (dk_at dksX7_termsOf_0 18 rfl rfl)
theorem dX7_termsOf_21 : decode cX7_termsOf 21 = .ok (.iconst 1, 1) := dk_4 (dk_at dksX7_termsOf_0 21 rfl rfl)
theorem dX7_termsOf_22 : decode cX7_termsOf 22 = .ok (.goto 4, 3) := dk_167 0 4 (dk_at dksX7_termsOf_1 0 rfl rfl)
theorem dX7_termsOf_25 : decode cX7_termsOf 25 = .ok (.iconst 0, 1) := dk_3 (dk_at dksX7_termsOf_1 3 rfl rfl)
theorem dX7_termsOf_26 : decode cX7_termsOf 26 = .ok (.iadd, 1) := dk_96 (dk_at dksX7_termsOf_1 4 rfl rfl)
theorem dX7_termsOf_27 : decode cX7_termsOf 27 = .ok (.istore_n 2, 1) := dk_61 (dk_at dksX7_termsOf_1 5 rfl rfl)
theorem dX7_termsOf_28 : decode cX7_termsOf 28 = .ok (.iinc 3 1, 3) := dk_132 3 1 (dk_at dksX7_termsOf_1 6 rfl rfl)
theorem dX7_termsOf_31 : decode cX7_termsOf 31 = .ok (.goto (-27), 3) := dk_167 255 229 (dk_at dksX7_termsOf_1 9 rfl rfl)
theorem dX7_termsOf_34 : decode cX7_termsOf 34 = .ok (.iload_n 2, 1) := dk_28 (dk_at dksX7_termsOf_1 12 rfl rfl)
theorem dX7_termsOf_35 : decode cX7_termsOf 35 = .ok (.ireturn, 1) := dk_172 (dk_at dksX7_termsOf_1 13 rfl rfl)
abbrev cX7_coef : ByteArray := prog_10_method_36_code
def yX7_coef : MethodName := ⟨RX7, "coef", "(II)I"⟩
def dkwX7_coef_0 : List UInt8 := [42, 180, 0, 14, 17, 16, 0, 27, 104, 28, 96, 46, 172]
abbrev dktX7_coef_0 : List UInt8 := dkwX7_coef_0 ++ []
theorem dksX7_coef_0 : cX7_coef.data.toList.drop 0 = dktX7_coef_0 := by decide +kernel
theorem dX7_coef_0 : decode cX7_coef 0 = .ok (.aload_n 0, 1) := dk_42 (dk_at dksX7_coef_0 0 rfl rfl)
theorem dX7_coef_1 : decode cX7_coef 1 = .ok (.getfield 14, 3) := dk_180 0 14 (dk_at dksX7_coef_0 1 rfl rfl)
theorem dX7_coef_4 : decode cX7_coef 4 = .ok (.sipush 4096, 3) := dk_17 16 0 (dk_at dksX7_coef_0 4 rfl rfl)
theorem dX7_coef_7 : decode cX7_coef 7 = .ok (.iload_n 1, 1) := dk_27 (dk_at dksX7_coef_0 7 rfl rfl)
theorem dX7_coef_8 : decode cX7_coef 8 = .ok (.imul, 1) := dk_104 (dk_at dksX7_coef_0 8 rfl rfl)
theorem dX7_coef_9 : decode cX7_coef 9 = .ok (.iload_n 2, 1) := dk_28 (dk_at dksX7_coef_0 9 rfl rfl)
theorem dX7_coef_10 : decode cX7_coef 10 = .ok (.iadd, 1) := dk_96 (dk_at dksX7_coef_0 10 rfl rfl)
theorem dX7_coef_11 : decode cX7_coef 11 = .ok (.iaload, 1) := dk_46 (dk_at dksX7_coef_0 11 rfl rfl)
theorem dX7_coef_12 : decode cX7_coef 12 = .ok (.ireturn, 1) := dk_172 (dk_at dksX7_coef_0 12 rfl rfl)
abbrev cX7_terms : ByteArray := prog_10_method_42_code
def yX7_terms : MethodName := ⟨RX7, "terms", "(I)I"⟩
def dkwX7_terms_1 : List UInt8 := [167, 0, 8, 42, 4, 182, 0, 221, 172]
abbrev dktX7_terms_1 : List UInt8 := dkwX7_terms_1 ++ []
def dkwX7_terms_0 : List UInt8 := [42, 3, 181, 0, 89, 42, 27, 182, 1, 20, 153, 0, 15, 42, 42, 27, 182, 1, 11, 182, 0, 248]
abbrev dktX7_terms_0 : List UInt8 := dkwX7_terms_0 ++ dktX7_terms_1
theorem dksX7_terms_0 : cX7_terms.data.toList.drop 0 = dktX7_terms_0 := by decide +kernel
theorem dksX7_terms_1 : cX7_terms.data.toList.drop 22 = dktX7_terms_1 := dk_seg dksX7_terms_0 22 rfl rfl
theorem dX7_terms_0 : decode cX7_terms 0 = .ok (.aload_n 0, 1) := dk_42 (dk_at dksX7_terms_0 0 rfl rfl)
theorem dX7_terms_1 : decode cX7_terms 1 = .ok (.iconst 0, 1) := dk_3 (dk_at dksX7_terms_0 1 rfl rfl)
theorem dX7_terms_2 : decode cX7_terms 2 = .ok (.putfield 89, 3) := dk_181 0 89 (dk_at dksX7_terms_0 2 rfl rfl)
theorem dX7_terms_5 : decode cX7_terms 5 = .ok (.aload_n 0, 1) := dk_42 (dk_at dksX7_terms_0 5 rfl rfl)
theorem dX7_terms_6 : decode cX7_terms 6 = .ok (.iload_n 1, 1) := dk_27 (dk_at dksX7_terms_0 6 rfl rfl)
theorem dX7_terms_7 : decode cX7_terms 7 = .ok (.invokevirtual 276, 3) := dk_182 1 20 (dk_at dksX7_terms_0 7 rfl rfl)
theorem dX7_terms_10 : decode cX7_terms 10 = .ok (.ifCond .eq 15, 3) := dk_153 0 15 (dk_at dksX7_terms_0 10 rfl rfl)
theorem dX7_terms_13 : decode cX7_terms 13 = .ok (.aload_n 0, 1) := dk_42 (dk_at dksX7_terms_0 13 rfl rfl)
theorem dX7_terms_14 : decode cX7_terms 14 = .ok (.aload_n 0, 1) := dk_42 (dk_at dksX7_terms_0 14 rfl rfl)
theorem dX7_terms_15 : decode cX7_terms 15 = .ok (.iload_n 1, 1) := dk_27 (dk_at dksX7_terms_0 15 rfl rfl)
theorem dX7_terms_16 : decode cX7_terms 16 = .ok (.invokevirtual 267, 3) := dk_182 1 11 (dk_at dksX7_terms_0 16 rfl rfl)
theorem dX7_terms_19 : decode cX7_terms 19 = .ok (.invokevirtual 248, 3) := dk_182 0 248 (dk_at dksX7_terms_0 19 rfl rfl)
theorem dX7_terms_22 : decode cX7_terms 22 = .ok (.goto 8, 3) := dk_167 0 8 (dk_at dksX7_terms_1 0 rfl rfl)
theorem dX7_terms_25 : decode cX7_terms 25 = .ok (.aload_n 0, 1) := dk_42 (dk_at dksX7_terms_1 3 rfl rfl)
theorem dX7_terms_26 : decode cX7_terms 26 = .ok (.iconst 1, 1) := dk_4 (dk_at dksX7_terms_1 4 rfl rfl)
theorem dX7_terms_27 : decode cX7_terms 27 = .ok (.invokevirtual 221, 3) := dk_182 0 221 (dk_at dksX7_terms_1 5 rfl rfl)
theorem dX7_terms_30 : decode cX7_terms 30 = .ok (.ireturn, 1) := dk_172 (dk_at dksX7_terms_1 8 rfl rfl)
abbrev cX7_isReg : ByteArray := prog_10_method_32_code
def yX7_isReg : MethodName := ⟨RX7, "isReg", "(I)Z"⟩
def dkwX7_isReg_0 : List UInt8 := [42, 180, 0, 227, 153, 0, 17, 27, 3, 16, 7, 184, 0, 118, 153, 0, 7, 4, 167, 0, 4, 3, 172]
abbrev dktX7_isReg_0 : List UInt8 := dkwX7_isReg_0 ++ []
theorem dksX7_isReg_0 : cX7_isReg.data.toList.drop 0 = dktX7_isReg_0 := by decide +kernel
theorem dX7_isReg_0 : decode cX7_isReg 0 = .ok (.aload_n 0, 1) := dk_42 (dk_at dksX7_isReg_0 0 rfl rfl)
theorem dX7_isReg_1 : decode cX7_isReg 1 = .ok (.getfield 227, 3) := dk_180 0 227 (dk_at dksX7_isReg_0 1 rfl rfl)
theorem dX7_isReg_4 : decode cX7_isReg 4 = .ok (.ifCond .eq 17, 3) := dk_153 0 17 (dk_at dksX7_isReg_0 4 rfl rfl)
theorem dX7_isReg_7 : decode cX7_isReg 7 = .ok (.iload_n 1, 1) := dk_27 (dk_at dksX7_isReg_0 7 rfl rfl)
theorem dX7_isReg_8 : decode cX7_isReg 8 = .ok (.iconst 0, 1) := dk_3 (dk_at dksX7_isReg_0 8 rfl rfl)
theorem dX7_isReg_9 : decode cX7_isReg 9 = .ok (.bipush 7, 2) := dk_16 7 (dk_at dksX7_isReg_0 9 rfl rfl)
theorem dX7_isReg_11 : decode cX7_isReg 11 = .ok (.invokestatic 118, 3) := dk_184 0 118 (dk_at dksX7_isReg_0 11 rfl rfl)
theorem dX7_isReg_14 : decode cX7_isReg 14 = .ok (.ifCond .eq 7, 3) := dk_153 0 7 (dk_at dksX7_isReg_0 14 rfl rfl)
theorem dX7_isReg_17 : decode cX7_isReg 17 = .ok (.iconst 1, 1) := dk_4 (dk_at dksX7_isReg_0 17 rfl rfl)
theorem dX7_isReg_18 : decode cX7_isReg 18 = .ok (.goto 4, 3) := dk_167 0 4 (dk_at dksX7_isReg_0 18 rfl rfl)
theorem dX7_isReg_21 : decode cX7_isReg 21 = .ok (.iconst 0, 1) := dk_3 (dk_at dksX7_isReg_0 21 rfl rfl)
theorem dX7_isReg_22 : decode cX7_isReg 22 = .ok (.ireturn, 1) := dk_172 (dk_at dksX7_isReg_0 22 rfl rfl)
abbrev cX7_term : ByteArray := prog_10_method_43_code
def yX7_term : MethodName := ⟨RX7, "term", "(III)I"⟩
def dkwX7_term_6 : List UInt8 := [4, 100, 184, 0, 95, 182, 0, 248, 172]
abbrev dktX7_term_6 : List UInt8 := dkwX7_term_6 ++ []
def dkwX7_term_5 : List UInt8 := [21, 6, 182, 1, 8, 167, 0, 24, 29, 7, 160, 0, 11, 21, 6, 184, 1, 5, 167, 0, 11, 21, 6, 29]
abbrev dktX7_term_5 : List UInt8 := dkwX7_term_5 ++ dktX7_term_6
def dkwX7_term_4 : List UInt8 := [54, 5, 132, 4, 1, 167, 255, 208, 42, 180, 0, 25, 21, 4, 46, 54, 6, 42, 29, 154, 0, 13, 42, 27]
abbrev dktX7_term_4 : List UInt8 := dkwX7_term_4 ++ dktX7_term_5
def dkwX7_term_3 : List UInt8 := [21, 5, 42, 27, 42, 180, 0, 25, 21, 4, 46, 182, 1, 8, 153, 0, 7, 4, 167, 0, 4, 3, 100]
abbrev dktX7_term_3 : List UInt8 := dkwX7_term_3 ++ dktX7_term_4
def dkwX7_term_2 : List UInt8 := [28, 54, 5, 21, 5, 157, 0, 18, 42, 27, 42, 180, 0, 25, 21, 4, 46, 182, 1, 8, 154, 0, 34]
abbrev dktX7_term_2 : List UInt8 := dkwX7_term_2 ++ dktX7_term_3
def dkwX7_term_1 : List UInt8 := [184, 0, 118, 153, 0, 12, 29, 3, 7, 184, 0, 118, 154, 0, 9, 42, 4, 182, 0, 221, 172, 3, 54, 4]
abbrev dktX7_term_1 : List UInt8 := dkwX7_term_1 ++ dktX7_term_2
def dkwX7_term_0 : List UInt8 := [42, 3, 181, 0, 89, 42, 27, 182, 1, 20, 153, 0, 27, 28, 3, 42, 27, 182, 1, 11, 4, 100]
abbrev dktX7_term_0 : List UInt8 := dkwX7_term_0 ++ dktX7_term_1
theorem dksX7_term_0 : cX7_term.data.toList.drop 0 = dktX7_term_0 := by decide +kernel
theorem dksX7_term_1 : cX7_term.data.toList.drop 22 = dktX7_term_1 := dk_seg dksX7_term_0 22 rfl rfl
theorem dksX7_term_2 : cX7_term.data.toList.drop 46 = dktX7_term_2 := dk_seg dksX7_term_1 24 rfl rfl
theorem dksX7_term_3 : cX7_term.data.toList.drop 69 = dktX7_term_3 := dk_seg dksX7_term_2 23 rfl rfl
theorem dksX7_term_4 : cX7_term.data.toList.drop 92 = dktX7_term_4 := dk_seg dksX7_term_3 23 rfl rfl
theorem dksX7_term_5 : cX7_term.data.toList.drop 116 = dktX7_term_5 := dk_seg dksX7_term_4 24 rfl rfl
theorem dksX7_term_6 : cX7_term.data.toList.drop 140 = dktX7_term_6 := dk_seg dksX7_term_5 24 rfl rfl
theorem dX7_term_0 : decode cX7_term 0 = .ok (.aload_n 0, 1) := dk_42 (dk_at dksX7_term_0 0 rfl rfl)
theorem dX7_term_1 : decode cX7_term 1 = .ok (.iconst 0, 1) := dk_3 (dk_at dksX7_term_0 1 rfl rfl)
theorem dX7_term_2 : decode cX7_term 2 = .ok (.putfield 89, 3) := dk_181 0 89 (dk_at dksX7_term_0 2 rfl rfl)
theorem dX7_term_5 : decode cX7_term 5 = .ok (.aload_n 0, 1) := dk_42 (dk_at dksX7_term_0 5 rfl rfl)
theorem dX7_term_6 : decode cX7_term 6 = .ok (.iload_n 1, 1) := dk_27 (dk_at dksX7_term_0 6 rfl rfl)
theorem dX7_term_7 : decode cX7_term 7 = .ok (.invokevirtual 276, 3) := dk_182 1 20 (dk_at dksX7_term_0 7 rfl rfl)
theorem dX7_term_10 : decode cX7_term 10 = .ok (.ifCond .eq 27, 3) := dk_153 0 27 (dk_at dksX7_term_0 10 rfl rfl)
theorem dX7_term_13 : decode cX7_term 13 = .ok (.iload_n 2, 1) := dk_28 (dk_at dksX7_term_0 13 rfl rfl)
theorem dX7_term_14 : decode cX7_term 14 = .ok (.iconst 0, 1) := dk_3 (dk_at dksX7_term_0 14 rfl rfl)
theorem dX7_term_15 : decode cX7_term 15 = .ok (.aload_n 0, 1) := dk_42 (dk_at dksX7_term_0 15 rfl rfl)
theorem dX7_term_16 : decode cX7_term 16 = .ok (.iload_n 1, 1) := dk_27 (dk_at dksX7_term_0 16 rfl rfl)
theorem dX7_term_17 : decode cX7_term 17 = .ok (.invokevirtual 267, 3) := dk_182 1 11 (dk_at dksX7_term_0 17 rfl rfl)
theorem dX7_term_20 : decode cX7_term 20 = .ok (.iconst 1, 1) := dk_4 (dk_at dksX7_term_0 20 rfl rfl)
theorem dX7_term_21 : decode cX7_term 21 = .ok (.isub, 1) := dk_100 (dk_at dksX7_term_0 21 rfl rfl)
theorem dX7_term_22 : decode cX7_term 22 = .ok (.invokestatic 118, 3) := dk_184 0 118 (dk_at dksX7_term_1 0 rfl rfl)
theorem dX7_term_25 : decode cX7_term 25 = .ok (.ifCond .eq 12, 3) := dk_153 0 12 (dk_at dksX7_term_1 3 rfl rfl)
theorem dX7_term_28 : decode cX7_term 28 = .ok (.iload_n 3, 1) := dk_29 (dk_at dksX7_term_1 6 rfl rfl)
theorem dX7_term_29 : decode cX7_term 29 = .ok (.iconst 0, 1) := dk_3 (dk_at dksX7_term_1 7 rfl rfl)
theorem dX7_term_30 : decode cX7_term 30 = .ok (.iconst 4, 1) := dk_7 (dk_at dksX7_term_1 8 rfl rfl)
theorem dX7_term_31 : decode cX7_term 31 = .ok (.invokestatic 118, 3) := dk_184 0 118 (dk_at dksX7_term_1 9 rfl rfl)
theorem dX7_term_34 : decode cX7_term 34 = .ok (.ifCond .ne 9, 3) := dk_154 0 9 (dk_at dksX7_term_1 12 rfl rfl)
theorem dX7_term_37 : decode cX7_term 37 = .ok (.aload_n 0, 1) := dk_42 (dk_at dksX7_term_1 15 rfl rfl)
theorem dX7_term_38 : decode cX7_term 38 = .ok (.iconst 1, 1) := dk_4 (dk_at dksX7_term_1 16 rfl rfl)
theorem dX7_term_39 : decode cX7_term 39 = .ok (.invokevirtual 221, 3) := dk_182 0 221 (dk_at dksX7_term_1 17 rfl rfl)
theorem dX7_term_42 : decode cX7_term 42 = .ok (.ireturn, 1) := dk_172 (dk_at dksX7_term_1 20 rfl rfl)
theorem dX7_term_43 : decode cX7_term 43 = .ok (.iconst 0, 1) := dk_3 (dk_at dksX7_term_1 21 rfl rfl)
theorem dX7_term_44 : decode cX7_term 44 = .ok (.istore 4, 2) := dk_54 4 (dk_at dksX7_term_1 22 rfl rfl)
theorem dX7_term_46 : decode cX7_term 46 = .ok (.iload_n 2, 1) := dk_28 (dk_at dksX7_term_2 0 rfl rfl)
theorem dX7_term_47 : decode cX7_term 47 = .ok (.istore 5, 2) := dk_54 5 (dk_at dksX7_term_2 1 rfl rfl)
theorem dX7_term_49 : decode cX7_term 49 = .ok (.iload 5, 2) := dk_21 5 (dk_at dksX7_term_2 3 rfl rfl)
theorem dX7_term_51 : decode cX7_term 51 = .ok (.ifCond .gt 18, 3) := dk_157 0 18 (dk_at dksX7_term_2 5 rfl rfl)
theorem dX7_term_54 : decode cX7_term 54 = .ok (.aload_n 0, 1) := dk_42 (dk_at dksX7_term_2 8 rfl rfl)
theorem dX7_term_55 : decode cX7_term 55 = .ok (.iload_n 1, 1) := dk_27 (dk_at dksX7_term_2 9 rfl rfl)
theorem dX7_term_56 : decode cX7_term 56 = .ok (.aload_n 0, 1) := dk_42 (dk_at dksX7_term_2 10 rfl rfl)
theorem dX7_term_57 : decode cX7_term 57 = .ok (.getfield 25, 3) := dk_180 0 25 (dk_at dksX7_term_2 11 rfl rfl)
theorem dX7_term_60 : decode cX7_term 60 = .ok (.iload 4, 2) := dk_21 4 (dk_at dksX7_term_2 14 rfl rfl)
theorem dX7_term_62 : decode cX7_term 62 = .ok (.iaload, 1) := dk_46 (dk_at dksX7_term_2 16 rfl rfl)
theorem dX7_term_63 : decode cX7_term 63 = .ok (.invokevirtual 264, 3) := dk_182 1 8 (dk_at dksX7_term_2 17 rfl rfl)
theorem dX7_term_66 : decode cX7_term 66 = .ok (.ifCond .ne 34, 3) := dk_154 0 34 (dk_at dksX7_term_2 20 rfl rfl)
theorem dX7_term_69 : decode cX7_term 69 = .ok (.iload 5, 2) := dk_21 5 (dk_at dksX7_term_3 0 rfl rfl)
theorem dX7_term_71 : decode cX7_term 71 = .ok (.aload_n 0, 1) := dk_42 (dk_at dksX7_term_3 2 rfl rfl)
theorem dX7_term_72 : decode cX7_term 72 = .ok (.iload_n 1, 1) := dk_27 (dk_at dksX7_term_3 3 rfl rfl)
theorem dX7_term_73 : decode cX7_term 73 = .ok (.aload_n 0, 1) := dk_42 (dk_at dksX7_term_3 4 rfl rfl)
theorem dX7_term_74 : decode cX7_term 74 = .ok (.getfield 25, 3) := dk_180 0 25 (dk_at dksX7_term_3 5 rfl rfl)
theorem dX7_term_77 : decode cX7_term 77 = .ok (.iload 4, 2) := dk_21 4 (dk_at dksX7_term_3 8 rfl rfl)
theorem dX7_term_79 : decode cX7_term 79 = .ok (.iaload, 1) := dk_46 (dk_at dksX7_term_3 10 rfl rfl)
theorem dX7_term_80 : decode cX7_term 80 = .ok (.invokevirtual 264, 3) := dk_182 1 8 (dk_at dksX7_term_3 11 rfl rfl)
theorem dX7_term_83 : decode cX7_term 83 = .ok (.ifCond .eq 7, 3) := dk_153 0 7 (dk_at dksX7_term_3 14 rfl rfl)
theorem dX7_term_86 : decode cX7_term 86 = .ok (.iconst 1, 1) := dk_4 (dk_at dksX7_term_3 17 rfl rfl)
theorem dX7_term_87 : decode cX7_term 87 = .ok (.goto 4, 3) := dk_167 0 4 (dk_at dksX7_term_3 18 rfl rfl)
theorem dX7_term_90 : decode cX7_term 90 = .ok (.iconst 0, 1) := dk_3 (dk_at dksX7_term_3 21 rfl rfl)
theorem dX7_term_91 : decode cX7_term 91 = .ok (.isub, 1) := dk_100 (dk_at dksX7_term_3 22 rfl rfl)
theorem dX7_term_92 : decode cX7_term 92 = .ok (.istore 5, 2) := dk_54 5 (dk_at dksX7_term_4 0 rfl rfl)
theorem dX7_term_94 : decode cX7_term 94 = .ok (.iinc 4 1, 3) := dk_132 4 1 (dk_at dksX7_term_4 2 rfl rfl)
theorem dX7_term_97 : decode cX7_term 97 = .ok (.goto (-48), 3) := dk_167 255 208 (dk_at dksX7_term_4 5 rfl rfl)
theorem dX7_term_100 : decode cX7_term 100 = .ok (.aload_n 0, 1) := dk_42 (dk_at dksX7_term_4 8 rfl rfl)
theorem dX7_term_101 : decode cX7_term 101 = .ok (.getfield 25, 3) := dk_180 0 25 (dk_at dksX7_term_4 9 rfl rfl)
theorem dX7_term_104 : decode cX7_term 104 = .ok (.iload 4, 2) := dk_21 4 (dk_at dksX7_term_4 12 rfl rfl)
theorem dX7_term_106 : decode cX7_term 106 = .ok (.iaload, 1) := dk_46 (dk_at dksX7_term_4 14 rfl rfl)
theorem dX7_term_107 : decode cX7_term 107 = .ok (.istore 6, 2) := dk_54 6 (dk_at dksX7_term_4 15 rfl rfl)
theorem dX7_term_109 : decode cX7_term 109 = .ok (.aload_n 0, 1) := dk_42 (dk_at dksX7_term_4 17 rfl rfl)
theorem dX7_term_110 : decode cX7_term 110 = .ok (.iload_n 3, 1) := dk_29 (dk_at dksX7_term_4 18 rfl rfl)
theorem dX7_term_111 : decode cX7_term 111 = .ok (.ifCond .ne 13, 3) := dk_154 0 13 (dk_at dksX7_term_4 19 rfl rfl)
theorem dX7_term_114 : decode cX7_term 114 = .ok (.aload_n 0, 1) := dk_42 (dk_at dksX7_term_4 22 rfl rfl)
theorem dX7_term_115 : decode cX7_term 115 = .ok (.iload_n 1, 1) := dk_27 (dk_at dksX7_term_4 23 rfl rfl)
theorem dX7_term_116 : decode cX7_term 116 = .ok (.iload 6, 2) := dk_21 6 (dk_at dksX7_term_5 0 rfl rfl)
theorem dX7_term_118 : decode cX7_term 118 = .ok (.invokevirtual 264, 3) := dk_182 1 8 (dk_at dksX7_term_5 2 rfl rfl)
theorem dX7_term_121 : decode cX7_term 121 = .ok (.goto 24, 3) := dk_167 0 24 (dk_at dksX7_term_5 5 rfl rfl)
theorem dX7_term_124 : decode cX7_term 124 = .ok (.iload_n 3, 1) := dk_29 (dk_at dksX7_term_5 8 rfl rfl)
theorem dX7_term_125 : decode cX7_term 125 = .ok (.iconst 4, 1) := dk_7 (dk_at dksX7_term_5 9 rfl rfl)
theorem dX7_term_126 : decode cX7_term 126 = .ok (.if_icmp .ne 11, 3) := dk_160 0 11 (dk_at dksX7_term_5 10 rfl rfl)
theorem dX7_term_129 : decode cX7_term 129 = .ok (.iload 6, 2) := dk_21 6 (dk_at dksX7_term_5 13 rfl rfl)
theorem dX7_term_131 : decode cX7_term 131 = .ok (.invokestatic 261, 3) := dk_184 1 5 (dk_at dksX7_term_5 15 rfl rfl)
theorem dX7_term_134 : decode cX7_term 134 = .ok (.goto 11, 3) := dk_167 0 11 (dk_at dksX7_term_5 18 rfl rfl)
theorem dX7_term_137 : decode cX7_term 137 = .ok (.iload 6, 2) := dk_21 6 (dk_at dksX7_term_5 21 rfl rfl)
theorem dX7_term_139 : decode cX7_term 139 = .ok (.iload_n 3, 1) := dk_29 (dk_at dksX7_term_5 23 rfl rfl)
theorem dX7_term_140 : decode cX7_term 140 = .ok (.iconst 1, 1) := dk_4 (dk_at dksX7_term_6 0 rfl rfl)
theorem dX7_term_141 : decode cX7_term 141 = .ok (.isub, 1) := dk_100 (dk_at dksX7_term_6 1 rfl rfl)
theorem dX7_term_142 : decode cX7_term 142 = .ok (.invokestatic 95, 3) := dk_184 0 95 (dk_at dksX7_term_6 2 rfl rfl)
theorem dX7_term_145 : decode cX7_term 145 = .ok (.invokevirtual 248, 3) := dk_182 0 248 (dk_at dksX7_term_6 5 rfl rfl)
theorem dX7_term_148 : decode cX7_term 148 = .ok (.ireturn, 1) := dk_172 (dk_at dksX7_term_6 8 rfl rfl)
abbrev cX7_degreeOf : ByteArray := prog_10_method_7_code
def yX7_degreeOf : MethodName := ⟨RX7, "degreeOf", "(I)I"⟩
def dkwX7_degreeOf_0 : List UInt8 := [26, 3, 184, 0, 95, 26, 4, 184, 0, 95, 96, 26, 5, 184, 0, 95, 96, 172]
abbrev dktX7_degreeOf_0 : List UInt8 := dkwX7_degreeOf_0 ++ []
theorem dksX7_degreeOf_0 : cX7_degreeOf.data.toList.drop 0 = dktX7_degreeOf_0 := by decide +kernel
theorem dX7_degreeOf_0 : decode cX7_degreeOf 0 = .ok (.iload_n 0, 1) := dk_26 (dk_at dksX7_degreeOf_0 0 rfl rfl)
theorem dX7_degreeOf_1 : decode cX7_degreeOf 1 = .ok (.iconst 0, 1) := dk_3 (dk_at dksX7_degreeOf_0 1 rfl rfl)
theorem dX7_degreeOf_2 : decode cX7_degreeOf 2 = .ok (.invokestatic 95, 3) := dk_184 0 95 (dk_at dksX7_degreeOf_0 2 rfl rfl)
theorem dX7_degreeOf_5 : decode cX7_degreeOf 5 = .ok (.iload_n 0, 1) := dk_26 (dk_at dksX7_degreeOf_0 5 rfl rfl)
theorem dX7_degreeOf_6 : decode cX7_degreeOf 6 = .ok (.iconst 1, 1) := dk_4 (dk_at dksX7_degreeOf_0 6 rfl rfl)
theorem dX7_degreeOf_7 : decode cX7_degreeOf 7 = .ok (.invokestatic 95, 3) := dk_184 0 95 (dk_at dksX7_degreeOf_0 7 rfl rfl)
theorem dX7_degreeOf_10 : decode cX7_degreeOf 10 = .ok (.iadd, 1) := dk_96 (dk_at dksX7_degreeOf_0 10 rfl rfl)
theorem dX7_degreeOf_11 : decode cX7_degreeOf 11 = .ok (.iload_n 0, 1) := dk_26 (dk_at dksX7_degreeOf_0 11 rfl rfl)
theorem dX7_degreeOf_12 : decode cX7_degreeOf 12 = .ok (.iconst 2, 1) := dk_5 (dk_at dksX7_degreeOf_0 12 rfl rfl)
theorem dX7_degreeOf_13 : decode cX7_degreeOf 13 = .ok (.invokestatic 95, 3) := dk_184 0 95 (dk_at dksX7_degreeOf_0 13 rfl rfl)
theorem dX7_degreeOf_16 : decode cX7_degreeOf 16 = .ok (.iadd, 1) := dk_96 (dk_at dksX7_degreeOf_0 16 rfl rfl)
theorem dX7_degreeOf_17 : decode cX7_degreeOf 17 = .ok (.ireturn, 1) := dk_172 (dk_at dksX7_degreeOf_0 17 rfl rfl)
abbrev cX7_exponent : ByteArray := prog_10_method_6_code
def yX7_exponent : MethodName := ⟨RX7, "exponent", "(II)I"⟩
def dkwX7_exponent_0 : List UInt8 := [26, 7, 27, 104, 122, 16, 15, 126, 172]
abbrev dktX7_exponent_0 : List UInt8 := dkwX7_exponent_0 ++ []
theorem dksX7_exponent_0 : cX7_exponent.data.toList.drop 0 = dktX7_exponent_0 := by decide +kernel
theorem dX7_exponent_0 : decode cX7_exponent 0 = .ok (.iload_n 0, 1) := dk_26 (dk_at dksX7_exponent_0 0 rfl rfl)
theorem dX7_exponent_1 : decode cX7_exponent 1 = .ok (.iconst 4, 1) := dk_7 (dk_at dksX7_exponent_0 1 rfl rfl)
theorem dX7_exponent_2 : decode cX7_exponent 2 = .ok (.iload_n 1, 1) := dk_27 (dk_at dksX7_exponent_0 2 rfl rfl)
theorem dX7_exponent_3 : decode cX7_exponent 3 = .ok (.imul, 1) := dk_104 (dk_at dksX7_exponent_0 3 rfl rfl)
theorem dX7_exponent_4 : decode cX7_exponent 4 = .ok (.ishr, 1) := dk_122 (dk_at dksX7_exponent_0 4 rfl rfl)
theorem dX7_exponent_5 : decode cX7_exponent 5 = .ok (.bipush 15, 2) := dk_16 15 (dk_at dksX7_exponent_0 5 rfl rfl)
theorem dX7_exponent_7 : decode cX7_exponent 7 = .ok (.iand, 1) := dk_126 (dk_at dksX7_exponent_0 7 rfl rfl)
theorem dX7_exponent_8 : decode cX7_exponent 8 = .ok (.ireturn, 1) := dk_172 (dk_at dksX7_exponent_0 8 rfl rfl)
abbrev cX7_degree : ByteArray := prog_10_method_44_code
def yX7_degree : MethodName := ⟨RX7, "degree", "(I)I"⟩
def dkwX7_degree_2 : List UInt8 := [29, 184, 1, 5, 61, 132, 3, 1, 167, 255, 224, 42, 28, 182, 0, 248, 172]
abbrev dktX7_degree_2 : List UInt8 := dkwX7_degree_2 ++ []
def dkwX7_degree_1 : List UInt8 := [29, 17, 16, 0, 162, 0, 31, 42, 27, 29, 182, 1, 8, 153, 0, 16, 29, 184, 1, 5, 28, 164, 0, 8]
abbrev dktX7_degree_1 : List UInt8 := dkwX7_degree_1 ++ dktX7_degree_2
def dkwX7_degree_0 : List UInt8 := [42, 3, 181, 0, 89, 42, 27, 182, 1, 20, 154, 0, 9, 42, 4, 182, 0, 221, 172, 16, 254, 61, 3, 62]
abbrev dktX7_degree_0 : List UInt8 := dkwX7_degree_0 ++ dktX7_degree_1
theorem dksX7_degree_0 : cX7_degree.data.toList.drop 0 = dktX7_degree_0 := by decide +kernel
theorem dksX7_degree_1 : cX7_degree.data.toList.drop 24 = dktX7_degree_1 := dk_seg dksX7_degree_0 24 rfl rfl
theorem dksX7_degree_2 : cX7_degree.data.toList.drop 48 = dktX7_degree_2 := dk_seg dksX7_degree_1 24 rfl rfl
theorem dX7_degree_0 : decode cX7_degree 0 = .ok (.aload_n 0, 1) := dk_42 (dk_at dksX7_degree_0 0 rfl rfl)
theorem dX7_degree_1 : decode cX7_degree 1 = .ok (.iconst 0, 1) := dk_3 (dk_at dksX7_degree_0 1 rfl rfl)
theorem dX7_degree_2 : decode cX7_degree 2 = .ok (.putfield 89, 3) := dk_181 0 89 (dk_at dksX7_degree_0 2 rfl rfl)
theorem dX7_degree_5 : decode cX7_degree 5 = .ok (.aload_n 0, 1) := dk_42 (dk_at dksX7_degree_0 5 rfl rfl)
theorem dX7_degree_6 : decode cX7_degree 6 = .ok (.iload_n 1, 1) := dk_27 (dk_at dksX7_degree_0 6 rfl rfl)
theorem dX7_degree_7 : decode cX7_degree 7 = .ok (.invokevirtual 276, 3) := dk_182 1 20 (dk_at dksX7_degree_0 7 rfl rfl)
theorem dX7_degree_10 : decode cX7_degree 10 = .ok (.ifCond .ne 9, 3) := dk_154 0 9 (dk_at dksX7_degree_0 10 rfl rfl)
theorem dX7_degree_13 : decode cX7_degree 13 = .ok (.aload_n 0, 1) := dk_42 (dk_at dksX7_degree_0 13 rfl rfl)
theorem dX7_degree_14 : decode cX7_degree 14 = .ok (.iconst 1, 1) := dk_4 (dk_at dksX7_degree_0 14 rfl rfl)
theorem dX7_degree_15 : decode cX7_degree 15 = .ok (.invokevirtual 221, 3) := dk_182 0 221 (dk_at dksX7_degree_0 15 rfl rfl)
theorem dX7_degree_18 : decode cX7_degree 18 = .ok (.ireturn, 1) := dk_172 (dk_at dksX7_degree_0 18 rfl rfl)
theorem dX7_degree_19 : decode cX7_degree 19 = .ok (.bipush (-2), 2) := dk_16 254 (dk_at dksX7_degree_0 19 rfl rfl)
theorem dX7_degree_21 : decode cX7_degree 21 = .ok (.istore_n 2, 1) := dk_61 (dk_at dksX7_degree_0 21 rfl rfl)
theorem dX7_degree_22 : decode cX7_degree 22 = .ok (.iconst 0, 1) := dk_3 (dk_at dksX7_degree_0 22 rfl rfl)
theorem dX7_degree_23 : decode cX7_degree 23 = .ok (.istore_n 3, 1) := dk_62 (dk_at dksX7_degree_0 23 rfl rfl)
theorem dX7_degree_24 : decode cX7_degree 24 = .ok (.iload_n 3, 1) := dk_29 (dk_at dksX7_degree_1 0 rfl rfl)
theorem dX7_degree_25 : decode cX7_degree 25 = .ok (.sipush 4096, 3) := dk_17 16 0 (dk_at dksX7_degree_1 1 rfl rfl)
theorem dX7_degree_28 : decode cX7_degree 28 = .ok (.if_icmp .ge 31, 3) := dk_162 0 31 (dk_at dksX7_degree_1 4 rfl rfl)
theorem dX7_degree_31 : decode cX7_degree 31 = .ok (.aload_n 0, 1) := dk_42 (dk_at dksX7_degree_1 7 rfl rfl)
theorem dX7_degree_32 : decode cX7_degree 32 = .ok (.iload_n 1, 1) := dk_27 (dk_at dksX7_degree_1 8 rfl rfl)
theorem dX7_degree_33 : decode cX7_degree 33 = .ok (.iload_n 3, 1) := dk_29 (dk_at dksX7_degree_1 9 rfl rfl)
theorem dX7_degree_34 : decode cX7_degree 34 = .ok (.invokevirtual 264, 3) := dk_182 1 8 (dk_at dksX7_degree_1 10 rfl rfl)
theorem dX7_degree_37 : decode cX7_degree 37 = .ok (.ifCond .eq 16, 3) := dk_153 0 16 (dk_at dksX7_degree_1 13 rfl rfl)
theorem dX7_degree_40 : decode cX7_degree 40 = .ok (.iload_n 3, 1) := dk_29 (dk_at dksX7_degree_1 16 rfl rfl)
theorem dX7_degree_41 : decode cX7_degree 41 = .ok (.invokestatic 261, 3) := dk_184 1 5 (dk_at dksX7_degree_1 17 rfl rfl)
theorem dX7_degree_44 : decode cX7_degree 44 = .ok (.iload_n 2, 1) := dk_28 (dk_at dksX7_degree_1 20 rfl rfl)
theorem dX7_degree_45 : decode cX7_degree 45 = .ok (.if_icmp .le 8, 3) := dk_164 0 8 (dk_at dksX7_degree_1 21 rfl rfl)
theorem dX7_degree_48 : decode cX7_degree 48 = .ok (.iload_n 3, 1) := dk_29 (dk_at dksX7_degree_2 0 rfl rfl)
theorem dX7_degree_49 : decode cX7_degree 49 = .ok (.invokestatic 261, 3) := dk_184 1 5 (dk_at dksX7_degree_2 1 rfl rfl)
theorem dX7_degree_52 : decode cX7_degree 52 = .ok (.istore_n 2, 1) := dk_61 (dk_at dksX7_degree_2 4 rfl rfl)
theorem dX7_degree_53 : decode cX7_degree 53 = .ok (.iinc 3 1, 3) := dk_132 3 1 (dk_at dksX7_degree_2 5 rfl rfl)
theorem dX7_degree_56 : decode cX7_degree 56 = .ok (.goto (-32), 3) := dk_167 255 224 (dk_at dksX7_degree_2 8 rfl rfl)
theorem dX7_degree_59 : decode cX7_degree 59 = .ok (.aload_n 0, 1) := dk_42 (dk_at dksX7_degree_2 11 rfl rfl)
theorem dX7_degree_60 : decode cX7_degree 60 = .ok (.iload_n 2, 1) := dk_28 (dk_at dksX7_degree_2 12 rfl rfl)
theorem dX7_degree_61 : decode cX7_degree 61 = .ok (.invokevirtual 248, 3) := dk_182 0 248 (dk_at dksX7_degree_2 13 rfl rfl)
theorem dX7_degree_64 : decode cX7_degree 64 = .ok (.ireturn, 1) := dk_172 (dk_at dksX7_degree_2 16 rfl rfl)
abbrev cX7_degreeIn : ByteArray := prog_10_method_46_code
def yX7_degreeIn : MethodName := ⟨RX7, "degreeIn", "(II)I"⟩
def dkwX7_degreeIn_1 : List UInt8 := [182, 1, 26, 182, 0, 248, 167, 0, 8, 42, 4, 182, 0, 221, 172]
abbrev dktX7_degreeIn_1 : List UInt8 := dkwX7_degreeIn_1 ++ []
def dkwX7_degreeIn_0 : List UInt8 := [42, 3, 181, 0, 89, 42, 27, 182, 1, 20, 153, 0, 23, 28, 184, 1, 23, 153, 0, 16, 42, 42, 27, 28]
abbrev dktX7_degreeIn_0 : List UInt8 := dkwX7_degreeIn_0 ++ dktX7_degreeIn_1
theorem dksX7_degreeIn_0 : cX7_degreeIn.data.toList.drop 0 = dktX7_degreeIn_0 := by decide +kernel
theorem dksX7_degreeIn_1 : cX7_degreeIn.data.toList.drop 24 = dktX7_degreeIn_1 := dk_seg dksX7_degreeIn_0 24 rfl rfl
theorem dX7_degreeIn_0 : decode cX7_degreeIn 0 = .ok (.aload_n 0, 1) := dk_42 (dk_at dksX7_degreeIn_0 0 rfl rfl)
theorem dX7_degreeIn_1 : decode cX7_degreeIn 1 = .ok (.iconst 0, 1) := dk_3 (dk_at dksX7_degreeIn_0 1 rfl rfl)
theorem dX7_degreeIn_2 : decode cX7_degreeIn 2 = .ok (.putfield 89, 3) := dk_181 0 89 (dk_at dksX7_degreeIn_0 2 rfl rfl)
theorem dX7_degreeIn_5 : decode cX7_degreeIn 5 = .ok (.aload_n 0, 1) := dk_42 (dk_at dksX7_degreeIn_0 5 rfl rfl)
theorem dX7_degreeIn_6 : decode cX7_degreeIn 6 = .ok (.iload_n 1, 1) := dk_27 (dk_at dksX7_degreeIn_0 6 rfl rfl)
theorem dX7_degreeIn_7 : decode cX7_degreeIn 7 = .ok (.invokevirtual 276, 3) := dk_182 1 20 (dk_at dksX7_degreeIn_0 7 rfl rfl)
theorem dX7_degreeIn_10 : decode cX7_degreeIn 10 = .ok (.ifCond .eq 23, 3) := dk_153 0 23 (dk_at dksX7_degreeIn_0 10 rfl rfl)
theorem dX7_degreeIn_13 : decode cX7_degreeIn 13 = .ok (.iload_n 2, 1) := dk_28 (dk_at dksX7_degreeIn_0 13 rfl rfl)
theorem dX7_degreeIn_14 : decode cX7_degreeIn 14 = .ok (.invokestatic 279, 3) := dk_184 1 23 (dk_at dksX7_degreeIn_0 14 rfl rfl)
theorem dX7_degreeIn_17 : decode cX7_degreeIn 17 = .ok (.ifCond .eq 16, 3) := dk_153 0 16 (dk_at dksX7_degreeIn_0 17 rfl rfl)
theorem dX7_degreeIn_20 : decode cX7_degreeIn 20 = .ok (.aload_n 0, 1) := dk_42 (dk_at dksX7_degreeIn_0 20 rfl rfl)
theorem dX7_degreeIn_21 : decode cX7_degreeIn 21 = .ok (.aload_n 0, 1) := dk_42 (dk_at dksX7_degreeIn_0 21 rfl rfl)
theorem dX7_degreeIn_22 : decode cX7_degreeIn 22 = .ok (.iload_n 1, 1) := dk_27 (dk_at dksX7_degreeIn_0 22 rfl rfl)
theorem dX7_degreeIn_23 : decode cX7_degreeIn 23 = .ok (.iload_n 2, 1) := dk_28 (dk_at dksX7_degreeIn_0 23 rfl rfl)
theorem dX7_degreeIn_24 : decode cX7_degreeIn 24 = .ok (.invokevirtual 282, 3) := dk_182 1 26 (dk_at dksX7_degreeIn_1 0 rfl rfl)
theorem dX7_degreeIn_27 : decode cX7_degreeIn 27 = .ok (.invokevirtual 248, 3) := dk_182 0 248 (dk_at dksX7_degreeIn_1 3 rfl rfl)
theorem dX7_degreeIn_30 : decode cX7_degreeIn 30 = .ok (.goto 8, 3) := dk_167 0 8 (dk_at dksX7_degreeIn_1 6 rfl rfl)
theorem dX7_degreeIn_33 : decode cX7_degreeIn 33 = .ok (.aload_n 0, 1) := dk_42 (dk_at dksX7_degreeIn_1 9 rfl rfl)
theorem dX7_degreeIn_34 : decode cX7_degreeIn 34 = .ok (.iconst 1, 1) := dk_4 (dk_at dksX7_degreeIn_1 10 rfl rfl)
theorem dX7_degreeIn_35 : decode cX7_degreeIn 35 = .ok (.invokevirtual 221, 3) := dk_182 0 221 (dk_at dksX7_degreeIn_1 11 rfl rfl)
theorem dX7_degreeIn_38 : decode cX7_degreeIn 38 = .ok (.ireturn, 1) := dk_172 (dk_at dksX7_degreeIn_1 14 rfl rfl)
abbrev cX7_isUnknown : ByteArray := prog_10_method_33_code
def yX7_isUnknown : MethodName := ⟨RX7, "isUnknown", "(I)Z"⟩
def dkwX7_isUnknown_0 : List UInt8 := [26, 3, 5, 184, 0, 118, 172]
abbrev dktX7_isUnknown_0 : List UInt8 := dkwX7_isUnknown_0 ++ []
theorem dksX7_isUnknown_0 : cX7_isUnknown.data.toList.drop 0 = dktX7_isUnknown_0 := by decide +kernel
theorem dX7_isUnknown_0 : decode cX7_isUnknown 0 = .ok (.iload_n 0, 1) := dk_26 (dk_at dksX7_isUnknown_0 0 rfl rfl)
theorem dX7_isUnknown_1 : decode cX7_isUnknown 1 = .ok (.iconst 0, 1) := dk_3 (dk_at dksX7_isUnknown_0 1 rfl rfl)
theorem dX7_isUnknown_2 : decode cX7_isUnknown 2 = .ok (.iconst 2, 1) := dk_5 (dk_at dksX7_isUnknown_0 2 rfl rfl)
theorem dX7_isUnknown_3 : decode cX7_isUnknown 3 = .ok (.invokestatic 118, 3) := dk_184 0 118 (dk_at dksX7_isUnknown_0 3 rfl rfl)
theorem dX7_isUnknown_6 : decode cX7_isUnknown 6 = .ok (.ireturn, 1) := dk_172 (dk_at dksX7_isUnknown_0 6 rfl rfl)
abbrev cX7_degreeBy : ByteArray := prog_10_method_45_code
def yX7_degreeBy : MethodName := ⟨RX7, "degreeBy", "(II)I"⟩
def dkwX7_degreeBy_2 : List UInt8 := [172]
abbrev dktX7_degreeBy_2 : List UInt8 := dkwX7_degreeBy_2 ++ []
def dkwX7_degreeBy_1 : List UInt8 := [21, 4, 28, 184, 0, 95, 29, 164, 0, 10, 21, 4, 28, 184, 0, 95, 62, 132, 4, 1, 167, 255, 218, 29]
abbrev dktX7_degreeBy_1 : List UInt8 := dkwX7_degreeBy_1 ++ dktX7_degreeBy_2
def dkwX7_degreeBy_0 : List UInt8 := [16, 254, 62, 3, 54, 4, 21, 4, 17, 16, 0, 162, 0, 36, 42, 27, 21, 4, 182, 1, 8, 153, 0, 20]
abbrev dktX7_degreeBy_0 : List UInt8 := dkwX7_degreeBy_0 ++ dktX7_degreeBy_1
theorem dksX7_degreeBy_0 : cX7_degreeBy.data.toList.drop 0 = dktX7_degreeBy_0 := by decide +kernel
theorem dksX7_degreeBy_1 : cX7_degreeBy.data.toList.drop 24 = dktX7_degreeBy_1 := dk_seg dksX7_degreeBy_0 24 rfl rfl
theorem dksX7_degreeBy_2 : cX7_degreeBy.data.toList.drop 48 = dktX7_degreeBy_2 := dk_seg dksX7_degreeBy_1 24 rfl rfl
theorem dX7_degreeBy_0 : decode cX7_degreeBy 0 = .ok (.bipush (-2), 2) := dk_16 254 (dk_at dksX7_degreeBy_0 0 rfl rfl)
theorem dX7_degreeBy_2 : decode cX7_degreeBy 2 = .ok (.istore_n 3, 1) := dk_62 (dk_at dksX7_degreeBy_0 2 rfl rfl)
theorem dX7_degreeBy_3 : decode cX7_degreeBy 3 = .ok (.iconst 0, 1) := dk_3 (dk_at dksX7_degreeBy_0 3 rfl rfl)
theorem dX7_degreeBy_4 : decode cX7_degreeBy 4 = .ok (.istore 4, 2) := dk_54 4 (dk_at dksX7_degreeBy_0 4 rfl rfl)
theorem dX7_degreeBy_6 : decode cX7_degreeBy 6 = .ok (.iload 4, 2) := dk_21 4 (dk_at dksX7_degreeBy_0 6 rfl rfl)
theorem dX7_degreeBy_8 : decode cX7_degreeBy 8 = .ok (.sipush 4096, 3) := dk_17 16 0 (dk_at dksX7_degreeBy_0 8 rfl rfl)
theorem dX7_degreeBy_11 : decode cX7_degreeBy 11 = .ok (.if_icmp .ge 36, 3) := dk_162 0 36 (dk_at dksX7_degreeBy_0 11 rfl rfl)
theorem dX7_degreeBy_14 : decode cX7_degreeBy 14 = .ok (.aload_n 0, 1) := dk_42 (dk_at dksX7_degreeBy_0 14 rfl rfl)
theorem dX7_degreeBy_15 : decode cX7_degreeBy 15 = .ok (.iload_n 1, 1) := dk_27 (dk_at dksX7_degreeBy_0 15 rfl rfl)
theorem dX7_degreeBy_16 : decode cX7_degreeBy 16 = .ok (.iload 4, 2) := dk_21 4 (dk_at dksX7_degreeBy_0 16 rfl rfl)
theorem dX7_degreeBy_18 : decode cX7_degreeBy 18 = .ok (.invokevirtual 264, 3) := dk_182 1 8 (dk_at dksX7_degreeBy_0 18 rfl rfl)
theorem dX7_degreeBy_21 : decode cX7_degreeBy 21 = .ok (.ifCond .eq 20, 3) := dk_153 0 20 (dk_at dksX7_degreeBy_0 21 rfl rfl)
theorem dX7_degreeBy_24 : decode cX7_degreeBy 24 = .ok (.iload 4, 2) := dk_21 4 (dk_at dksX7_degreeBy_1 0 rfl rfl)
theorem dX7_degreeBy_26 : decode cX7_degreeBy 26 = .ok (.iload_n 2, 1) := dk_28 (dk_at dksX7_degreeBy_1 2 rfl rfl)
theorem dX7_degreeBy_27 : decode cX7_degreeBy 27 = .ok (.invokestatic 95, 3) := dk_184 0 95 (dk_at dksX7_degreeBy_1 3 rfl rfl)
theorem dX7_degreeBy_30 : decode cX7_degreeBy 30 = .ok (.iload_n 3, 1) := dk_29 (dk_at dksX7_degreeBy_1 6 rfl rfl)
theorem dX7_degreeBy_31 : decode cX7_degreeBy 31 = .ok (.if_icmp .le 10, 3) := dk_164 0 10 (dk_at dksX7_degreeBy_1 7 rfl rfl)
theorem dX7_degreeBy_34 : decode cX7_degreeBy 34 = .ok (.iload 4, 2) := dk_21 4 (dk_at dksX7_degreeBy_1 10 rfl rfl)
theorem dX7_degreeBy_36 : decode cX7_degreeBy 36 = .ok (.iload_n 2, 1) := dk_28 (dk_at dksX7_degreeBy_1 12 rfl rfl)
theorem dX7_degreeBy_37 : decode cX7_degreeBy 37 = .ok (.invokestatic 95, 3) := dk_184 0 95 (dk_at dksX7_degreeBy_1 13 rfl rfl)
theorem dX7_degreeBy_40 : decode cX7_degreeBy 40 = .ok (.istore_n 3, 1) := dk_62 (dk_at dksX7_degreeBy_1 16 rfl rfl)
theorem dX7_degreeBy_41 : decode cX7_degreeBy 41 = .ok (.iinc 4 1, 3) := dk_132 4 1 (dk_at dksX7_degreeBy_1 17 rfl rfl)
theorem dX7_degreeBy_44 : decode cX7_degreeBy 44 = .ok (.goto (-38), 3) := dk_167 255 218 (dk_at dksX7_degreeBy_1 20 rfl rfl)
theorem dX7_degreeBy_47 : decode cX7_degreeBy 47 = .ok (.iload_n 3, 1) := dk_29 (dk_at dksX7_degreeBy_1 23 rfl rfl)
theorem dX7_degreeBy_48 : decode cX7_degreeBy 48 = .ok (.ireturn, 1) := dk_172 (dk_at dksX7_degreeBy_2 0 rfl rfl)
abbrev cX7_coefficient : ByteArray := prog_10_method_47_code
def yX7_coefficient : MethodName := ⟨RX7, "coefficient", "(IIII)I"⟩
def dkwX7_coefficient_2 : List UInt8 := [21, 4, 184, 1, 32, 182, 1, 8, 182, 0, 248, 167, 0, 8, 42, 5, 182, 0, 221, 172]
abbrev dktX7_coefficient_2 : List UInt8 := dkwX7_coefficient_2 ++ []
def dkwX7_coefficient_1 : List UInt8 := [153, 0, 37, 29, 184, 1, 29, 153, 0, 30, 21, 4, 184, 1, 29, 153, 0, 22, 42, 42, 27, 28, 29]
abbrev dktX7_coefficient_1 : List UInt8 := dkwX7_coefficient_1 ++ dktX7_coefficient_2
def dkwX7_coefficient_0 : List UInt8 := [42, 3, 181, 0, 89, 42, 27, 182, 1, 20, 154, 0, 9, 42, 4, 182, 0, 221, 172, 28, 184, 1, 29]
abbrev dktX7_coefficient_0 : List UInt8 := dkwX7_coefficient_0 ++ dktX7_coefficient_1
theorem dksX7_coefficient_0 : cX7_coefficient.data.toList.drop 0 = dktX7_coefficient_0 := by decide +kernel
theorem dksX7_coefficient_1 : cX7_coefficient.data.toList.drop 23 = dktX7_coefficient_1 := dk_seg dksX7_coefficient_0 23 rfl rfl
theorem dksX7_coefficient_2 : cX7_coefficient.data.toList.drop 46 = dktX7_coefficient_2 := dk_seg dksX7_coefficient_1 23 rfl rfl
theorem dX7_coefficient_0 : decode cX7_coefficient 0 = .ok (.aload_n 0, 1) := dk_42 (dk_at dksX7_coefficient_0 0 rfl rfl)
theorem dX7_coefficient_1 : decode cX7_coefficient 1 = .ok (.iconst 0, 1) := dk_3 (dk_at dksX7_coefficient_0 1 rfl rfl)
theorem dX7_coefficient_2 : decode cX7_coefficient 2 = .ok (.putfield 89, 3) := dk_181 0 89 (dk_at dksX7_coefficient_0 2 rfl rfl)
theorem dX7_coefficient_5 : decode cX7_coefficient 5 = .ok (.aload_n 0, 1) := dk_42 (dk_at dksX7_coefficient_0 5 rfl rfl)
theorem dX7_coefficient_6 : decode cX7_coefficient 6 = .ok (.iload_n 1, 1) := dk_27 (dk_at dksX7_coefficient_0 6 rfl rfl)
theorem dX7_coefficient_7 : decode cX7_coefficient 7 = .ok (.invokevirtual 276, 3) := dk_182 1 20 (dk_at dksX7_coefficient_0 7 rfl rfl)
theorem dX7_coefficient_10 : decode cX7_coefficient 10 = .ok (.ifCond .ne 9, 3) := dk_154 0 9 (dk_at dksX7_coefficient_0 10 rfl rfl)
theorem dX7_coefficient_13 : decode cX7_coefficient 13 = .ok (.aload_n 0, 1) := dk_42 (dk_at dksX7_coefficient_0 13 rfl rfl)
theorem dX7_coefficient_14 : decode cX7_coefficient 14 = .ok (.iconst 1, 1) := dk_4 (dk_at dksX7_coefficient_0 14 rfl rfl)
theorem dX7_coefficient_15 : decode cX7_coefficient 15 = .ok (.invokevirtual 221, 3) := dk_182 0 221 (dk_at dksX7_coefficient_0 15 rfl rfl)
theorem dX7_coefficient_18 : decode cX7_coefficient 18 = .ok (.ireturn, 1) := dk_172 (dk_at dksX7_coefficient_0 18 rfl rfl)
theorem dX7_coefficient_19 : decode cX7_coefficient 19 = .ok (.iload_n 2, 1) := dk_28 (dk_at dksX7_coefficient_0 19 rfl rfl)
theorem dX7_coefficient_20 : decode cX7_coefficient 20 = .ok (.invokestatic 285, 3) := dk_184 1 29 (dk_at dksX7_coefficient_0 20 rfl rfl)
theorem dX7_coefficient_23 : decode cX7_coefficient 23 = .ok (.ifCond .eq 37, 3) := dk_153 0 37 (dk_at dksX7_coefficient_1 0 rfl rfl)
theorem dX7_coefficient_26 : decode cX7_coefficient 26 = .ok (.iload_n 3, 1) := dk_29 (dk_at dksX7_coefficient_1 3 rfl rfl)
theorem dX7_coefficient_27 : decode cX7_coefficient 27 = .ok (.invokestatic 285, 3) := dk_184 1 29 (dk_at dksX7_coefficient_1 4 rfl rfl)
theorem dX7_coefficient_30 : decode cX7_coefficient 30 = .ok (.ifCond .eq 30, 3) := dk_153 0 30 (dk_at dksX7_coefficient_1 7 rfl rfl)
theorem dX7_coefficient_33 : decode cX7_coefficient 33 = .ok (.iload 4, 2) := dk_21 4 (dk_at dksX7_coefficient_1 10 rfl rfl)
theorem dX7_coefficient_35 : decode cX7_coefficient 35 = .ok (.invokestatic 285, 3) := dk_184 1 29 (dk_at dksX7_coefficient_1 12 rfl rfl)
theorem dX7_coefficient_38 : decode cX7_coefficient 38 = .ok (.ifCond .eq 22, 3) := dk_153 0 22 (dk_at dksX7_coefficient_1 15 rfl rfl)
theorem dX7_coefficient_41 : decode cX7_coefficient 41 = .ok (.aload_n 0, 1) := dk_42 (dk_at dksX7_coefficient_1 18 rfl rfl)
theorem dX7_coefficient_42 : decode cX7_coefficient 42 = .ok (.aload_n 0, 1) := dk_42 (dk_at dksX7_coefficient_1 19 rfl rfl)
theorem dX7_coefficient_43 : decode cX7_coefficient 43 = .ok (.iload_n 1, 1) := dk_27 (dk_at dksX7_coefficient_1 20 rfl rfl)
theorem dX7_coefficient_44 : decode cX7_coefficient 44 = .ok (.iload_n 2, 1) := dk_28 (dk_at dksX7_coefficient_1 21 rfl rfl)
theorem dX7_coefficient_45 : decode cX7_coefficient 45 = .ok (.iload_n 3, 1) := dk_29 (dk_at dksX7_coefficient_1 22 rfl rfl)
theorem dX7_coefficient_46 : decode cX7_coefficient 46 = .ok (.iload 4, 2) := dk_21 4 (dk_at dksX7_coefficient_2 0 rfl rfl)
theorem dX7_coefficient_48 : decode cX7_coefficient 48 = .ok (.invokestatic 288, 3) := dk_184 1 32 (dk_at dksX7_coefficient_2 2 rfl rfl)
theorem dX7_coefficient_51 : decode cX7_coefficient 51 = .ok (.invokevirtual 264, 3) := dk_182 1 8 (dk_at dksX7_coefficient_2 5 rfl rfl)
theorem dX7_coefficient_54 : decode cX7_coefficient 54 = .ok (.invokevirtual 248, 3) := dk_182 0 248 (dk_at dksX7_coefficient_2 8 rfl rfl)
theorem dX7_coefficient_57 : decode cX7_coefficient 57 = .ok (.goto 8, 3) := dk_167 0 8 (dk_at dksX7_coefficient_2 11 rfl rfl)
theorem dX7_coefficient_60 : decode cX7_coefficient 60 = .ok (.aload_n 0, 1) := dk_42 (dk_at dksX7_coefficient_2 14 rfl rfl)
theorem dX7_coefficient_61 : decode cX7_coefficient 61 = .ok (.iconst 2, 1) := dk_5 (dk_at dksX7_coefficient_2 15 rfl rfl)
theorem dX7_coefficient_62 : decode cX7_coefficient 62 = .ok (.invokevirtual 221, 3) := dk_182 0 221 (dk_at dksX7_coefficient_2 16 rfl rfl)
theorem dX7_coefficient_65 : decode cX7_coefficient 65 = .ok (.ireturn, 1) := dk_172 (dk_at dksX7_coefficient_2 19 rfl rfl)
abbrev cX7_isExponent : ByteArray := prog_10_method_35_code
def yX7_isExponent : MethodName := ⟨RX7, "isExponent", "(I)Z"⟩
def dkwX7_isExponent_0 : List UInt8 := [26, 3, 16, 15, 184, 0, 118, 172]
abbrev dktX7_isExponent_0 : List UInt8 := dkwX7_isExponent_0 ++ []
theorem dksX7_isExponent_0 : cX7_isExponent.data.toList.drop 0 = dktX7_isExponent_0 := by decide +kernel
theorem dX7_isExponent_0 : decode cX7_isExponent 0 = .ok (.iload_n 0, 1) := dk_26 (dk_at dksX7_isExponent_0 0 rfl rfl)
theorem dX7_isExponent_1 : decode cX7_isExponent 1 = .ok (.iconst 0, 1) := dk_3 (dk_at dksX7_isExponent_0 1 rfl rfl)
theorem dX7_isExponent_2 : decode cX7_isExponent 2 = .ok (.bipush 15, 2) := dk_16 15 (dk_at dksX7_isExponent_0 2 rfl rfl)
theorem dX7_isExponent_4 : decode cX7_isExponent 4 = .ok (.invokestatic 118, 3) := dk_184 0 118 (dk_at dksX7_isExponent_0 4 rfl rfl)
theorem dX7_isExponent_7 : decode cX7_isExponent 7 = .ok (.ireturn, 1) := dk_172 (dk_at dksX7_isExponent_0 7 rfl rfl)
abbrev cX7_keyOf : ByteArray := prog_10_method_8_code
def yX7_keyOf : MethodName := ⟨RX7, "keyOf", "(III)I"⟩
def dkwX7_keyOf_0 : List UInt8 := [26, 27, 7, 120, 128, 28, 16, 8, 120, 128, 172]
abbrev dktX7_keyOf_0 : List UInt8 := dkwX7_keyOf_0 ++ []
theorem dksX7_keyOf_0 : cX7_keyOf.data.toList.drop 0 = dktX7_keyOf_0 := by decide +kernel
theorem dX7_keyOf_0 : decode cX7_keyOf 0 = .ok (.iload_n 0, 1) := dk_26 (dk_at dksX7_keyOf_0 0 rfl rfl)
theorem dX7_keyOf_1 : decode cX7_keyOf 1 = .ok (.iload_n 1, 1) := dk_27 (dk_at dksX7_keyOf_0 1 rfl rfl)
theorem dX7_keyOf_2 : decode cX7_keyOf 2 = .ok (.iconst 4, 1) := dk_7 (dk_at dksX7_keyOf_0 2 rfl rfl)
theorem dX7_keyOf_3 : decode cX7_keyOf 3 = .ok (.ishl, 1) := dk_120 (dk_at dksX7_keyOf_0 3 rfl rfl)
theorem dX7_keyOf_4 : decode cX7_keyOf 4 = .ok (.ior, 1) := dk_128 (dk_at dksX7_keyOf_0 4 rfl rfl)
theorem dX7_keyOf_5 : decode cX7_keyOf 5 = .ok (.iload_n 2, 1) := dk_28 (dk_at dksX7_keyOf_0 5 rfl rfl)
theorem dX7_keyOf_6 : decode cX7_keyOf 6 = .ok (.bipush 8, 2) := dk_16 8 (dk_at dksX7_keyOf_0 6 rfl rfl)
theorem dX7_keyOf_8 : decode cX7_keyOf 8 = .ok (.ishl, 1) := dk_120 (dk_at dksX7_keyOf_0 8 rfl rfl)
theorem dX7_keyOf_9 : decode cX7_keyOf 9 = .ok (.ior, 1) := dk_128 (dk_at dksX7_keyOf_0 9 rfl rfl)
theorem dX7_keyOf_10 : decode cX7_keyOf 10 = .ok (.ireturn, 1) := dk_172 (dk_at dksX7_keyOf_0 10 rfl rfl)
abbrev cX7_value : ByteArray := prog_10_method_51_code
def yX7_value : MethodName := ⟨RX7, "value", "(IIII)I"⟩
def dkwX7_value_2 : List UInt8 := [182, 0, 221, 172, 42, 27, 182, 1, 45, 42, 42, 27, 28, 29, 21, 4, 182, 1, 48, 182, 0, 248, 172]
abbrev dktX7_value_2 : List UInt8 := dkwX7_value_2 ++ []
def dkwX7_value_1 : List UInt8 := [153, 0, 20, 42, 29, 182, 1, 42, 153, 0, 12, 42, 21, 4, 182, 1, 42, 154, 0, 9, 42, 5]
abbrev dktX7_value_1 : List UInt8 := dkwX7_value_1 ++ dktX7_value_2
def dkwX7_value_0 : List UInt8 := [42, 3, 181, 0, 89, 42, 27, 182, 1, 20, 154, 0, 9, 42, 4, 182, 0, 221, 172, 42, 28, 182, 1, 42]
abbrev dktX7_value_0 : List UInt8 := dkwX7_value_0 ++ dktX7_value_1
theorem dksX7_value_0 : cX7_value.data.toList.drop 0 = dktX7_value_0 := by decide +kernel
theorem dksX7_value_1 : cX7_value.data.toList.drop 24 = dktX7_value_1 := dk_seg dksX7_value_0 24 rfl rfl
theorem dksX7_value_2 : cX7_value.data.toList.drop 46 = dktX7_value_2 := dk_seg dksX7_value_1 22 rfl rfl
theorem dX7_value_0 : decode cX7_value 0 = .ok (.aload_n 0, 1) := dk_42 (dk_at dksX7_value_0 0 rfl rfl)
theorem dX7_value_1 : decode cX7_value 1 = .ok (.iconst 0, 1) := dk_3 (dk_at dksX7_value_0 1 rfl rfl)
theorem dX7_value_2 : decode cX7_value 2 = .ok (.putfield 89, 3) := dk_181 0 89 (dk_at dksX7_value_0 2 rfl rfl)
theorem dX7_value_5 : decode cX7_value 5 = .ok (.aload_n 0, 1) := dk_42 (dk_at dksX7_value_0 5 rfl rfl)
theorem dX7_value_6 : decode cX7_value 6 = .ok (.iload_n 1, 1) := dk_27 (dk_at dksX7_value_0 6 rfl rfl)
theorem dX7_value_7 : decode cX7_value 7 = .ok (.invokevirtual 276, 3) := dk_182 1 20 (dk_at dksX7_value_0 7 rfl rfl)
theorem dX7_value_10 : decode cX7_value 10 = .ok (.ifCond .ne 9, 3) := dk_154 0 9 (dk_at dksX7_value_0 10 rfl rfl)
theorem dX7_value_13 : decode cX7_value 13 = .ok (.aload_n 0, 1) := dk_42 (dk_at dksX7_value_0 13 rfl rfl)
theorem dX7_value_14 : decode cX7_value 14 = .ok (.iconst 1, 1) := dk_4 (dk_at dksX7_value_0 14 rfl rfl)
theorem dX7_value_15 : decode cX7_value 15 = .ok (.invokevirtual 221, 3) := dk_182 0 221 (dk_at dksX7_value_0 15 rfl rfl)
theorem dX7_value_18 : decode cX7_value 18 = .ok (.ireturn, 1) := dk_172 (dk_at dksX7_value_0 18 rfl rfl)
theorem dX7_value_19 : decode cX7_value 19 = .ok (.aload_n 0, 1) := dk_42 (dk_at dksX7_value_0 19 rfl rfl)
theorem dX7_value_20 : decode cX7_value 20 = .ok (.iload_n 2, 1) := dk_28 (dk_at dksX7_value_0 20 rfl rfl)
theorem dX7_value_21 : decode cX7_value 21 = .ok (.invokevirtual 298, 3) := dk_182 1 42 (dk_at dksX7_value_0 21 rfl rfl)
theorem dX7_value_24 : decode cX7_value 24 = .ok (.ifCond .eq 20, 3) := dk_153 0 20 (dk_at dksX7_value_1 0 rfl rfl)
theorem dX7_value_27 : decode cX7_value 27 = .ok (.aload_n 0, 1) := dk_42 (dk_at dksX7_value_1 3 rfl rfl)
theorem dX7_value_28 : decode cX7_value 28 = .ok (.iload_n 3, 1) := dk_29 (dk_at dksX7_value_1 4 rfl rfl)
theorem dX7_value_29 : decode cX7_value 29 = .ok (.invokevirtual 298, 3) := dk_182 1 42 (dk_at dksX7_value_1 5 rfl rfl)
theorem dX7_value_32 : decode cX7_value 32 = .ok (.ifCond .eq 12, 3) := dk_153 0 12 (dk_at dksX7_value_1 8 rfl rfl)
theorem dX7_value_35 : decode cX7_value 35 = .ok (.aload_n 0, 1) := dk_42 (dk_at dksX7_value_1 11 rfl rfl)
theorem dX7_value_36 : decode cX7_value 36 = .ok (.iload 4, 2) := dk_21 4 (dk_at dksX7_value_1 12 rfl rfl)
theorem dX7_value_38 : decode cX7_value 38 = .ok (.invokevirtual 298, 3) := dk_182 1 42 (dk_at dksX7_value_1 14 rfl rfl)
theorem dX7_value_41 : decode cX7_value 41 = .ok (.ifCond .ne 9, 3) := dk_154 0 9 (dk_at dksX7_value_1 17 rfl rfl)
theorem dX7_value_44 : decode cX7_value 44 = .ok (.aload_n 0, 1) := dk_42 (dk_at dksX7_value_1 20 rfl rfl)
theorem dX7_value_45 : decode cX7_value 45 = .ok (.iconst 2, 1) := dk_5 (dk_at dksX7_value_1 21 rfl rfl)
theorem dX7_value_46 : decode cX7_value 46 = .ok (.invokevirtual 221, 3) := dk_182 0 221 (dk_at dksX7_value_2 0 rfl rfl)
theorem dX7_value_49 : decode cX7_value 49 = .ok (.ireturn, 1) := dk_172 (dk_at dksX7_value_2 3 rfl rfl)
theorem dX7_value_50 : decode cX7_value 50 = .ok (.aload_n 0, 1) := dk_42 (dk_at dksX7_value_2 4 rfl rfl)
theorem dX7_value_51 : decode cX7_value 51 = .ok (.iload_n 1, 1) := dk_27 (dk_at dksX7_value_2 5 rfl rfl)
theorem dX7_value_52 : decode cX7_value 52 = .ok (.invokevirtual 301, 3) := dk_182 1 45 (dk_at dksX7_value_2 6 rfl rfl)
theorem dX7_value_55 : decode cX7_value 55 = .ok (.aload_n 0, 1) := dk_42 (dk_at dksX7_value_2 9 rfl rfl)
theorem dX7_value_56 : decode cX7_value 56 = .ok (.aload_n 0, 1) := dk_42 (dk_at dksX7_value_2 10 rfl rfl)
theorem dX7_value_57 : decode cX7_value 57 = .ok (.iload_n 1, 1) := dk_27 (dk_at dksX7_value_2 11 rfl rfl)
theorem dX7_value_58 : decode cX7_value 58 = .ok (.iload_n 2, 1) := dk_28 (dk_at dksX7_value_2 12 rfl rfl)
theorem dX7_value_59 : decode cX7_value 59 = .ok (.iload_n 3, 1) := dk_29 (dk_at dksX7_value_2 13 rfl rfl)
theorem dX7_value_60 : decode cX7_value 60 = .ok (.iload 4, 2) := dk_21 4 (dk_at dksX7_value_2 14 rfl rfl)
theorem dX7_value_62 : decode cX7_value 62 = .ok (.invokevirtual 304, 3) := dk_182 1 48 (dk_at dksX7_value_2 16 rfl rfl)
theorem dX7_value_65 : decode cX7_value 65 = .ok (.invokevirtual 248, 3) := dk_182 0 248 (dk_at dksX7_value_2 19 rfl rfl)
theorem dX7_value_68 : decode cX7_value 68 = .ok (.ireturn, 1) := dk_172 (dk_at dksX7_value_2 22 rfl rfl)
abbrev cX7_isValue : ByteArray := prog_10_method_34_code
def yX7_isValue : MethodName := ⟨RX7, "isValue", "(I)Z"⟩
def dkwX7_isValue_0 : List UInt8 := [27, 3, 42, 180, 0, 231, 4, 100, 184, 0, 118, 172]
abbrev dktX7_isValue_0 : List UInt8 := dkwX7_isValue_0 ++ []
theorem dksX7_isValue_0 : cX7_isValue.data.toList.drop 0 = dktX7_isValue_0 := by decide +kernel
theorem dX7_isValue_0 : decode cX7_isValue 0 = .ok (.iload_n 1, 1) := dk_27 (dk_at dksX7_isValue_0 0 rfl rfl)
theorem dX7_isValue_1 : decode cX7_isValue 1 = .ok (.iconst 0, 1) := dk_3 (dk_at dksX7_isValue_0 1 rfl rfl)
theorem dX7_isValue_2 : decode cX7_isValue 2 = .ok (.aload_n 0, 1) := dk_42 (dk_at dksX7_isValue_0 2 rfl rfl)
theorem dX7_isValue_3 : decode cX7_isValue 3 = .ok (.getfield 231, 3) := dk_180 0 231 (dk_at dksX7_isValue_0 3 rfl rfl)
theorem dX7_isValue_6 : decode cX7_isValue 6 = .ok (.iconst 1, 1) := dk_4 (dk_at dksX7_isValue_0 6 rfl rfl)
theorem dX7_isValue_7 : decode cX7_isValue 7 = .ok (.isub, 1) := dk_100 (dk_at dksX7_isValue_0 7 rfl rfl)
theorem dX7_isValue_8 : decode cX7_isValue 8 = .ok (.invokestatic 118, 3) := dk_184 0 118 (dk_at dksX7_isValue_0 8 rfl rfl)
theorem dX7_isValue_11 : decode cX7_isValue 11 = .ok (.ireturn, 1) := dk_172 (dk_at dksX7_isValue_0 11 rfl rfl)
abbrev cX7_laysKeys : ByteArray := prog_10_method_49_code
def yX7_laysKeys : MethodName := ⟨RX7, "laysKeys", "(I)V"⟩
def dkwX7_laysKeys_2 : List UInt8 := [132, 2, 1, 167, 255, 214, 177]
abbrev dktX7_laysKeys_2 : List UInt8 := dkwX7_laysKeys_2 ++ []
def dkwX7_laysKeys_1 : List UInt8 := [167, 0, 23, 42, 180, 0, 28, 42, 180, 1, 36, 28, 79, 42, 89, 180, 1, 36, 4, 96, 181, 1, 36]
abbrev dktX7_laysKeys_1 : List UInt8 := dkwX7_laysKeys_1 ++ dktX7_laysKeys_2
def dkwX7_laysKeys_0 : List UInt8 := [42, 3, 181, 1, 36, 3, 61, 28, 17, 16, 0, 162, 0, 41, 42, 27, 28, 182, 1, 8, 154, 0, 6]
abbrev dktX7_laysKeys_0 : List UInt8 := dkwX7_laysKeys_0 ++ dktX7_laysKeys_1
theorem dksX7_laysKeys_0 : cX7_laysKeys.data.toList.drop 0 = dktX7_laysKeys_0 := by decide +kernel
theorem dksX7_laysKeys_1 : cX7_laysKeys.data.toList.drop 23 = dktX7_laysKeys_1 := dk_seg dksX7_laysKeys_0 23 rfl rfl
theorem dksX7_laysKeys_2 : cX7_laysKeys.data.toList.drop 46 = dktX7_laysKeys_2 := dk_seg dksX7_laysKeys_1 23 rfl rfl
theorem dX7_laysKeys_0 : decode cX7_laysKeys 0 = .ok (.aload_n 0, 1) := dk_42 (dk_at dksX7_laysKeys_0 0 rfl rfl)
theorem dX7_laysKeys_1 : decode cX7_laysKeys 1 = .ok (.iconst 0, 1) := dk_3 (dk_at dksX7_laysKeys_0 1 rfl rfl)
theorem dX7_laysKeys_2 : decode cX7_laysKeys 2 = .ok (.putfield 292, 3) := dk_181 1 36 (dk_at dksX7_laysKeys_0 2 rfl rfl)
theorem dX7_laysKeys_5 : decode cX7_laysKeys 5 = .ok (.iconst 0, 1) := dk_3 (dk_at dksX7_laysKeys_0 5 rfl rfl)
theorem dX7_laysKeys_6 : decode cX7_laysKeys 6 = .ok (.istore_n 2, 1) := dk_61 (dk_at dksX7_laysKeys_0 6 rfl rfl)
theorem dX7_laysKeys_7 : decode cX7_laysKeys 7 = .ok (.iload_n 2, 1) := dk_28 (dk_at dksX7_laysKeys_0 7 rfl rfl)
theorem dX7_laysKeys_8 : decode cX7_laysKeys 8 = .ok (.sipush 4096, 3) := dk_17 16 0 (dk_at dksX7_laysKeys_0 8 rfl rfl)
theorem dX7_laysKeys_11 : decode cX7_laysKeys 11 = .ok (.if_icmp .ge 41, 3) := dk_162 0 41 (dk_at dksX7_laysKeys_0 11 rfl rfl)
theorem dX7_laysKeys_14 : decode cX7_laysKeys 14 = .ok (.aload_n 0, 1) := dk_42 (dk_at dksX7_laysKeys_0 14 rfl rfl)
theorem dX7_laysKeys_15 : decode cX7_laysKeys 15 = .ok (.iload_n 1, 1) := dk_27 (dk_at dksX7_laysKeys_0 15 rfl rfl)
theorem dX7_laysKeys_16 : decode cX7_laysKeys 16 = .ok (.iload_n 2, 1) := dk_28 (dk_at dksX7_laysKeys_0 16 rfl rfl)
theorem dX7_laysKeys_17 : decode cX7_laysKeys 17 = .ok (.invokevirtual 264, 3) := dk_182 1 8 (dk_at dksX7_laysKeys_0 17 rfl rfl)
theorem dX7_laysKeys_20 : decode cX7_laysKeys 20 = .ok (.ifCond .ne 6, 3) := dk_154 0 6 (dk_at dksX7_laysKeys_0 20 rfl rfl)
theorem dX7_laysKeys_23 : decode cX7_laysKeys 23 = .ok (.goto 23, 3) := dk_167 0 23 (dk_at dksX7_laysKeys_1 0 rfl rfl)
theorem dX7_laysKeys_26 : decode cX7_laysKeys 26 = .ok (.aload_n 0, 1) := dk_42 (dk_at dksX7_laysKeys_1 3 rfl rfl)
theorem dX7_laysKeys_27 : decode cX7_laysKeys 27 = .ok (.getfield 28, 3) := dk_180 0 28 (dk_at dksX7_laysKeys_1 4 rfl rfl)
theorem dX7_laysKeys_30 : decode cX7_laysKeys 30 = .ok (.aload_n 0, 1) := dk_42 (dk_at dksX7_laysKeys_1 7 rfl rfl)
theorem dX7_laysKeys_31 : decode cX7_laysKeys 31 = .ok (.getfield 292, 3) := dk_180 1 36 (dk_at dksX7_laysKeys_1 8 rfl rfl)
theorem dX7_laysKeys_34 : decode cX7_laysKeys 34 = .ok (.iload_n 2, 1) := dk_28 (dk_at dksX7_laysKeys_1 11 rfl rfl)
theorem dX7_laysKeys_35 : decode cX7_laysKeys 35 = .ok (.iastore, 1) := dk_79 (dk_at dksX7_laysKeys_1 12 rfl rfl)
theorem dX7_laysKeys_36 : decode cX7_laysKeys 36 = .ok (.aload_n 0, 1) := dk_42 (dk_at dksX7_laysKeys_1 13 rfl rfl)
theorem dX7_laysKeys_37 : decode cX7_laysKeys 37 = .ok (.dup, 1) := dk_89 (dk_at dksX7_laysKeys_1 14 rfl rfl)
theorem dX7_laysKeys_38 : decode cX7_laysKeys 38 = .ok (.getfield 292, 3) := dk_180 1 36 (dk_at dksX7_laysKeys_1 15 rfl rfl)
theorem dX7_laysKeys_41 : decode cX7_laysKeys 41 = .ok (.iconst 1, 1) := dk_4 (dk_at dksX7_laysKeys_1 18 rfl rfl)
theorem dX7_laysKeys_42 : decode cX7_laysKeys 42 = .ok (.iadd, 1) := dk_96 (dk_at dksX7_laysKeys_1 19 rfl rfl)
theorem dX7_laysKeys_43 : decode cX7_laysKeys 43 = .ok (.putfield 292, 3) := dk_181 1 36 (dk_at dksX7_laysKeys_1 20 rfl rfl)
theorem dX7_laysKeys_46 : decode cX7_laysKeys 46 = .ok (.iinc 2 1, 3) := dk_132 2 1 (dk_at dksX7_laysKeys_2 0 rfl rfl)
theorem dX7_laysKeys_49 : decode cX7_laysKeys 49 = .ok (.goto (-42), 3) := dk_167 255 214 (dk_at dksX7_laysKeys_2 3 rfl rfl)
theorem dX7_laysKeys_52 : decode cX7_laysKeys 52 = .ok (.return_, 1) := dk_177 (dk_at dksX7_laysKeys_2 6 rfl rfl)
abbrev cX7_valueOf : ByteArray := prog_10_method_50_code
def yX7_valueOf : MethodName := ⟨RX7, "valueOf", "(IIII)I"⟩
def dkwX7_valueOf_4 : List UInt8 := [54, 5, 132, 6, 1, 167, 255, 162, 21, 5, 172]
abbrev dktX7_valueOf_4 : List UInt8 := dkwX7_valueOf_4 ++ []
def dkwX7_valueOf_3 : List UInt8 := [184, 0, 95, 182, 1, 39, 104, 42, 180, 0, 231, 112, 54, 8, 21, 5, 21, 8, 96, 42, 180, 0, 231, 112]
abbrev dktX7_valueOf_3 : List UInt8 := dkwX7_valueOf_3 ++ dktX7_valueOf_4
def dkwX7_valueOf_2 : List UInt8 := [42, 29, 21, 7, 4, 184, 0, 95, 182, 1, 39, 104, 42, 180, 0, 231, 112, 42, 21, 4, 21, 7, 5]
abbrev dktX7_valueOf_2 : List UInt8 := dkwX7_valueOf_2 ++ dktX7_valueOf_3
def dkwX7_valueOf_1 : List UInt8 := [42, 27, 21, 7, 182, 1, 8, 42, 28, 21, 7, 3, 184, 0, 95, 182, 1, 39, 104, 42, 180, 0, 231, 112]
abbrev dktX7_valueOf_1 : List UInt8 := dkwX7_valueOf_1 ++ dktX7_valueOf_2
def dkwX7_valueOf_0 : List UInt8 := [3, 54, 5, 3, 54, 6, 21, 6, 42, 180, 1, 36, 162, 0, 91, 42, 180, 0, 28, 21, 6, 46, 54, 7]
abbrev dktX7_valueOf_0 : List UInt8 := dkwX7_valueOf_0 ++ dktX7_valueOf_1
theorem dksX7_valueOf_0 : cX7_valueOf.data.toList.drop 0 = dktX7_valueOf_0 := by decide +kernel
theorem dksX7_valueOf_1 : cX7_valueOf.data.toList.drop 24 = dktX7_valueOf_1 := dk_seg dksX7_valueOf_0 24 rfl rfl
theorem dksX7_valueOf_2 : cX7_valueOf.data.toList.drop 48 = dktX7_valueOf_2 := dk_seg dksX7_valueOf_1 24 rfl rfl
theorem dksX7_valueOf_3 : cX7_valueOf.data.toList.drop 71 = dktX7_valueOf_3 := dk_seg dksX7_valueOf_2 23 rfl rfl
theorem dksX7_valueOf_4 : cX7_valueOf.data.toList.drop 95 = dktX7_valueOf_4 := dk_seg dksX7_valueOf_3 24 rfl rfl
theorem dX7_valueOf_0 : decode cX7_valueOf 0 = .ok (.iconst 0, 1) := dk_3 (dk_at dksX7_valueOf_0 0 rfl rfl)
theorem dX7_valueOf_1 : decode cX7_valueOf 1 = .ok (.istore 5, 2) := dk_54 5 (dk_at dksX7_valueOf_0 1 rfl rfl)
theorem dX7_valueOf_3 : decode cX7_valueOf 3 = .ok (.iconst 0, 1) := dk_3 (dk_at dksX7_valueOf_0 3 rfl rfl)
theorem dX7_valueOf_4 : decode cX7_valueOf 4 = .ok (.istore 6, 2) := dk_54 6 (dk_at dksX7_valueOf_0 4 rfl rfl)
theorem dX7_valueOf_6 : decode cX7_valueOf 6 = .ok (.iload 6, 2) := dk_21 6 (dk_at dksX7_valueOf_0 6 rfl rfl)
theorem dX7_valueOf_8 : decode cX7_valueOf 8 = .ok (.aload_n 0, 1) := dk_42 (dk_at dksX7_valueOf_0 8 rfl rfl)
theorem dX7_valueOf_9 : decode cX7_valueOf 9 = .ok (.getfield 292, 3) := dk_180 1 36 (dk_at dksX7_valueOf_0 9 rfl rfl)
theorem dX7_valueOf_12 : decode cX7_valueOf 12 = .ok (.if_icmp .ge 91, 3) := dk_162 0 91 (dk_at dksX7_valueOf_0 12 rfl rfl)
theorem dX7_valueOf_15 : decode cX7_valueOf 15 = .ok (.aload_n 0, 1) := dk_42 (dk_at dksX7_valueOf_0 15 rfl rfl)
theorem dX7_valueOf_16 : decode cX7_valueOf 16 = .ok (.getfield 28, 3) := dk_180 0 28 (dk_at dksX7_valueOf_0 16 rfl rfl)
theorem dX7_valueOf_19 : decode cX7_valueOf 19 = .ok (.iload 6, 2) := dk_21 6 (dk_at dksX7_valueOf_0 19 rfl rfl)
theorem dX7_valueOf_21 : decode cX7_valueOf 21 = .ok (.iaload, 1) := dk_46 (dk_at dksX7_valueOf_0 21 rfl rfl)
theorem dX7_valueOf_22 : decode cX7_valueOf 22 = .ok (.istore 7, 2) := dk_54 7 (dk_at dksX7_valueOf_0 22 rfl rfl)
theorem dX7_valueOf_24 : decode cX7_valueOf 24 = .ok (.aload_n 0, 1) := dk_42 (dk_at dksX7_valueOf_1 0 rfl rfl)
theorem dX7_valueOf_25 : decode cX7_valueOf 25 = .ok (.iload_n 1, 1) := dk_27 (dk_at dksX7_valueOf_1 1 rfl rfl)
theorem dX7_valueOf_26 : decode cX7_valueOf 26 = .ok (.iload 7, 2) := dk_21 7 (dk_at dksX7_valueOf_1 2 rfl rfl)
theorem dX7_valueOf_28 : decode cX7_valueOf 28 = .ok (.invokevirtual 264, 3) := dk_182 1 8 (dk_at dksX7_valueOf_1 4 rfl rfl)
theorem dX7_valueOf_31 : decode cX7_valueOf 31 = .ok (.aload_n 0, 1) := dk_42 (dk_at dksX7_valueOf_1 7 rfl rfl)
theorem dX7_valueOf_32 : decode cX7_valueOf 32 = .ok (.iload_n 2, 1) := dk_28 (dk_at dksX7_valueOf_1 8 rfl rfl)
theorem dX7_valueOf_33 : decode cX7_valueOf 33 = .ok (.iload 7, 2) := dk_21 7 (dk_at dksX7_valueOf_1 9 rfl rfl)
theorem dX7_valueOf_35 : decode cX7_valueOf 35 = .ok (.iconst 0, 1) := dk_3 (dk_at dksX7_valueOf_1 11 rfl rfl)
theorem dX7_valueOf_36 : decode cX7_valueOf 36 = .ok (.invokestatic 95, 3) := dk_184 0 95 (dk_at dksX7_valueOf_1 12 rfl rfl)
theorem dX7_valueOf_39 : decode cX7_valueOf 39 = .ok (.invokevirtual 295, 3) := dk_182 1 39 (dk_at dksX7_valueOf_1 15 rfl rfl)
theorem dX7_valueOf_42 : decode cX7_valueOf 42 = .ok (.imul, 1) := dk_104 (dk_at dksX7_valueOf_1 18 rfl rfl)
theorem dX7_valueOf_43 : decode cX7_valueOf 43 = .ok (.aload_n 0, 1) := dk_42 (dk_at dksX7_valueOf_1 19 rfl rfl)
theorem dX7_valueOf_44 : decode cX7_valueOf 44 = .ok (.getfield 231, 3) := dk_180 0 231 (dk_at dksX7_valueOf_1 20 rfl rfl)
theorem dX7_valueOf_47 : decode cX7_valueOf 47 = .ok (.irem, 1) := dk_112 (dk_at dksX7_valueOf_1 23 rfl rfl)
theorem dX7_valueOf_48 : decode cX7_valueOf 48 = .ok (.aload_n 0, 1) := dk_42 (dk_at dksX7_valueOf_2 0 rfl rfl)
theorem dX7_valueOf_49 : decode cX7_valueOf 49 = .ok (.iload_n 3, 1) := dk_29 (dk_at dksX7_valueOf_2 1 rfl rfl)
theorem dX7_valueOf_50 : decode cX7_valueOf 50 = .ok (.iload 7, 2) := dk_21 7 (dk_at dksX7_valueOf_2 2 rfl rfl)
theorem dX7_valueOf_52 : decode cX7_valueOf 52 = .ok (.iconst 1, 1) := dk_4 (dk_at dksX7_valueOf_2 4 rfl rfl)
theorem dX7_valueOf_53 : decode cX7_valueOf 53 = .ok (.invokestatic 95, 3) := dk_184 0 95 (dk_at dksX7_valueOf_2 5 rfl rfl)
theorem dX7_valueOf_56 : decode cX7_valueOf 56 = .ok (.invokevirtual 295, 3) := dk_182 1 39 (dk_at dksX7_valueOf_2 8 rfl rfl)
theorem dX7_valueOf_59 : decode cX7_valueOf 59 = .ok (.imul, 1) := dk_104 (dk_at dksX7_valueOf_2 11 rfl rfl)
theorem dX7_valueOf_60 : decode cX7_valueOf 60 = .ok (.aload_n 0, 1) := dk_42 (dk_at dksX7_valueOf_2 12 rfl rfl)
theorem dX7_valueOf_61 : decode cX7_valueOf 61 = .ok (.getfield 231, 3) := dk_180 0 231 (dk_at dksX7_valueOf_2 13 rfl rfl)
theorem dX7_valueOf_64 : decode cX7_valueOf 64 = .ok (.irem, 1) := dk_112 (dk_at dksX7_valueOf_2 16 rfl rfl)
theorem dX7_valueOf_65 : decode cX7_valueOf 65 = .ok (.aload_n 0, 1) := dk_42 (dk_at dksX7_valueOf_2 17 rfl rfl)
theorem dX7_valueOf_66 : decode cX7_valueOf 66 = .ok (.iload 4, 2) := dk_21 4 (dk_at dksX7_valueOf_2 18 rfl rfl)
theorem dX7_valueOf_68 : decode cX7_valueOf 68 = .ok (.iload 7, 2) := dk_21 7 (dk_at dksX7_valueOf_2 20 rfl rfl)
theorem dX7_valueOf_70 : decode cX7_valueOf 70 = .ok (.iconst 2, 1) := dk_5 (dk_at dksX7_valueOf_2 22 rfl rfl)
theorem dX7_valueOf_71 : decode cX7_valueOf 71 = .ok (.invokestatic 95, 3) := dk_184 0 95 (dk_at dksX7_valueOf_3 0 rfl rfl)
theorem dX7_valueOf_74 : decode cX7_valueOf 74 = .ok (.invokevirtual 295, 3) := dk_182 1 39 (dk_at dksX7_valueOf_3 3 rfl rfl)
theorem dX7_valueOf_77 : decode cX7_valueOf 77 = .ok (.imul, 1) := dk_104 (dk_at dksX7_valueOf_3 6 rfl rfl)
theorem dX7_valueOf_78 : decode cX7_valueOf 78 = .ok (.aload_n 0, 1) := dk_42 (dk_at dksX7_valueOf_3 7 rfl rfl)
theorem dX7_valueOf_79 : decode cX7_valueOf 79 = .ok (.getfield 231, 3) := dk_180 0 231 (dk_at dksX7_valueOf_3 8 rfl rfl)
theorem dX7_valueOf_82 : decode cX7_valueOf 82 = .ok (.irem, 1) := dk_112 (dk_at dksX7_valueOf_3 11 rfl rfl)
theorem dX7_valueOf_83 : decode cX7_valueOf 83 = .ok (.istore 8, 2) := dk_54 8 (dk_at dksX7_valueOf_3 12 rfl rfl)
theorem dX7_valueOf_85 : decode cX7_valueOf 85 = .ok (.iload 5, 2) := dk_21 5 (dk_at dksX7_valueOf_3 14 rfl rfl)
theorem dX7_valueOf_87 : decode cX7_valueOf 87 = .ok (.iload 8, 2) := dk_21 8 (dk_at dksX7_valueOf_3 16 rfl rfl)
theorem dX7_valueOf_89 : decode cX7_valueOf 89 = .ok (.iadd, 1) := dk_96 (dk_at dksX7_valueOf_3 18 rfl rfl)
theorem dX7_valueOf_90 : decode cX7_valueOf 90 = .ok (.aload_n 0, 1) := dk_42 (dk_at dksX7_valueOf_3 19 rfl rfl)
theorem dX7_valueOf_91 : decode cX7_valueOf 91 = .ok (.getfield 231, 3) := dk_180 0 231 (dk_at dksX7_valueOf_3 20 rfl rfl)
theorem dX7_valueOf_94 : decode cX7_valueOf 94 = .ok (.irem, 1) := dk_112 (dk_at dksX7_valueOf_3 23 rfl rfl)
theorem dX7_valueOf_95 : decode cX7_valueOf 95 = .ok (.istore 5, 2) := dk_54 5 (dk_at dksX7_valueOf_4 0 rfl rfl)
theorem dX7_valueOf_97 : decode cX7_valueOf 97 = .ok (.iinc 6 1, 3) := dk_132 6 1 (dk_at dksX7_valueOf_4 2 rfl rfl)
theorem dX7_valueOf_100 : decode cX7_valueOf 100 = .ok (.goto (-94), 3) := dk_167 255 162 (dk_at dksX7_valueOf_4 5 rfl rfl)
theorem dX7_valueOf_103 : decode cX7_valueOf 103 = .ok (.iload 5, 2) := dk_21 5 (dk_at dksX7_valueOf_4 8 rfl rfl)
theorem dX7_valueOf_105 : decode cX7_valueOf 105 = .ok (.ireturn, 1) := dk_172 (dk_at dksX7_valueOf_4 10 rfl rfl)
abbrev cX7_power : ByteArray := prog_10_method_48_code
def yX7_power : MethodName := ⟨RX7, "power", "(II)I"⟩
def dkwX7_power_1 : List UInt8 := [167, 255, 238, 29, 172]
abbrev dktX7_power_1 : List UInt8 := dkwX7_power_1 ++ []
def dkwX7_power_0 : List UInt8 := [4, 62, 3, 54, 4, 21, 4, 28, 162, 0, 18, 29, 27, 104, 42, 180, 0, 231, 112, 62, 132, 4, 1]
abbrev dktX7_power_0 : List UInt8 := dkwX7_power_0 ++ dktX7_power_1
theorem dksX7_power_0 : cX7_power.data.toList.drop 0 = dktX7_power_0 := by decide +kernel
theorem dksX7_power_1 : cX7_power.data.toList.drop 23 = dktX7_power_1 := dk_seg dksX7_power_0 23 rfl rfl
theorem dX7_power_0 : decode cX7_power 0 = .ok (.iconst 1, 1) := dk_4 (dk_at dksX7_power_0 0 rfl rfl)
theorem dX7_power_1 : decode cX7_power 1 = .ok (.istore_n 3, 1) := dk_62 (dk_at dksX7_power_0 1 rfl rfl)
theorem dX7_power_2 : decode cX7_power 2 = .ok (.iconst 0, 1) := dk_3 (dk_at dksX7_power_0 2 rfl rfl)
theorem dX7_power_3 : decode cX7_power 3 = .ok (.istore 4, 2) := dk_54 4 (dk_at dksX7_power_0 3 rfl rfl)
theorem dX7_power_5 : decode cX7_power 5 = .ok (.iload 4, 2) := dk_21 4 (dk_at dksX7_power_0 5 rfl rfl)
theorem dX7_power_7 : decode cX7_power 7 = .ok (.iload_n 2, 1) := dk_28 (dk_at dksX7_power_0 7 rfl rfl)
theorem dX7_power_8 : decode cX7_power 8 = .ok (.if_icmp .ge 18, 3) := dk_162 0 18 (dk_at dksX7_power_0 8 rfl rfl)
theorem dX7_power_11 : decode cX7_power 11 = .ok (.iload_n 3, 1) := dk_29 (dk_at dksX7_power_0 11 rfl rfl)
theorem dX7_power_12 : decode cX7_power 12 = .ok (.iload_n 1, 1) := dk_27 (dk_at dksX7_power_0 12 rfl rfl)
theorem dX7_power_13 : decode cX7_power 13 = .ok (.imul, 1) := dk_104 (dk_at dksX7_power_0 13 rfl rfl)
theorem dX7_power_14 : decode cX7_power 14 = .ok (.aload_n 0, 1) := dk_42 (dk_at dksX7_power_0 14 rfl rfl)
theorem dX7_power_15 : decode cX7_power 15 = .ok (.getfield 231, 3) := dk_180 0 231 (dk_at dksX7_power_0 15 rfl rfl)
theorem dX7_power_18 : decode cX7_power 18 = .ok (.irem, 1) := dk_112 (dk_at dksX7_power_0 18 rfl rfl)
theorem dX7_power_19 : decode cX7_power 19 = .ok (.istore_n 3, 1) := dk_62 (dk_at dksX7_power_0 19 rfl rfl)
theorem dX7_power_20 : decode cX7_power 20 = .ok (.iinc 4 1, 3) := dk_132 4 1 (dk_at dksX7_power_0 20 rfl rfl)
theorem dX7_power_23 : decode cX7_power 23 = .ok (.goto (-18), 3) := dk_167 255 238 (dk_at dksX7_power_1 0 rfl rfl)
theorem dX7_power_26 : decode cX7_power 26 = .ok (.iload_n 3, 1) := dk_29 (dk_at dksX7_power_1 3 rfl rfl)
theorem dX7_power_27 : decode cX7_power 27 = .ok (.ireturn, 1) := dk_172 (dk_at dksX7_power_1 4 rfl rfl)
abbrev cX7_roots : ByteArray := prog_10_method_52_code
def yX7_roots : MethodName := ⟨RX7, "roots", "(I)I"⟩
def dkwX7_roots_7 : List UInt8 := [167, 255, 207, 132, 6, 1, 167, 255, 192, 42, 21, 5, 182, 0, 248, 172]
abbrev dktX7_roots_7 : List UInt8 := dkwX7_roots_7 ++ []
def dkwX7_roots_6 : List UInt8 := [182, 1, 48, 154, 0, 7, 4, 167, 0, 4, 3, 96, 54, 5, 132, 8, 1, 167, 255, 222, 132, 7, 1]
abbrev dktX7_roots_6 : List UInt8 := dkwX7_roots_6 ++ dktX7_roots_7
def dkwX7_roots_5 : List UInt8 := [162, 0, 49, 3, 54, 8, 21, 8, 21, 4, 162, 0, 33, 21, 5, 42, 27, 21, 6, 21, 7, 21, 8]
abbrev dktX7_roots_5 : List UInt8 := dkwX7_roots_5 ++ dktX7_roots_6
def dkwX7_roots_4 : List UInt8 := [42, 27, 182, 1, 45, 3, 54, 5, 3, 54, 6, 21, 6, 28, 162, 0, 64, 3, 54, 7, 21, 7, 29]
abbrev dktX7_roots_4 : List UInt8 := dkwX7_roots_4 ++ dktX7_roots_5
def dkwX7_roots_3 : List UInt8 := [167, 0, 4, 4, 54, 4, 28, 29, 104, 21, 4, 104, 17, 39, 16, 164, 0, 9, 42, 8, 182, 0, 221, 172]
abbrev dktX7_roots_3 : List UInt8 := dkwX7_roots_3 ++ dktX7_roots_4
def dkwX7_roots_2 : List UInt8 := [42, 180, 0, 231, 167, 0, 4, 4, 62, 42, 27, 5, 182, 1, 26, 158, 0, 10, 42, 180, 0, 231]
abbrev dktX7_roots_2 : List UInt8 := dkwX7_roots_2 ++ dktX7_roots_3
def dkwX7_roots_1 : List UInt8 := [182, 1, 26, 158, 0, 10, 42, 180, 0, 231, 167, 0, 4, 4, 61, 42, 27, 4, 182, 1, 26, 158, 0, 10]
abbrev dktX7_roots_1 : List UInt8 := dkwX7_roots_1 ++ dktX7_roots_2
def dkwX7_roots_0 : List UInt8 := [42, 3, 181, 0, 89, 42, 27, 182, 1, 20, 154, 0, 9, 42, 4, 182, 0, 221, 172, 42, 27, 3]
abbrev dktX7_roots_0 : List UInt8 := dkwX7_roots_0 ++ dktX7_roots_1
theorem dksX7_roots_0 : cX7_roots.data.toList.drop 0 = dktX7_roots_0 := by decide +kernel
theorem dksX7_roots_1 : cX7_roots.data.toList.drop 22 = dktX7_roots_1 := dk_seg dksX7_roots_0 22 rfl rfl
theorem dksX7_roots_2 : cX7_roots.data.toList.drop 46 = dktX7_roots_2 := dk_seg dksX7_roots_1 24 rfl rfl
theorem dksX7_roots_3 : cX7_roots.data.toList.drop 68 = dktX7_roots_3 := dk_seg dksX7_roots_2 22 rfl rfl
theorem dksX7_roots_4 : cX7_roots.data.toList.drop 92 = dktX7_roots_4 := dk_seg dksX7_roots_3 24 rfl rfl
theorem dksX7_roots_5 : cX7_roots.data.toList.drop 115 = dktX7_roots_5 := dk_seg dksX7_roots_4 23 rfl rfl
theorem dksX7_roots_6 : cX7_roots.data.toList.drop 138 = dktX7_roots_6 := dk_seg dksX7_roots_5 23 rfl rfl
theorem dksX7_roots_7 : cX7_roots.data.toList.drop 161 = dktX7_roots_7 := dk_seg dksX7_roots_6 23 rfl rfl
theorem dX7_roots_0 : decode cX7_roots 0 = .ok (.aload_n 0, 1) := dk_42 (dk_at dksX7_roots_0 0 rfl rfl)
theorem dX7_roots_1 : decode cX7_roots 1 = .ok (.iconst 0, 1) := dk_3 (dk_at dksX7_roots_0 1 rfl rfl)
theorem dX7_roots_2 : decode cX7_roots 2 = .ok (.putfield 89, 3) := dk_181 0 89 (dk_at dksX7_roots_0 2 rfl rfl)
theorem dX7_roots_5 : decode cX7_roots 5 = .ok (.aload_n 0, 1) := dk_42 (dk_at dksX7_roots_0 5 rfl rfl)
theorem dX7_roots_6 : decode cX7_roots 6 = .ok (.iload_n 1, 1) := dk_27 (dk_at dksX7_roots_0 6 rfl rfl)
theorem dX7_roots_7 : decode cX7_roots 7 = .ok (.invokevirtual 276, 3) := dk_182 1 20 (dk_at dksX7_roots_0 7 rfl rfl)
theorem dX7_roots_10 : decode cX7_roots 10 = .ok (.ifCond .ne 9, 3) := dk_154 0 9 (dk_at dksX7_roots_0 10 rfl rfl)
theorem dX7_roots_13 : decode cX7_roots 13 = .ok (.aload_n 0, 1) := dk_42 (dk_at dksX7_roots_0 13 rfl rfl)
theorem dX7_roots_14 : decode cX7_roots 14 = .ok (.iconst 1, 1) := dk_4 (dk_at dksX7_roots_0 14 rfl rfl)
theorem dX7_roots_15 : decode cX7_roots 15 = .ok (.invokevirtual 221, 3) := dk_182 0 221 (dk_at dksX7_roots_0 15 rfl rfl)
theorem dX7_roots_18 : decode cX7_roots 18 = .ok (.ireturn, 1) := dk_172 (dk_at dksX7_roots_0 18 rfl rfl)
theorem dX7_roots_19 : decode cX7_roots 19 = .ok (.aload_n 0, 1) := dk_42 (dk_at dksX7_roots_0 19 rfl rfl)
theorem dX7_roots_20 : decode cX7_roots 20 = .ok (.iload_n 1, 1) := dk_27 (dk_at dksX7_roots_0 20 rfl rfl)
theorem dX7_roots_21 : decode cX7_roots 21 = .ok (.iconst 0, 1) := dk_3 (dk_at dksX7_roots_0 21 rfl rfl)
theorem dX7_roots_22 : decode cX7_roots 22 = .ok (.invokevirtual 282, 3) := dk_182 1 26 (dk_at dksX7_roots_1 0 rfl rfl)
theorem dX7_roots_25 : decode cX7_roots 25 = .ok (.ifCond .le 10, 3) := dk_158 0 10 (dk_at dksX7_roots_1 3 rfl rfl)
theorem dX7_roots_28 : decode cX7_roots 28 = .ok (.aload_n 0, 1) := dk_42 (dk_at dksX7_roots_1 6 rfl rfl)
theorem dX7_roots_29 : decode cX7_roots 29 = .ok (.getfield 231, 3) := dk_180 0 231 (dk_at dksX7_roots_1 7 rfl rfl)
theorem dX7_roots_32 : decode cX7_roots 32 = .ok (.goto 4, 3) := dk_167 0 4 (dk_at dksX7_roots_1 10 rfl rfl)
theorem dX7_roots_35 : decode cX7_roots 35 = .ok (.iconst 1, 1) := dk_4 (dk_at dksX7_roots_1 13 rfl rfl)
theorem dX7_roots_36 : decode cX7_roots 36 = .ok (.istore_n 2, 1) := dk_61 (dk_at dksX7_roots_1 14 rfl rfl)
theorem dX7_roots_37 : decode cX7_roots 37 = .ok (.aload_n 0, 1) := dk_42 (dk_at dksX7_roots_1 15 rfl rfl)
theorem dX7_roots_38 : decode cX7_roots 38 = .ok (.iload_n 1, 1) := dk_27 (dk_at dksX7_roots_1 16 rfl rfl)
theorem dX7_roots_39 : decode cX7_roots 39 = .ok (.iconst 1, 1) := dk_4 (dk_at dksX7_roots_1 17 rfl rfl)
theorem dX7_roots_40 : decode cX7_roots 40 = .ok (.invokevirtual 282, 3) := dk_182 1 26 (dk_at dksX7_roots_1 18 rfl rfl)
theorem dX7_roots_43 : decode cX7_roots 43 = .ok (.ifCond .le 10, 3) := dk_158 0 10 (dk_at dksX7_roots_1 21 rfl rfl)
theorem dX7_roots_46 : decode cX7_roots 46 = .ok (.aload_n 0, 1) := dk_42 (dk_at dksX7_roots_2 0 rfl rfl)
theorem dX7_roots_47 : decode cX7_roots 47 = .ok (.getfield 231, 3) := dk_180 0 231 (dk_at dksX7_roots_2 1 rfl rfl)
theorem dX7_roots_50 : decode cX7_roots 50 = .ok (.goto 4, 3) := dk_167 0 4 (dk_at dksX7_roots_2 4 rfl rfl)
theorem dX7_roots_53 : decode cX7_roots 53 = .ok (.iconst 1, 1) := dk_4 (dk_at dksX7_roots_2 7 rfl rfl)
theorem dX7_roots_54 : decode cX7_roots 54 = .ok (.istore_n 3, 1) := dk_62 (dk_at dksX7_roots_2 8 rfl rfl)
theorem dX7_roots_55 : decode cX7_roots 55 = .ok (.aload_n 0, 1) := dk_42 (dk_at dksX7_roots_2 9 rfl rfl)
theorem dX7_roots_56 : decode cX7_roots 56 = .ok (.iload_n 1, 1) := dk_27 (dk_at dksX7_roots_2 10 rfl rfl)
theorem dX7_roots_57 : decode cX7_roots 57 = .ok (.iconst 2, 1) := dk_5 (dk_at dksX7_roots_2 11 rfl rfl)
theorem dX7_roots_58 : decode cX7_roots 58 = .ok (.invokevirtual 282, 3) := dk_182 1 26 (dk_at dksX7_roots_2 12 rfl rfl)
theorem dX7_roots_61 : decode cX7_roots 61 = .ok (.ifCond .le 10, 3) := dk_158 0 10 (dk_at dksX7_roots_2 15 rfl rfl)
theorem dX7_roots_64 : decode cX7_roots 64 = .ok (.aload_n 0, 1) := dk_42 (dk_at dksX7_roots_2 18 rfl rfl)
theorem dX7_roots_65 : decode cX7_roots 65 = .ok (.getfield 231, 3) := dk_180 0 231 (dk_at dksX7_roots_2 19 rfl rfl)
theorem dX7_roots_68 : decode cX7_roots 68 = .ok (.goto 4, 3) := dk_167 0 4 (dk_at dksX7_roots_3 0 rfl rfl)
theorem dX7_roots_71 : decode cX7_roots 71 = .ok (.iconst 1, 1) := dk_4 (dk_at dksX7_roots_3 3 rfl rfl)
theorem dX7_roots_72 : decode cX7_roots 72 = .ok (.istore 4, 2) := dk_54 4 (dk_at dksX7_roots_3 4 rfl rfl)
theorem dX7_roots_74 : decode cX7_roots 74 = .ok (.iload_n 2, 1) := dk_28 (dk_at dksX7_roots_3 6 rfl rfl)
theorem dX7_roots_75 : decode cX7_roots 75 = .ok (.iload_n 3, 1) := dk_29 (dk_at dksX7_roots_3 7 rfl rfl)
theorem dX7_roots_76 : decode cX7_roots 76 = .ok (.imul, 1) := dk_104 (dk_at dksX7_roots_3 8 rfl rfl)
theorem dX7_roots_77 : decode cX7_roots 77 = .ok (.iload 4, 2) := dk_21 4 (dk_at dksX7_roots_3 9 rfl rfl)
theorem dX7_roots_79 : decode cX7_roots 79 = .ok (.imul, 1) := dk_104 (dk_at dksX7_roots_3 11 rfl rfl)
theorem dX7_roots_80 : decode cX7_roots 80 = .ok (.sipush 10000, 3) := dk_17 39 16 (dk_at dksX7_roots_3 12 rfl rfl)
theorem dX7_roots_83 : decode cX7_roots 83 = .ok (.if_icmp .le 9, 3) := dk_164 0 9 (dk_at dksX7_roots_3 15 rfl rfl)
theorem dX7_roots_86 : decode cX7_roots 86 = .ok (.aload_n 0, 1) := dk_42 (dk_at dksX7_roots_3 18 rfl rfl)
theorem dX7_roots_87 : decode cX7_roots 87 = .ok (.iconst 5, 1) := dk_8 (dk_at dksX7_roots_3 19 rfl rfl)
theorem dX7_roots_88 : decode cX7_roots 88 = .ok (.invokevirtual 221, 3) := dk_182 0 221 (dk_at dksX7_roots_3 20 rfl rfl)
theorem dX7_roots_91 : decode cX7_roots 91 = .ok (.ireturn, 1) := dk_172 (dk_at dksX7_roots_3 23 rfl rfl)
theorem dX7_roots_92 : decode cX7_roots 92 = .ok (.aload_n 0, 1) := dk_42 (dk_at dksX7_roots_4 0 rfl rfl)
theorem dX7_roots_93 : decode cX7_roots 93 = .ok (.iload_n 1, 1) := dk_27 (dk_at dksX7_roots_4 1 rfl rfl)
theorem dX7_roots_94 : decode cX7_roots 94 = .ok (.invokevirtual 301, 3) := dk_182 1 45 (dk_at dksX7_roots_4 2 rfl rfl)
theorem dX7_roots_97 : decode cX7_roots 97 = .ok (.iconst 0, 1) := dk_3 (dk_at dksX7_roots_4 5 rfl rfl)
theorem dX7_roots_98 : decode cX7_roots 98 = .ok (.istore 5, 2) := dk_54 5 (dk_at dksX7_roots_4 6 rfl rfl)
theorem dX7_roots_100 : decode cX7_roots 100 = .ok (.iconst 0, 1) := dk_3 (dk_at dksX7_roots_4 8 rfl rfl)
theorem dX7_roots_101 : decode cX7_roots 101 = .ok (.istore 6, 2) := dk_54 6 (dk_at dksX7_roots_4 9 rfl rfl)
theorem dX7_roots_103 : decode cX7_roots 103 = .ok (.iload 6, 2) := dk_21 6 (dk_at dksX7_roots_4 11 rfl rfl)
theorem dX7_roots_105 : decode cX7_roots 105 = .ok (.iload_n 2, 1) := dk_28 (dk_at dksX7_roots_4 13 rfl rfl)
theorem dX7_roots_106 : decode cX7_roots 106 = .ok (.if_icmp .ge 64, 3) := dk_162 0 64 (dk_at dksX7_roots_4 14 rfl rfl)
theorem dX7_roots_109 : decode cX7_roots 109 = .ok (.iconst 0, 1) := dk_3 (dk_at dksX7_roots_4 17 rfl rfl)
theorem dX7_roots_110 : decode cX7_roots 110 = .ok (.istore 7, 2) := dk_54 7 (dk_at dksX7_roots_4 18 rfl rfl)
theorem dX7_roots_112 : decode cX7_roots 112 = .ok (.iload 7, 2) := dk_21 7 (dk_at dksX7_roots_4 20 rfl rfl)
theorem dX7_roots_114 : decode cX7_roots 114 = .ok (.iload_n 3, 1) := dk_29 (dk_at dksX7_roots_4 22 rfl rfl)
theorem dX7_roots_115 : decode cX7_roots 115 = .ok (.if_icmp .ge 49, 3) := dk_162 0 49 (dk_at dksX7_roots_5 0 rfl rfl)
theorem dX7_roots_118 : decode cX7_roots 118 = .ok (.iconst 0, 1) := dk_3 (dk_at dksX7_roots_5 3 rfl rfl)
theorem dX7_roots_119 : decode cX7_roots 119 = .ok (.istore 8, 2) := dk_54 8 (dk_at dksX7_roots_5 4 rfl rfl)
theorem dX7_roots_121 : decode cX7_roots 121 = .ok (.iload 8, 2) := dk_21 8 (dk_at dksX7_roots_5 6 rfl rfl)
theorem dX7_roots_123 : decode cX7_roots 123 = .ok (.iload 4, 2) := dk_21 4 (dk_at dksX7_roots_5 8 rfl rfl)
theorem dX7_roots_125 : decode cX7_roots 125 = .ok (.if_icmp .ge 33, 3) := dk_162 0 33 (dk_at dksX7_roots_5 10 rfl rfl)
theorem dX7_roots_128 : decode cX7_roots 128 = .ok (.iload 5, 2) := dk_21 5 (dk_at dksX7_roots_5 13 rfl rfl)
theorem dX7_roots_130 : decode cX7_roots 130 = .ok (.aload_n 0, 1) := dk_42 (dk_at dksX7_roots_5 15 rfl rfl)
theorem dX7_roots_131 : decode cX7_roots 131 = .ok (.iload_n 1, 1) := dk_27 (dk_at dksX7_roots_5 16 rfl rfl)
theorem dX7_roots_132 : decode cX7_roots 132 = .ok (.iload 6, 2) := dk_21 6 (dk_at dksX7_roots_5 17 rfl rfl)
theorem dX7_roots_134 : decode cX7_roots 134 = .ok (.iload 7, 2) := dk_21 7 (dk_at dksX7_roots_5 19 rfl rfl)
theorem dX7_roots_136 : decode cX7_roots 136 = .ok (.iload 8, 2) := dk_21 8 (dk_at dksX7_roots_5 21 rfl rfl)
theorem dX7_roots_138 : decode cX7_roots 138 = .ok (.invokevirtual 304, 3) := dk_182 1 48 (dk_at dksX7_roots_6 0 rfl rfl)
theorem dX7_roots_141 : decode cX7_roots 141 = .ok (.ifCond .ne 7, 3) := dk_154 0 7 (dk_at dksX7_roots_6 3 rfl rfl)
theorem dX7_roots_144 : decode cX7_roots 144 = .ok (.iconst 1, 1) := dk_4 (dk_at dksX7_roots_6 6 rfl rfl)
theorem dX7_roots_145 : decode cX7_roots 145 = .ok (.goto 4, 3) := dk_167 0 4 (dk_at dksX7_roots_6 7 rfl rfl)
theorem dX7_roots_148 : decode cX7_roots 148 = .ok (.iconst 0, 1) := dk_3 (dk_at dksX7_roots_6 10 rfl rfl)
theorem dX7_roots_149 : decode cX7_roots 149 = .ok (.iadd, 1) := dk_96 (dk_at dksX7_roots_6 11 rfl rfl)
theorem dX7_roots_150 : decode cX7_roots 150 = .ok (.istore 5, 2) := dk_54 5 (dk_at dksX7_roots_6 12 rfl rfl)
theorem dX7_roots_152 : decode cX7_roots 152 = .ok (.iinc 8 1, 3) := dk_132 8 1 (dk_at dksX7_roots_6 14 rfl rfl)
theorem dX7_roots_155 : decode cX7_roots 155 = .ok (.goto (-34), 3) := dk_167 255 222 (dk_at dksX7_roots_6 17 rfl rfl)
theorem dX7_roots_158 : decode cX7_roots 158 = .ok (.iinc 7 1, 3) := dk_132 7 1 (dk_at dksX7_roots_6 20 rfl rfl)
theorem dX7_roots_161 : decode cX7_roots 161 = .ok (.goto (-49), 3) := dk_167 255 207 (dk_at dksX7_roots_7 0 rfl rfl)
theorem dX7_roots_164 : decode cX7_roots 164 = .ok (.iinc 6 1, 3) := dk_132 6 1 (dk_at dksX7_roots_7 3 rfl rfl)
theorem dX7_roots_167 : decode cX7_roots 167 = .ok (.goto (-64), 3) := dk_167 255 192 (dk_at dksX7_roots_7 6 rfl rfl)
theorem dX7_roots_170 : decode cX7_roots 170 = .ok (.aload_n 0, 1) := dk_42 (dk_at dksX7_roots_7 9 rfl rfl)
theorem dX7_roots_171 : decode cX7_roots 171 = .ok (.iload 5, 2) := dk_21 5 (dk_at dksX7_roots_7 10 rfl rfl)
theorem dX7_roots_173 : decode cX7_roots 173 = .ok (.invokevirtual 248, 3) := dk_182 0 248 (dk_at dksX7_roots_7 12 rfl rfl)
theorem dX7_roots_176 : decode cX7_roots 176 = .ok (.ireturn, 1) := dk_172 (dk_at dksX7_roots_7 15 rfl rfl)
abbrev cX7_same : ByteArray := prog_10_method_53_code
def yX7_same : MethodName := ⟨RX7, "same", "(II)I"⟩
def dkwX7_same_3 : List UInt8 := [167, 255, 218, 42, 29, 153, 0, 7, 4, 167, 0, 4, 3, 182, 0, 248, 172]
abbrev dktX7_same_3 : List UInt8 := dkwX7_same_3 ++ []
def dkwX7_same_2 : List UInt8 := [21, 4, 182, 1, 8, 42, 28, 21, 4, 182, 1, 8, 160, 0, 7, 4, 167, 0, 4, 3, 62, 132, 4, 1]
abbrev dktX7_same_2 : List UInt8 := dkwX7_same_2 ++ dktX7_same_3
def dkwX7_same_1 : List UInt8 := [182, 0, 221, 172, 4, 62, 3, 54, 4, 21, 4, 17, 16, 0, 162, 0, 36, 29, 153, 0, 24, 42, 27]
abbrev dktX7_same_1 : List UInt8 := dkwX7_same_1 ++ dktX7_same_2
def dkwX7_same_0 : List UInt8 := [42, 3, 181, 0, 89, 42, 27, 182, 1, 20, 153, 0, 11, 42, 28, 182, 1, 20, 154, 0, 9, 42, 4]
abbrev dktX7_same_0 : List UInt8 := dkwX7_same_0 ++ dktX7_same_1
theorem dksX7_same_0 : cX7_same.data.toList.drop 0 = dktX7_same_0 := by decide +kernel
theorem dksX7_same_1 : cX7_same.data.toList.drop 23 = dktX7_same_1 := dk_seg dksX7_same_0 23 rfl rfl
theorem dksX7_same_2 : cX7_same.data.toList.drop 46 = dktX7_same_2 := dk_seg dksX7_same_1 23 rfl rfl
theorem dksX7_same_3 : cX7_same.data.toList.drop 70 = dktX7_same_3 := dk_seg dksX7_same_2 24 rfl rfl
theorem dX7_same_0 : decode cX7_same 0 = .ok (.aload_n 0, 1) := dk_42 (dk_at dksX7_same_0 0 rfl rfl)
theorem dX7_same_1 : decode cX7_same 1 = .ok (.iconst 0, 1) := dk_3 (dk_at dksX7_same_0 1 rfl rfl)
theorem dX7_same_2 : decode cX7_same 2 = .ok (.putfield 89, 3) := dk_181 0 89 (dk_at dksX7_same_0 2 rfl rfl)
theorem dX7_same_5 : decode cX7_same 5 = .ok (.aload_n 0, 1) := dk_42 (dk_at dksX7_same_0 5 rfl rfl)
theorem dX7_same_6 : decode cX7_same 6 = .ok (.iload_n 1, 1) := dk_27 (dk_at dksX7_same_0 6 rfl rfl)
theorem dX7_same_7 : decode cX7_same 7 = .ok (.invokevirtual 276, 3) := dk_182 1 20 (dk_at dksX7_same_0 7 rfl rfl)
theorem dX7_same_10 : decode cX7_same 10 = .ok (.ifCond .eq 11, 3) := dk_153 0 11 (dk_at dksX7_same_0 10 rfl rfl)
theorem dX7_same_13 : decode cX7_same 13 = .ok (.aload_n 0, 1) := dk_42 (dk_at dksX7_same_0 13 rfl rfl)
theorem dX7_same_14 : decode cX7_same 14 = .ok (.iload_n 2, 1) := dk_28 (dk_at dksX7_same_0 14 rfl rfl)
theorem dX7_same_15 : decode cX7_same 15 = .ok (.invokevirtual 276, 3) := dk_182 1 20 (dk_at dksX7_same_0 15 rfl rfl)
theorem dX7_same_18 : decode cX7_same 18 = .ok (.ifCond .ne 9, 3) := dk_154 0 9 (dk_at dksX7_same_0 18 rfl rfl)
theorem dX7_same_21 : decode cX7_same 21 = .ok (.aload_n 0, 1) := dk_42 (dk_at dksX7_same_0 21 rfl rfl)
theorem dX7_same_22 : decode cX7_same 22 = .ok (.iconst 1, 1) := dk_4 (dk_at dksX7_same_0 22 rfl rfl)
theorem dX7_same_23 : decode cX7_same 23 = .ok (.invokevirtual 221, 3) := dk_182 0 221 (dk_at dksX7_same_1 0 rfl rfl)
theorem dX7_same_26 : decode cX7_same 26 = .ok (.ireturn, 1) := dk_172 (dk_at dksX7_same_1 3 rfl rfl)
theorem dX7_same_27 : decode cX7_same 27 = .ok (.iconst 1, 1) := dk_4 (dk_at dksX7_same_1 4 rfl rfl)
theorem dX7_same_28 : decode cX7_same 28 = .ok (.istore_n 3, 1) := dk_62 (dk_at dksX7_same_1 5 rfl rfl)
theorem dX7_same_29 : decode cX7_same 29 = .ok (.iconst 0, 1) := dk_3 (dk_at dksX7_same_1 6 rfl rfl)
theorem dX7_same_30 : decode cX7_same 30 = .ok (.istore 4, 2) := dk_54 4 (dk_at dksX7_same_1 7 rfl rfl)
theorem dX7_same_32 : decode cX7_same 32 = .ok (.iload 4, 2) := dk_21 4 (dk_at dksX7_same_1 9 rfl rfl)
theorem dX7_same_34 : decode cX7_same 34 = .ok (.sipush 4096, 3) := dk_17 16 0 (dk_at dksX7_same_1 11 rfl rfl)
theorem dX7_same_37 : decode cX7_same 37 = .ok (.if_icmp .ge 36, 3) := dk_162 0 36 (dk_at dksX7_same_1 14 rfl rfl)
theorem dX7_same_40 : decode cX7_same 40 = .ok (.iload_n 3, 1) := dk_29 (dk_at dksX7_same_1 17 rfl rfl)
theorem dX7_same_41 : decode cX7_same 41 = .ok (.ifCond .eq 24, 3) := dk_153 0 24 (dk_at dksX7_same_1 18 rfl rfl)
theorem dX7_same_44 : decode cX7_same 44 = .ok (.aload_n 0, 1) := dk_42 (dk_at dksX7_same_1 21 rfl rfl)
theorem dX7_same_45 : decode cX7_same 45 = .ok (.iload_n 1, 1) := dk_27 (dk_at dksX7_same_1 22 rfl rfl)
theorem dX7_same_46 : decode cX7_same 46 = .ok (.iload 4, 2) := dk_21 4 (dk_at dksX7_same_2 0 rfl rfl)
theorem dX7_same_48 : decode cX7_same 48 = .ok (.invokevirtual 264, 3) := dk_182 1 8 (dk_at dksX7_same_2 2 rfl rfl)
theorem dX7_same_51 : decode cX7_same 51 = .ok (.aload_n 0, 1) := dk_42 (dk_at dksX7_same_2 5 rfl rfl)
theorem dX7_same_52 : decode cX7_same 52 = .ok (.iload_n 2, 1) := dk_28 (dk_at dksX7_same_2 6 rfl rfl)
theorem dX7_same_53 : decode cX7_same 53 = .ok (.iload 4, 2) := dk_21 4 (dk_at dksX7_same_2 7 rfl rfl)
theorem dX7_same_55 : decode cX7_same 55 = .ok (.invokevirtual 264, 3) := dk_182 1 8 (dk_at dksX7_same_2 9 rfl rfl)
theorem dX7_same_58 : decode cX7_same 58 = .ok (.if_icmp .ne 7, 3) := dk_160 0 7 (dk_at dksX7_same_2 12 rfl rfl)
theorem dX7_same_61 : decode cX7_same 61 = .ok (.iconst 1, 1) := dk_4 (dk_at dksX7_same_2 15 rfl rfl)
theorem dX7_same_62 : decode cX7_same 62 = .ok (.goto 4, 3) := dk_167 0 4 (dk_at dksX7_same_2 16 rfl rfl)
theorem dX7_same_65 : decode cX7_same 65 = .ok (.iconst 0, 1) := dk_3 (dk_at dksX7_same_2 19 rfl rfl)
theorem dX7_same_66 : decode cX7_same 66 = .ok (.istore_n 3, 1) := dk_62 (dk_at dksX7_same_2 20 rfl rfl)
theorem dX7_same_67 : decode cX7_same 67 = .ok (.iinc 4 1, 3) := dk_132 4 1 (dk_at dksX7_same_2 21 rfl rfl)
theorem dX7_same_70 : decode cX7_same 70 = .ok (.goto (-38), 3) := dk_167 255 218 (dk_at dksX7_same_3 0 rfl rfl)
theorem dX7_same_73 : decode cX7_same 73 = .ok (.aload_n 0, 1) := dk_42 (dk_at dksX7_same_3 3 rfl rfl)
theorem dX7_same_74 : decode cX7_same 74 = .ok (.iload_n 3, 1) := dk_29 (dk_at dksX7_same_3 4 rfl rfl)
theorem dX7_same_75 : decode cX7_same 75 = .ok (.ifCond .eq 7, 3) := dk_153 0 7 (dk_at dksX7_same_3 5 rfl rfl)
theorem dX7_same_78 : decode cX7_same 78 = .ok (.iconst 1, 1) := dk_4 (dk_at dksX7_same_3 8 rfl rfl)
theorem dX7_same_79 : decode cX7_same 79 = .ok (.goto 4, 3) := dk_167 0 4 (dk_at dksX7_same_3 9 rfl rfl)
theorem dX7_same_82 : decode cX7_same 82 = .ok (.iconst 0, 1) := dk_3 (dk_at dksX7_same_3 12 rfl rfl)
theorem dX7_same_83 : decode cX7_same 83 = .ok (.invokevirtual 248, 3) := dk_182 0 248 (dk_at dksX7_same_3 13 rfl rfl)
theorem dX7_same_86 : decode cX7_same 86 = .ok (.ireturn, 1) := dk_172 (dk_at dksX7_same_3 16 rfl rfl)
abbrev cX7_ahead : ByteArray := prog_10_method_54_code
def yX7_ahead : MethodName := ⟨RX7, "ahead", "(IIIIII)I"⟩
def dkwX7_ahead_5 : List UInt8 := [21, 8, 158, 0, 7, 4, 167, 0, 13, 21, 8, 156, 0, 7, 2, 167, 0, 4, 3, 182, 0, 248, 172]
abbrev dktX7_ahead_5 : List UInt8 := dkwX7_ahead_5 ++ []
def dkwX7_ahead_4 : List UInt8 := [21, 6, 184, 1, 32, 42, 180, 0, 233, 42, 180, 0, 236, 42, 180, 0, 239, 184, 1, 52, 54, 8, 42]
abbrev dktX7_ahead_4 : List UInt8 := dkwX7_ahead_4 ++ dktX7_ahead_5
def dkwX7_ahead_3 : List UInt8 := [158, 0, 13, 42, 21, 7, 182, 0, 221, 87, 16, 254, 172, 27, 28, 29, 184, 1, 32, 21, 4, 21, 5]
abbrev dktX7_ahead_3 : List UInt8 := dkwX7_ahead_3 ++ dktX7_ahead_4
def dkwX7_ahead_2 : List UInt8 := [184, 1, 29, 153, 0, 15, 21, 6, 184, 1, 29, 153, 0, 7, 3, 167, 0, 4, 5, 54, 7, 21, 7]
abbrev dktX7_ahead_2 : List UInt8 := dkwX7_ahead_2 ++ dktX7_ahead_3
def dkwX7_ahead_1 : List UInt8 := [184, 1, 29, 153, 0, 38, 29, 184, 1, 29, 153, 0, 31, 21, 4, 184, 1, 29, 153, 0, 23, 21, 5]
abbrev dktX7_ahead_1 : List UInt8 := dkwX7_ahead_1 ++ dktX7_ahead_2
def dkwX7_ahead_0 : List UInt8 := [42, 3, 181, 0, 89, 42, 180, 0, 227, 154, 0, 7, 4, 167, 0, 53, 27, 184, 1, 29, 153, 0, 45, 28]
abbrev dktX7_ahead_0 : List UInt8 := dkwX7_ahead_0 ++ dktX7_ahead_1
theorem dksX7_ahead_0 : cX7_ahead.data.toList.drop 0 = dktX7_ahead_0 := by decide +kernel
theorem dksX7_ahead_1 : cX7_ahead.data.toList.drop 24 = dktX7_ahead_1 := dk_seg dksX7_ahead_0 24 rfl rfl
theorem dksX7_ahead_2 : cX7_ahead.data.toList.drop 47 = dktX7_ahead_2 := dk_seg dksX7_ahead_1 23 rfl rfl
theorem dksX7_ahead_3 : cX7_ahead.data.toList.drop 70 = dktX7_ahead_3 := dk_seg dksX7_ahead_2 23 rfl rfl
theorem dksX7_ahead_4 : cX7_ahead.data.toList.drop 93 = dktX7_ahead_4 := dk_seg dksX7_ahead_3 23 rfl rfl
theorem dksX7_ahead_5 : cX7_ahead.data.toList.drop 116 = dktX7_ahead_5 := dk_seg dksX7_ahead_4 23 rfl rfl
theorem dX7_ahead_0 : decode cX7_ahead 0 = .ok (.aload_n 0, 1) := dk_42 (dk_at dksX7_ahead_0 0 rfl rfl)
theorem dX7_ahead_1 : decode cX7_ahead 1 = .ok (.iconst 0, 1) := dk_3 (dk_at dksX7_ahead_0 1 rfl rfl)
theorem dX7_ahead_2 : decode cX7_ahead 2 = .ok (.putfield 89, 3) := dk_181 0 89 (dk_at dksX7_ahead_0 2 rfl rfl)
theorem dX7_ahead_5 : decode cX7_ahead 5 = .ok (.aload_n 0, 1) := dk_42 (dk_at dksX7_ahead_0 5 rfl rfl)
theorem dX7_ahead_6 : decode cX7_ahead 6 = .ok (.getfield 227, 3) := dk_180 0 227 (dk_at dksX7_ahead_0 6 rfl rfl)
theorem dX7_ahead_9 : decode cX7_ahead 9 = .ok (.ifCond .ne 7, 3) := dk_154 0 7 (dk_at dksX7_ahead_0 9 rfl rfl)
theorem dX7_ahead_12 : decode cX7_ahead 12 = .ok (.iconst 1, 1) := dk_4 (dk_at dksX7_ahead_0 12 rfl rfl)
theorem dX7_ahead_13 : decode cX7_ahead 13 = .ok (.goto 53, 3) := dk_167 0 53 (dk_at dksX7_ahead_0 13 rfl rfl)
theorem dX7_ahead_16 : decode cX7_ahead 16 = .ok (.iload_n 1, 1) := dk_27 (dk_at dksX7_ahead_0 16 rfl rfl)
theorem dX7_ahead_17 : decode cX7_ahead 17 = .ok (.invokestatic 285, 3) := dk_184 1 29 (dk_at dksX7_ahead_0 17 rfl rfl)
theorem dX7_ahead_20 : decode cX7_ahead 20 = .ok (.ifCond .eq 45, 3) := dk_153 0 45 (dk_at dksX7_ahead_0 20 rfl rfl)
theorem dX7_ahead_23 : decode cX7_ahead 23 = .ok (.iload_n 2, 1) := dk_28 (dk_at dksX7_ahead_0 23 rfl rfl)
theorem dX7_ahead_24 : decode cX7_ahead 24 = .ok (.invokestatic 285, 3) := dk_184 1 29 (dk_at dksX7_ahead_1 0 rfl rfl)
theorem dX7_ahead_27 : decode cX7_ahead 27 = .ok (.ifCond .eq 38, 3) := dk_153 0 38 (dk_at dksX7_ahead_1 3 rfl rfl)
theorem dX7_ahead_30 : decode cX7_ahead 30 = .ok (.iload_n 3, 1) := dk_29 (dk_at dksX7_ahead_1 6 rfl rfl)
theorem dX7_ahead_31 : decode cX7_ahead 31 = .ok (.invokestatic 285, 3) := dk_184 1 29 (dk_at dksX7_ahead_1 7 rfl rfl)
theorem dX7_ahead_34 : decode cX7_ahead 34 = .ok (.ifCond .eq 31, 3) := dk_153 0 31 (dk_at dksX7_ahead_1 10 rfl rfl)
theorem dX7_ahead_37 : decode cX7_ahead 37 = .ok (.iload 4, 2) := dk_21 4 (dk_at dksX7_ahead_1 13 rfl rfl)
theorem dX7_ahead_39 : decode cX7_ahead 39 = .ok (.invokestatic 285, 3) := dk_184 1 29 (dk_at dksX7_ahead_1 15 rfl rfl)
theorem dX7_ahead_42 : decode cX7_ahead 42 = .ok (.ifCond .eq 23, 3) := dk_153 0 23 (dk_at dksX7_ahead_1 18 rfl rfl)
theorem dX7_ahead_45 : decode cX7_ahead 45 = .ok (.iload 5, 2) := dk_21 5 (dk_at dksX7_ahead_1 21 rfl rfl)
theorem dX7_ahead_47 : decode cX7_ahead 47 = .ok (.invokestatic 285, 3) := dk_184 1 29 (dk_at dksX7_ahead_2 0 rfl rfl)
theorem dX7_ahead_50 : decode cX7_ahead 50 = .ok (.ifCond .eq 15, 3) := dk_153 0 15 (dk_at dksX7_ahead_2 3 rfl rfl)
theorem dX7_ahead_53 : decode cX7_ahead 53 = .ok (.iload 6, 2) := dk_21 6 (dk_at dksX7_ahead_2 6 rfl rfl)
theorem dX7_ahead_55 : decode cX7_ahead 55 = .ok (.invokestatic 285, 3) := dk_184 1 29 (dk_at dksX7_ahead_2 8 rfl rfl)
theorem dX7_ahead_58 : decode cX7_ahead 58 = .ok (.ifCond .eq 7, 3) := dk_153 0 7 (dk_at dksX7_ahead_2 11 rfl rfl)
theorem dX7_ahead_61 : decode cX7_ahead 61 = .ok (.iconst 0, 1) := dk_3 (dk_at dksX7_ahead_2 14 rfl rfl)
theorem dX7_ahead_62 : decode cX7_ahead 62 = .ok (.goto 4, 3) := dk_167 0 4 (dk_at dksX7_ahead_2 15 rfl rfl)
theorem dX7_ahead_65 : decode cX7_ahead 65 = .ok (.iconst 2, 1) := dk_5 (dk_at dksX7_ahead_2 18 rfl rfl)
theorem dX7_ahead_66 : decode cX7_ahead 66 = .ok (.istore 7, 2) := dk_54 7 (dk_at dksX7_ahead_2 19 rfl rfl)
theorem dX7_ahead_68 : decode cX7_ahead 68 = .ok (.iload 7, 2) := dk_21 7 (dk_at dksX7_ahead_2 21 rfl rfl)
theorem dX7_ahead_70 : decode cX7_ahead 70 = .ok (.ifCond .le 13, 3) := dk_158 0 13 (dk_at dksX7_ahead_3 0 rfl rfl)
theorem dX7_ahead_73 : decode cX7_ahead 73 = .ok (.aload_n 0, 1) := dk_42 (dk_at dksX7_ahead_3 3 rfl rfl)
theorem dX7_ahead_74 : decode cX7_ahead 74 = .ok (.iload 7, 2) := dk_21 7 (dk_at dksX7_ahead_3 4 rfl rfl)
theorem dX7_ahead_76 : decode cX7_ahead 76 = .ok (.invokevirtual 221, 3) := dk_182 0 221 (dk_at dksX7_ahead_3 6 rfl rfl)
theorem dX7_ahead_79 : decode cX7_ahead 79 = .ok (.pop, 1) := dk_87 (dk_at dksX7_ahead_3 9 rfl rfl)
theorem dX7_ahead_80 : decode cX7_ahead 80 = .ok (.bipush (-2), 2) := dk_16 254 (dk_at dksX7_ahead_3 10 rfl rfl)
theorem dX7_ahead_82 : decode cX7_ahead 82 = .ok (.ireturn, 1) := dk_172 (dk_at dksX7_ahead_3 12 rfl rfl)
theorem dX7_ahead_83 : decode cX7_ahead 83 = .ok (.iload_n 1, 1) := dk_27 (dk_at dksX7_ahead_3 13 rfl rfl)
theorem dX7_ahead_84 : decode cX7_ahead 84 = .ok (.iload_n 2, 1) := dk_28 (dk_at dksX7_ahead_3 14 rfl rfl)
theorem dX7_ahead_85 : decode cX7_ahead 85 = .ok (.iload_n 3, 1) := dk_29 (dk_at dksX7_ahead_3 15 rfl rfl)
theorem dX7_ahead_86 : decode cX7_ahead 86 = .ok (.invokestatic 288, 3) := dk_184 1 32 (dk_at dksX7_ahead_3 16 rfl rfl)
theorem dX7_ahead_89 : decode cX7_ahead 89 = .ok (.iload 4, 2) := dk_21 4 (dk_at dksX7_ahead_3 19 rfl rfl)
theorem dX7_ahead_91 : decode cX7_ahead 91 = .ok (.iload 5, 2) := dk_21 5 (dk_at dksX7_ahead_3 21 rfl rfl)
theorem dX7_ahead_93 : decode cX7_ahead 93 = .ok (.iload 6, 2) := dk_21 6 (dk_at dksX7_ahead_4 0 rfl rfl)
theorem dX7_ahead_95 : decode cX7_ahead 95 = .ok (.invokestatic 288, 3) := dk_184 1 32 (dk_at dksX7_ahead_4 2 rfl rfl)
theorem dX7_ahead_98 : decode cX7_ahead 98 = .ok (.aload_n 0, 1) := dk_42 (dk_at dksX7_ahead_4 5 rfl rfl)
theorem dX7_ahead_99 : decode cX7_ahead 99 = .ok (.getfield 233, 3) := dk_180 0 233 (dk_at dksX7_ahead_4 6 rfl rfl)
theorem dX7_ahead_102 : decode cX7_ahead 102 = .ok (.aload_n 0, 1) := dk_42 (dk_at dksX7_ahead_4 9 rfl rfl)
theorem dX7_ahead_103 : decode cX7_ahead 103 = .ok (.getfield 236, 3) := dk_180 0 236 (dk_at dksX7_ahead_4 10 rfl rfl)
theorem dX7_ahead_106 : decode cX7_ahead 106 = .ok (.aload_n 0, 1) := dk_42 (dk_at dksX7_ahead_4 13 rfl rfl)
theorem dX7_ahead_107 : decode cX7_ahead 107 = .ok (.getfield 239, 3) := dk_180 0 239 (dk_at dksX7_ahead_4 14 rfl rfl)
theorem dX7_ahead_110 : decode cX7_ahead 110 = .ok (.invokestatic 308, 3) := dk_184 1 52 (dk_at dksX7_ahead_4 17 rfl rfl)
theorem dX7_ahead_113 : decode cX7_ahead 113 = .ok (.istore 8, 2) := dk_54 8 (dk_at dksX7_ahead_4 20 rfl rfl)
theorem dX7_ahead_115 : decode cX7_ahead 115 = .ok (.aload_n 0, 1) := dk_42 (dk_at dksX7_ahead_4 22 rfl rfl)
theorem dX7_ahead_116 : decode cX7_ahead 116 = .ok (.iload 8, 2) := dk_21 8 (dk_at dksX7_ahead_5 0 rfl rfl)
theorem dX7_ahead_118 : decode cX7_ahead 118 = .ok (.ifCond .le 7, 3) := dk_158 0 7 (dk_at dksX7_ahead_5 2 rfl rfl)
theorem dX7_ahead_121 : decode cX7_ahead 121 = .ok (.iconst 1, 1) := dk_4 (dk_at dksX7_ahead_5 5 rfl rfl)
theorem dX7_ahead_122 : decode cX7_ahead 122 = .ok (.goto 13, 3) := dk_167 0 13 (dk_at dksX7_ahead_5 6 rfl rfl)
theorem dX7_ahead_125 : decode cX7_ahead 125 = .ok (.iload 8, 2) := dk_21 8 (dk_at dksX7_ahead_5 9 rfl rfl)
theorem dX7_ahead_127 : decode cX7_ahead 127 = .ok (.ifCond .ge 7, 3) := dk_156 0 7 (dk_at dksX7_ahead_5 11 rfl rfl)
theorem dX7_ahead_130 : decode cX7_ahead 130 = .ok (.iconst (-1), 1) := dk_2 (dk_at dksX7_ahead_5 14 rfl rfl)
theorem dX7_ahead_131 : decode cX7_ahead 131 = .ok (.goto 4, 3) := dk_167 0 4 (dk_at dksX7_ahead_5 15 rfl rfl)
theorem dX7_ahead_134 : decode cX7_ahead 134 = .ok (.iconst 0, 1) := dk_3 (dk_at dksX7_ahead_5 18 rfl rfl)
theorem dX7_ahead_135 : decode cX7_ahead 135 = .ok (.invokevirtual 248, 3) := dk_182 0 248 (dk_at dksX7_ahead_5 19 rfl rfl)
theorem dX7_ahead_138 : decode cX7_ahead 138 = .ok (.ireturn, 1) := dk_172 (dk_at dksX7_ahead_5 22 rfl rfl)
abbrev cX7_compares : ByteArray := prog_10_method_31_code
def yX7_compares : MethodName := ⟨RX7, "compares", "(IIIII)I"⟩
def dkwX7_compares_5 : List UInt8 := [153, 0, 8, 21, 8, 167, 0, 16, 26, 21, 5, 184, 0, 95, 27, 21, 5, 184, 0, 95, 100, 172]
abbrev dktX7_compares_5 : List UInt8 := dkwX7_compares_5 ++ []
def dkwX7_compares_4 : List UInt8 := [184, 0, 95, 27, 21, 4, 184, 0, 95, 100, 54, 8, 21, 7, 153, 0, 8, 21, 7, 167, 0, 26, 21, 8]
abbrev dktX7_compares_4 : List UInt8 := dkwX7_compares_4 ++ dktX7_compares_5
def dkwX7_compares_3 : List UInt8 := [21, 4, 184, 0, 95, 100, 172, 26, 29, 184, 0, 95, 27, 29, 184, 0, 95, 100, 54, 7, 26, 21, 4]
abbrev dktX7_compares_3 : List UInt8 := dkwX7_compares_3 ++ dktX7_compares_4
def dkwX7_compares_2 : List UInt8 := [184, 0, 95, 100, 54, 7, 21, 7, 153, 0, 8, 21, 7, 167, 0, 16, 27, 21, 4, 184, 0, 95, 26]
abbrev dktX7_compares_2 : List UInt8 := dkwX7_compares_2 ++ dktX7_compares_3
def dkwX7_compares_1 : List UInt8 := [21, 6, 153, 0, 6, 21, 6, 172, 28, 5, 160, 0, 42, 27, 21, 5, 184, 0, 95, 26, 21, 5]
abbrev dktX7_compares_1 : List UInt8 := dkwX7_compares_1 ++ dktX7_compares_2
def dkwX7_compares_0 : List UInt8 := [6, 29, 100, 21, 4, 100, 54, 5, 26, 184, 1, 5, 27, 184, 1, 5, 100, 54, 6, 28, 153, 0, 11]
abbrev dktX7_compares_0 : List UInt8 := dkwX7_compares_0 ++ dktX7_compares_1
theorem dksX7_compares_0 : cX7_compares.data.toList.drop 0 = dktX7_compares_0 := by decide +kernel
theorem dksX7_compares_1 : cX7_compares.data.toList.drop 23 = dktX7_compares_1 := dk_seg dksX7_compares_0 23 rfl rfl
theorem dksX7_compares_2 : cX7_compares.data.toList.drop 45 = dktX7_compares_2 := dk_seg dksX7_compares_1 22 rfl rfl
theorem dksX7_compares_3 : cX7_compares.data.toList.drop 68 = dktX7_compares_3 := dk_seg dksX7_compares_2 23 rfl rfl
theorem dksX7_compares_4 : cX7_compares.data.toList.drop 91 = dktX7_compares_4 := dk_seg dksX7_compares_3 23 rfl rfl
theorem dksX7_compares_5 : cX7_compares.data.toList.drop 115 = dktX7_compares_5 := dk_seg dksX7_compares_4 24 rfl rfl
theorem dX7_compares_0 : decode cX7_compares 0 = .ok (.iconst 3, 1) := dk_6 (dk_at dksX7_compares_0 0 rfl rfl)
theorem dX7_compares_1 : decode cX7_compares 1 = .ok (.iload_n 3, 1) := dk_29 (dk_at dksX7_compares_0 1 rfl rfl)
theorem dX7_compares_2 : decode cX7_compares 2 = .ok (.isub, 1) := dk_100 (dk_at dksX7_compares_0 2 rfl rfl)
theorem dX7_compares_3 : decode cX7_compares 3 = .ok (.iload 4, 2) := dk_21 4 (dk_at dksX7_compares_0 3 rfl rfl)
theorem dX7_compares_5 : decode cX7_compares 5 = .ok (.isub, 1) := dk_100 (dk_at dksX7_compares_0 5 rfl rfl)
theorem dX7_compares_6 : decode cX7_compares 6 = .ok (.istore 5, 2) := dk_54 5 (dk_at dksX7_compares_0 6 rfl rfl)
theorem dX7_compares_8 : decode cX7_compares 8 = .ok (.iload_n 0, 1) := dk_26 (dk_at dksX7_compares_0 8 rfl rfl)
theorem dX7_compares_9 : decode cX7_compares 9 = .ok (.invokestatic 261, 3) := dk_184 1 5 (dk_at dksX7_compares_0 9 rfl rfl)
theorem dX7_compares_12 : decode cX7_compares 12 = .ok (.iload_n 1, 1) := dk_27 (dk_at dksX7_compares_0 12 rfl rfl)
theorem dX7_compares_13 : decode cX7_compares 13 = .ok (.invokestatic 261, 3) := dk_184 1 5 (dk_at dksX7_compares_0 13 rfl rfl)
theorem dX7_compares_16 : decode cX7_compares 16 = .ok (.isub, 1) := dk_100 (dk_at dksX7_compares_0 16 rfl rfl)
theorem dX7_compares_17 : decode cX7_compares 17 = .ok (.istore 6, 2) := dk_54 6 (dk_at dksX7_compares_0 17 rfl rfl)
theorem dX7_compares_19 : decode cX7_compares 19 = .ok (.iload_n 2, 1) := dk_28 (dk_at dksX7_compares_0 19 rfl rfl)
theorem dX7_compares_20 : decode cX7_compares 20 = .ok (.ifCond .eq 11, 3) := dk_153 0 11 (dk_at dksX7_compares_0 20 rfl rfl)
theorem dX7_compares_23 : decode cX7_compares 23 = .ok (.iload 6, 2) := dk_21 6 (dk_at dksX7_compares_1 0 rfl rfl)
theorem dX7_compares_25 : decode cX7_compares 25 = .ok (.ifCond .eq 6, 3) := dk_153 0 6 (dk_at dksX7_compares_1 2 rfl rfl)
theorem dX7_compares_28 : decode cX7_compares 28 = .ok (.iload 6, 2) := dk_21 6 (dk_at dksX7_compares_1 5 rfl rfl)
theorem dX7_compares_30 : decode cX7_compares 30 = .ok (.ireturn, 1) := dk_172 (dk_at dksX7_compares_1 7 rfl rfl)
theorem dX7_compares_31 : decode cX7_compares 31 = .ok (.iload_n 2, 1) := dk_28 (dk_at dksX7_compares_1 8 rfl rfl)
theorem dX7_compares_32 : decode cX7_compares 32 = .ok (.iconst 2, 1) := dk_5 (dk_at dksX7_compares_1 9 rfl rfl)
theorem dX7_compares_33 : decode cX7_compares 33 = .ok (.if_icmp .ne 42, 3) := dk_160 0 42 (dk_at dksX7_compares_1 10 rfl rfl)
theorem dX7_compares_36 : decode cX7_compares 36 = .ok (.iload_n 1, 1) := dk_27 (dk_at dksX7_compares_1 13 rfl rfl)
theorem dX7_compares_37 : decode cX7_compares 37 = .ok (.iload 5, 2) := dk_21 5 (dk_at dksX7_compares_1 14 rfl rfl)
theorem dX7_compares_39 : decode cX7_compares 39 = .ok (.invokestatic 95, 3) := dk_184 0 95 (dk_at dksX7_compares_1 16 rfl rfl)
theorem dX7_compares_42 : decode cX7_compares 42 = .ok (.iload_n 0, 1) := dk_26 (dk_at dksX7_compares_1 19 rfl rfl)
theorem dX7_compares_43 : decode cX7_compares 43 = .ok (.iload 5, 2) := dk_21 5 (dk_at dksX7_compares_1 20 rfl rfl)
theorem dX7_compares_45 : decode cX7_compares 45 = .ok (.invokestatic 95, 3) := dk_184 0 95 (dk_at dksX7_compares_2 0 rfl rfl)
theorem dX7_compares_48 : decode cX7_compares 48 = .ok (.isub, 1) := dk_100 (dk_at dksX7_compares_2 3 rfl rfl)
theorem dX7_compares_49 : decode cX7_compares 49 = .ok (.istore 7, 2) := dk_54 7 (dk_at dksX7_compares_2 4 rfl rfl)
theorem dX7_compares_51 : decode cX7_compares 51 = .ok (.iload 7, 2) := dk_21 7 (dk_at dksX7_compares_2 6 rfl rfl)
theorem dX7_compares_53 : decode cX7_compares 53 = .ok (.ifCond .eq 8, 3) := dk_153 0 8 (dk_at dksX7_compares_2 8 rfl rfl)
theorem dX7_compares_56 : decode cX7_compares 56 = .ok (.iload 7, 2) := dk_21 7 (dk_at dksX7_compares_2 11 rfl rfl)
theorem dX7_compares_58 : decode cX7_compares 58 = .ok (.goto 16, 3) := dk_167 0 16 (dk_at dksX7_compares_2 13 rfl rfl)
theorem dX7_compares_61 : decode cX7_compares 61 = .ok (.iload_n 1, 1) := dk_27 (dk_at dksX7_compares_2 16 rfl rfl)
theorem dX7_compares_62 : decode cX7_compares 62 = .ok (.iload 4, 2) := dk_21 4 (dk_at dksX7_compares_2 17 rfl rfl)
theorem dX7_compares_64 : decode cX7_compares 64 = .ok (.invokestatic 95, 3) := dk_184 0 95 (dk_at dksX7_compares_2 19 rfl rfl)
theorem dX7_compares_67 : decode cX7_compares 67 = .ok (.iload_n 0, 1) := dk_26 (dk_at dksX7_compares_2 22 rfl rfl)
theorem dX7_compares_68 : decode cX7_compares 68 = .ok (.iload 4, 2) := dk_21 4 (dk_at dksX7_compares_3 0 rfl rfl)
theorem dX7_compares_70 : decode cX7_compares 70 = .ok (.invokestatic 95, 3) := dk_184 0 95 (dk_at dksX7_compares_3 2 rfl rfl)
theorem dX7_compares_73 : decode cX7_compares 73 = .ok (.isub, 1) := dk_100 (dk_at dksX7_compares_3 5 rfl rfl)
theorem dX7_compares_74 : decode cX7_compares 74 = .ok (.ireturn, 1) := dk_172 (dk_at dksX7_compares_3 6 rfl rfl)
theorem dX7_compares_75 : decode cX7_compares 75 = .ok (.iload_n 0, 1) := dk_26 (dk_at dksX7_compares_3 7 rfl rfl)
theorem dX7_compares_76 : decode cX7_compares 76 = .ok (.iload_n 3, 1) := dk_29 (dk_at dksX7_compares_3 8 rfl rfl)
theorem dX7_compares_77 : decode cX7_compares 77 = .ok (.invokestatic 95, 3) := dk_184 0 95 (dk_at dksX7_compares_3 9 rfl rfl)
theorem dX7_compares_80 : decode cX7_compares 80 = .ok (.iload_n 1, 1) := dk_27 (dk_at dksX7_compares_3 12 rfl rfl)
theorem dX7_compares_81 : decode cX7_compares 81 = .ok (.iload_n 3, 1) := dk_29 (dk_at dksX7_compares_3 13 rfl rfl)
theorem dX7_compares_82 : decode cX7_compares 82 = .ok (.invokestatic 95, 3) := dk_184 0 95 (dk_at dksX7_compares_3 14 rfl rfl)
theorem dX7_compares_85 : decode cX7_compares 85 = .ok (.isub, 1) := dk_100 (dk_at dksX7_compares_3 17 rfl rfl)
theorem dX7_compares_86 : decode cX7_compares 86 = .ok (.istore 7, 2) := dk_54 7 (dk_at dksX7_compares_3 18 rfl rfl)
theorem dX7_compares_88 : decode cX7_compares 88 = .ok (.iload_n 0, 1) := dk_26 (dk_at dksX7_compares_3 20 rfl rfl)
theorem dX7_compares_89 : decode cX7_compares 89 = .ok (.iload 4, 2) := dk_21 4 (dk_at dksX7_compares_3 21 rfl rfl)
theorem dX7_compares_91 : decode cX7_compares 91 = .ok (.invokestatic 95, 3) := dk_184 0 95 (dk_at dksX7_compares_4 0 rfl rfl)
theorem dX7_compares_94 : decode cX7_compares 94 = .ok (.iload_n 1, 1) := dk_27 (dk_at dksX7_compares_4 3 rfl rfl)
theorem dX7_compares_95 : decode cX7_compares 95 = .ok (.iload 4, 2) := dk_21 4 (dk_at dksX7_compares_4 4 rfl rfl)
theorem dX7_compares_97 : decode cX7_compares 97 = .ok (.invokestatic 95, 3) := dk_184 0 95 (dk_at dksX7_compares_4 6 rfl rfl)
theorem dX7_compares_100 : decode cX7_compares 100 = .ok (.isub, 1) := dk_100 (dk_at dksX7_compares_4 9 rfl rfl)
theorem dX7_compares_101 : decode cX7_compares 101 = .ok (.istore 8, 2) := dk_54 8 (dk_at dksX7_compares_4 10 rfl rfl)
theorem dX7_compares_103 : decode cX7_compares 103 = .ok (.iload 7, 2) := dk_21 7 (dk_at dksX7_compares_4 12 rfl rfl)
theorem dX7_compares_105 : decode cX7_compares 105 = .ok (.ifCond .eq 8, 3) := dk_153 0 8 (dk_at dksX7_compares_4 14 rfl rfl)
theorem dX7_compares_108 : decode cX7_compares 108 = .ok (.iload 7, 2) := dk_21 7 (dk_at dksX7_compares_4 17 rfl rfl)
theorem dX7_compares_110 : decode cX7_compares 110 = .ok (.goto 26, 3) := dk_167 0 26 (dk_at dksX7_compares_4 19 rfl rfl)
theorem dX7_compares_113 : decode cX7_compares 113 = .ok (.iload 8, 2) := dk_21 8 (dk_at dksX7_compares_4 22 rfl rfl)
theorem dX7_compares_115 : decode cX7_compares 115 = .ok (.ifCond .eq 8, 3) := dk_153 0 8 (dk_at dksX7_compares_5 0 rfl rfl)
theorem dX7_compares_118 : decode cX7_compares 118 = .ok (.iload 8, 2) := dk_21 8 (dk_at dksX7_compares_5 3 rfl rfl)
theorem dX7_compares_120 : decode cX7_compares 120 = .ok (.goto 16, 3) := dk_167 0 16 (dk_at dksX7_compares_5 5 rfl rfl)
theorem dX7_compares_123 : decode cX7_compares 123 = .ok (.iload_n 0, 1) := dk_26 (dk_at dksX7_compares_5 8 rfl rfl)
theorem dX7_compares_124 : decode cX7_compares 124 = .ok (.iload 5, 2) := dk_21 5 (dk_at dksX7_compares_5 9 rfl rfl)
theorem dX7_compares_126 : decode cX7_compares 126 = .ok (.invokestatic 95, 3) := dk_184 0 95 (dk_at dksX7_compares_5 11 rfl rfl)
theorem dX7_compares_129 : decode cX7_compares 129 = .ok (.iload_n 1, 1) := dk_27 (dk_at dksX7_compares_5 14 rfl rfl)
theorem dX7_compares_130 : decode cX7_compares 130 = .ok (.iload 5, 2) := dk_21 5 (dk_at dksX7_compares_5 15 rfl rfl)
theorem dX7_compares_132 : decode cX7_compares 132 = .ok (.invokestatic 95, 3) := dk_184 0 95 (dk_at dksX7_compares_5 17 rfl rfl)
theorem dX7_compares_135 : decode cX7_compares 135 = .ok (.isub, 1) := dk_100 (dk_at dksX7_compares_5 20 rfl rfl)
theorem dX7_compares_136 : decode cX7_compares 136 = .ok (.ireturn, 1) := dk_172 (dk_at dksX7_compares_5 21 rfl rfl)
abbrev cX7_leadBy : ByteArray := prog_10_method_56_code
def yX7_leadBy : MethodName := ⟨RX7, "leadBy", "(IIII)I"⟩
def dkwX7_leadBy_4 : List UInt8 := [160, 0, 8, 16, 254, 167, 0, 5, 21, 5, 182, 0, 248, 172]
abbrev dktX7_leadBy_4 : List UInt8 := dkwX7_leadBy_4 ++ []
def dkwX7_leadBy_3 : List UInt8 := [29, 21, 4, 184, 1, 52, 158, 0, 7, 21, 6, 54, 5, 132, 6, 1, 167, 255, 211, 42, 21, 5, 2]
abbrev dktX7_leadBy_3 : List UInt8 := dkwX7_leadBy_3 ++ dktX7_leadBy_4
def dkwX7_leadBy_2 : List UInt8 := [162, 0, 43, 42, 27, 21, 6, 182, 1, 8, 153, 0, 27, 21, 5, 2, 159, 0, 17, 21, 6, 21, 5, 28]
abbrev dktX7_leadBy_2 : List UInt8 := dkwX7_leadBy_2 ++ dktX7_leadBy_3
def dkwX7_leadBy_1 : List UInt8 := [184, 1, 56, 154, 0, 9, 42, 5, 182, 0, 221, 172, 2, 54, 5, 3, 54, 6, 21, 6, 17, 16, 0]
abbrev dktX7_leadBy_1 : List UInt8 := dkwX7_leadBy_1 ++ dktX7_leadBy_2
def dkwX7_leadBy_0 : List UInt8 := [42, 3, 181, 0, 89, 42, 27, 182, 1, 20, 154, 0, 9, 42, 4, 182, 0, 221, 172, 28, 29, 21, 4]
abbrev dktX7_leadBy_0 : List UInt8 := dkwX7_leadBy_0 ++ dktX7_leadBy_1
theorem dksX7_leadBy_0 : cX7_leadBy.data.toList.drop 0 = dktX7_leadBy_0 := by decide +kernel
theorem dksX7_leadBy_1 : cX7_leadBy.data.toList.drop 23 = dktX7_leadBy_1 := dk_seg dksX7_leadBy_0 23 rfl rfl
theorem dksX7_leadBy_2 : cX7_leadBy.data.toList.drop 46 = dktX7_leadBy_2 := dk_seg dksX7_leadBy_1 23 rfl rfl
theorem dksX7_leadBy_3 : cX7_leadBy.data.toList.drop 70 = dktX7_leadBy_3 := dk_seg dksX7_leadBy_2 24 rfl rfl
theorem dksX7_leadBy_4 : cX7_leadBy.data.toList.drop 93 = dktX7_leadBy_4 := dk_seg dksX7_leadBy_3 23 rfl rfl
theorem dX7_leadBy_0 : decode cX7_leadBy 0 = .ok (.aload_n 0, 1) := dk_42 (dk_at dksX7_leadBy_0 0 rfl rfl)
theorem dX7_leadBy_1 : decode cX7_leadBy 1 = .ok (.iconst 0, 1) := dk_3 (dk_at dksX7_leadBy_0 1 rfl rfl)
theorem dX7_leadBy_2 : decode cX7_leadBy 2 = .ok (.putfield 89, 3) := dk_181 0 89 (dk_at dksX7_leadBy_0 2 rfl rfl)
theorem dX7_leadBy_5 : decode cX7_leadBy 5 = .ok (.aload_n 0, 1) := dk_42 (dk_at dksX7_leadBy_0 5 rfl rfl)
theorem dX7_leadBy_6 : decode cX7_leadBy 6 = .ok (.iload_n 1, 1) := dk_27 (dk_at dksX7_leadBy_0 6 rfl rfl)
theorem dX7_leadBy_7 : decode cX7_leadBy 7 = .ok (.invokevirtual 276, 3) := dk_182 1 20 (dk_at dksX7_leadBy_0 7 rfl rfl)
theorem dX7_leadBy_10 : decode cX7_leadBy 10 = .ok (.ifCond .ne 9, 3) := dk_154 0 9 (dk_at dksX7_leadBy_0 10 rfl rfl)
theorem dX7_leadBy_13 : decode cX7_leadBy 13 = .ok (.aload_n 0, 1) := dk_42 (dk_at dksX7_leadBy_0 13 rfl rfl)
theorem dX7_leadBy_14 : decode cX7_leadBy 14 = .ok (.iconst 1, 1) := dk_4 (dk_at dksX7_leadBy_0 14 rfl rfl)
theorem dX7_leadBy_15 : decode cX7_leadBy 15 = .ok (.invokevirtual 221, 3) := dk_182 0 221 (dk_at dksX7_leadBy_0 15 rfl rfl)
theorem dX7_leadBy_18 : decode cX7_leadBy 18 = .ok (.ireturn, 1) := dk_172 (dk_at dksX7_leadBy_0 18 rfl rfl)
theorem dX7_leadBy_19 : decode cX7_leadBy 19 = .ok (.iload_n 2, 1) := dk_28 (dk_at dksX7_leadBy_0 19 rfl rfl)
theorem dX7_leadBy_20 : decode cX7_leadBy 20 = .ok (.iload_n 3, 1) := dk_29 (dk_at dksX7_leadBy_0 20 rfl rfl)
theorem dX7_leadBy_21 : decode cX7_leadBy 21 = .ok (.iload 4, 2) := dk_21 4 (dk_at dksX7_leadBy_0 21 rfl rfl)
theorem dX7_leadBy_23 : decode cX7_leadBy 23 = .ok (.invokestatic 312, 3) := dk_184 1 56 (dk_at dksX7_leadBy_1 0 rfl rfl)
theorem dX7_leadBy_26 : decode cX7_leadBy 26 = .ok (.ifCond .ne 9, 3) := dk_154 0 9 (dk_at dksX7_leadBy_1 3 rfl rfl)
theorem dX7_leadBy_29 : decode cX7_leadBy 29 = .ok (.aload_n 0, 1) := dk_42 (dk_at dksX7_leadBy_1 6 rfl rfl)
theorem dX7_leadBy_30 : decode cX7_leadBy 30 = .ok (.iconst 2, 1) := dk_5 (dk_at dksX7_leadBy_1 7 rfl rfl)
theorem dX7_leadBy_31 : decode cX7_leadBy 31 = .ok (.invokevirtual 221, 3) := dk_182 0 221 (dk_at dksX7_leadBy_1 8 rfl rfl)
theorem dX7_leadBy_34 : decode cX7_leadBy 34 = .ok (.ireturn, 1) := dk_172 (dk_at dksX7_leadBy_1 11 rfl rfl)
theorem dX7_leadBy_35 : decode cX7_leadBy 35 = .ok (.iconst (-1), 1) := dk_2 (dk_at dksX7_leadBy_1 12 rfl rfl)
theorem dX7_leadBy_36 : decode cX7_leadBy 36 = .ok (.istore 5, 2) := dk_54 5 (dk_at dksX7_leadBy_1 13 rfl rfl)
theorem dX7_leadBy_38 : decode cX7_leadBy 38 = .ok (.iconst 0, 1) := dk_3 (dk_at dksX7_leadBy_1 15 rfl rfl)
theorem dX7_leadBy_39 : decode cX7_leadBy 39 = .ok (.istore 6, 2) := dk_54 6 (dk_at dksX7_leadBy_1 16 rfl rfl)
theorem dX7_leadBy_41 : decode cX7_leadBy 41 = .ok (.iload 6, 2) := dk_21 6 (dk_at dksX7_leadBy_1 18 rfl rfl)
theorem dX7_leadBy_43 : decode cX7_leadBy 43 = .ok (.sipush 4096, 3) := dk_17 16 0 (dk_at dksX7_leadBy_1 20 rfl rfl)
theorem dX7_leadBy_46 : decode cX7_leadBy 46 = .ok (.if_icmp .ge 43, 3) := dk_162 0 43 (dk_at dksX7_leadBy_2 0 rfl rfl)
theorem dX7_leadBy_49 : decode cX7_leadBy 49 = .ok (.aload_n 0, 1) := dk_42 (dk_at dksX7_leadBy_2 3 rfl rfl)
theorem dX7_leadBy_50 : decode cX7_leadBy 50 = .ok (.iload_n 1, 1) := dk_27 (dk_at dksX7_leadBy_2 4 rfl rfl)
theorem dX7_leadBy_51 : decode cX7_leadBy 51 = .ok (.iload 6, 2) := dk_21 6 (dk_at dksX7_leadBy_2 5 rfl rfl)
theorem dX7_leadBy_53 : decode cX7_leadBy 53 = .ok (.invokevirtual 264, 3) := dk_182 1 8 (dk_at dksX7_leadBy_2 7 rfl rfl)
theorem dX7_leadBy_56 : decode cX7_leadBy 56 = .ok (.ifCond .eq 27, 3) := dk_153 0 27 (dk_at dksX7_leadBy_2 10 rfl rfl)
theorem dX7_leadBy_59 : decode cX7_leadBy 59 = .ok (.iload 5, 2) := dk_21 5 (dk_at dksX7_leadBy_2 13 rfl rfl)
theorem dX7_leadBy_61 : decode cX7_leadBy 61 = .ok (.iconst (-1), 1) := dk_2 (dk_at dksX7_leadBy_2 15 rfl rfl)
theorem dX7_leadBy_62 : decode cX7_leadBy 62 = .ok (.if_icmp .eq 17, 3) := dk_159 0 17 (dk_at dksX7_leadBy_2 16 rfl rfl)
theorem dX7_leadBy_65 : decode cX7_leadBy 65 = .ok (.iload 6, 2) := dk_21 6 (dk_at dksX7_leadBy_2 19 rfl rfl)
theorem dX7_leadBy_67 : decode cX7_leadBy 67 = .ok (.iload 5, 2) := dk_21 5 (dk_at dksX7_leadBy_2 21 rfl rfl)
theorem dX7_leadBy_69 : decode cX7_leadBy 69 = .ok (.iload_n 2, 1) := dk_28 (dk_at dksX7_leadBy_2 23 rfl rfl)
theorem dX7_leadBy_70 : decode cX7_leadBy 70 = .ok (.iload_n 3, 1) := dk_29 (dk_at dksX7_leadBy_3 0 rfl rfl)
theorem dX7_leadBy_71 : decode cX7_leadBy 71 = .ok (.iload 4, 2) := dk_21 4 (dk_at dksX7_leadBy_3 1 rfl rfl)
theorem dX7_leadBy_73 : decode cX7_leadBy 73 = .ok (.invokestatic 308, 3) := dk_184 1 52 (dk_at dksX7_leadBy_3 3 rfl rfl)
theorem dX7_leadBy_76 : decode cX7_leadBy 76 = .ok (.ifCond .le 7, 3) := dk_158 0 7 (dk_at dksX7_leadBy_3 6 rfl rfl)
theorem dX7_leadBy_79 : decode cX7_leadBy 79 = .ok (.iload 6, 2) := dk_21 6 (dk_at dksX7_leadBy_3 9 rfl rfl)
theorem dX7_leadBy_81 : decode cX7_leadBy 81 = .ok (.istore 5, 2) := dk_54 5 (dk_at dksX7_leadBy_3 11 rfl rfl)
theorem dX7_leadBy_83 : decode cX7_leadBy 83 = .ok (.iinc 6 1, 3) := dk_132 6 1 (dk_at dksX7_leadBy_3 13 rfl rfl)
theorem dX7_leadBy_86 : decode cX7_leadBy 86 = .ok (.goto (-45), 3) := dk_167 255 211 (dk_at dksX7_leadBy_3 16 rfl rfl)
theorem dX7_leadBy_89 : decode cX7_leadBy 89 = .ok (.aload_n 0, 1) := dk_42 (dk_at dksX7_leadBy_3 19 rfl rfl)
theorem dX7_leadBy_90 : decode cX7_leadBy 90 = .ok (.iload 5, 2) := dk_21 5 (dk_at dksX7_leadBy_3 20 rfl rfl)
theorem dX7_leadBy_92 : decode cX7_leadBy 92 = .ok (.iconst (-1), 1) := dk_2 (dk_at dksX7_leadBy_3 22 rfl rfl)
theorem dX7_leadBy_93 : decode cX7_leadBy 93 = .ok (.if_icmp .ne 8, 3) := dk_160 0 8 (dk_at dksX7_leadBy_4 0 rfl rfl)
theorem dX7_leadBy_96 : decode cX7_leadBy 96 = .ok (.bipush (-2), 2) := dk_16 254 (dk_at dksX7_leadBy_4 3 rfl rfl)
theorem dX7_leadBy_98 : decode cX7_leadBy 98 = .ok (.goto 5, 3) := dk_167 0 5 (dk_at dksX7_leadBy_4 5 rfl rfl)
theorem dX7_leadBy_101 : decode cX7_leadBy 101 = .ok (.iload 5, 2) := dk_21 5 (dk_at dksX7_leadBy_4 8 rfl rfl)
theorem dX7_leadBy_103 : decode cX7_leadBy 103 = .ok (.invokevirtual 248, 3) := dk_182 0 248 (dk_at dksX7_leadBy_4 10 rfl rfl)
theorem dX7_leadBy_106 : decode cX7_leadBy 106 = .ok (.ireturn, 1) := dk_172 (dk_at dksX7_leadBy_4 13 rfl rfl)
abbrev cX7_isOrder : ByteArray := prog_10_method_55_code
def yX7_isOrder : MethodName := ⟨RX7, "isOrder", "(III)Z"⟩
def dkwX7_isOrder_1 : List UInt8 := [28, 159, 0, 7, 4, 167, 0, 4, 3, 172]
abbrev dktX7_isOrder_1 : List UInt8 := dkwX7_isOrder_1 ++ []
def dkwX7_isOrder_0 : List UInt8 := [26, 3, 5, 184, 0, 118, 153, 0, 26, 27, 184, 1, 23, 153, 0, 19, 28, 184, 1, 23, 153, 0, 12, 27]
abbrev dktX7_isOrder_0 : List UInt8 := dkwX7_isOrder_0 ++ dktX7_isOrder_1
theorem dksX7_isOrder_0 : cX7_isOrder.data.toList.drop 0 = dktX7_isOrder_0 := by decide +kernel
theorem dksX7_isOrder_1 : cX7_isOrder.data.toList.drop 24 = dktX7_isOrder_1 := dk_seg dksX7_isOrder_0 24 rfl rfl
theorem dX7_isOrder_0 : decode cX7_isOrder 0 = .ok (.iload_n 0, 1) := dk_26 (dk_at dksX7_isOrder_0 0 rfl rfl)
theorem dX7_isOrder_1 : decode cX7_isOrder 1 = .ok (.iconst 0, 1) := dk_3 (dk_at dksX7_isOrder_0 1 rfl rfl)
theorem dX7_isOrder_2 : decode cX7_isOrder 2 = .ok (.iconst 2, 1) := dk_5 (dk_at dksX7_isOrder_0 2 rfl rfl)
theorem dX7_isOrder_3 : decode cX7_isOrder 3 = .ok (.invokestatic 118, 3) := dk_184 0 118 (dk_at dksX7_isOrder_0 3 rfl rfl)
theorem dX7_isOrder_6 : decode cX7_isOrder 6 = .ok (.ifCond .eq 26, 3) := dk_153 0 26 (dk_at dksX7_isOrder_0 6 rfl rfl)
theorem dX7_isOrder_9 : decode cX7_isOrder 9 = .ok (.iload_n 1, 1) := dk_27 (dk_at dksX7_isOrder_0 9 rfl rfl)
theorem dX7_isOrder_10 : decode cX7_isOrder 10 = .ok (.invokestatic 279, 3) := dk_184 1 23 (dk_at dksX7_isOrder_0 10 rfl rfl)
theorem dX7_isOrder_13 : decode cX7_isOrder 13 = .ok (.ifCond .eq 19, 3) := dk_153 0 19 (dk_at dksX7_isOrder_0 13 rfl rfl)
theorem dX7_isOrder_16 : decode cX7_isOrder 16 = .ok (.iload_n 2, 1) := dk_28 (dk_at dksX7_isOrder_0 16 rfl rfl)
theorem dX7_isOrder_17 : decode cX7_isOrder 17 = .ok (.invokestatic 279, 3) := dk_184 1 23 (dk_at dksX7_isOrder_0 17 rfl rfl)
theorem dX7_isOrder_20 : decode cX7_isOrder 20 = .ok (.ifCond .eq 12, 3) := dk_153 0 12 (dk_at dksX7_isOrder_0 20 rfl rfl)
theorem dX7_isOrder_23 : decode cX7_isOrder 23 = .ok (.iload_n 1, 1) := dk_27 (dk_at dksX7_isOrder_0 23 rfl rfl)
theorem dX7_isOrder_24 : decode cX7_isOrder 24 = .ok (.iload_n 2, 1) := dk_28 (dk_at dksX7_isOrder_1 0 rfl rfl)
theorem dX7_isOrder_25 : decode cX7_isOrder 25 = .ok (.if_icmp .eq 7, 3) := dk_159 0 7 (dk_at dksX7_isOrder_1 1 rfl rfl)
theorem dX7_isOrder_28 : decode cX7_isOrder 28 = .ok (.iconst 1, 1) := dk_4 (dk_at dksX7_isOrder_1 4 rfl rfl)
theorem dX7_isOrder_29 : decode cX7_isOrder 29 = .ok (.goto 4, 3) := dk_167 0 4 (dk_at dksX7_isOrder_1 5 rfl rfl)
theorem dX7_isOrder_32 : decode cX7_isOrder 32 = .ok (.iconst 0, 1) := dk_3 (dk_at dksX7_isOrder_1 8 rfl rfl)
theorem dX7_isOrder_33 : decode cX7_isOrder 33 = .ok (.ireturn, 1) := dk_172 (dk_at dksX7_isOrder_1 9 rfl rfl)
abbrev cX7_divided : ByteArray := prog_10_method_69_code
def yX7_divided : MethodName := ⟨RX7, "divided", "(III)I"⟩
def dkwX7_divided_5 : List UInt8 := [21, 5, 167, 0, 7, 42, 180, 1, 84, 182, 0, 248, 172]
abbrev dktX7_divided_5 : List UInt8 := dkwX7_divided_5 ++ []
def dkwX7_divided_4 : List UInt8 := [180, 1, 75, 167, 0, 29, 29, 4, 160, 0, 10, 42, 180, 1, 72, 167, 0, 17, 29, 5, 160, 0, 8]
abbrev dktX7_divided_4 : List UInt8 := dkwX7_divided_4 ++ dktX7_divided_5
def dkwX7_divided_3 : List UInt8 := [42, 180, 0, 43, 21, 6, 46, 96, 54, 5, 132, 6, 1, 167, 255, 234, 42, 29, 154, 0, 10, 42]
abbrev dktX7_divided_3 : List UInt8 := dkwX7_divided_3 ++ dktX7_divided_4
def dkwX7_divided_2 : List UInt8 := [154, 0, 9, 42, 6, 182, 0, 221, 172, 3, 54, 5, 3, 54, 6, 21, 6, 16, 8, 162, 0, 21, 21, 5]
abbrev dktX7_divided_2 : List UInt8 := dkwX7_divided_2 ++ dktX7_divided_3
def dkwX7_divided_1 : List UInt8 := [54, 4, 21, 4, 158, 0, 10, 42, 21, 4, 182, 0, 221, 172, 42, 27, 182, 1, 99, 42, 28, 182, 1, 102]
abbrev dktX7_divided_1 : List UInt8 := dkwX7_divided_1 ++ dktX7_divided_2
def dkwX7_divided_0 : List UInt8 := [42, 3, 181, 0, 89, 29, 3, 6, 184, 0, 118, 154, 0, 7, 4, 167, 0, 9, 42, 27, 28, 182, 1, 96]
abbrev dktX7_divided_0 : List UInt8 := dkwX7_divided_0 ++ dktX7_divided_1
theorem dksX7_divided_0 : cX7_divided.data.toList.drop 0 = dktX7_divided_0 := by decide +kernel
theorem dksX7_divided_1 : cX7_divided.data.toList.drop 24 = dktX7_divided_1 := dk_seg dksX7_divided_0 24 rfl rfl
theorem dksX7_divided_2 : cX7_divided.data.toList.drop 48 = dktX7_divided_2 := dk_seg dksX7_divided_1 24 rfl rfl
theorem dksX7_divided_3 : cX7_divided.data.toList.drop 72 = dktX7_divided_3 := dk_seg dksX7_divided_2 24 rfl rfl
theorem dksX7_divided_4 : cX7_divided.data.toList.drop 94 = dktX7_divided_4 := dk_seg dksX7_divided_3 22 rfl rfl
theorem dksX7_divided_5 : cX7_divided.data.toList.drop 117 = dktX7_divided_5 := dk_seg dksX7_divided_4 23 rfl rfl
theorem dX7_divided_0 : decode cX7_divided 0 = .ok (.aload_n 0, 1) := dk_42 (dk_at dksX7_divided_0 0 rfl rfl)
theorem dX7_divided_1 : decode cX7_divided 1 = .ok (.iconst 0, 1) := dk_3 (dk_at dksX7_divided_0 1 rfl rfl)
theorem dX7_divided_2 : decode cX7_divided 2 = .ok (.putfield 89, 3) := dk_181 0 89 (dk_at dksX7_divided_0 2 rfl rfl)
theorem dX7_divided_5 : decode cX7_divided 5 = .ok (.iload_n 3, 1) := dk_29 (dk_at dksX7_divided_0 5 rfl rfl)
theorem dX7_divided_6 : decode cX7_divided 6 = .ok (.iconst 0, 1) := dk_3 (dk_at dksX7_divided_0 6 rfl rfl)
theorem dX7_divided_7 : decode cX7_divided 7 = .ok (.iconst 3, 1) := dk_6 (dk_at dksX7_divided_0 7 rfl rfl)
theorem dX7_divided_8 : decode cX7_divided 8 = .ok (.invokestatic 118, 3) := dk_184 0 118 (dk_at dksX7_divided_0 8 rfl rfl)
theorem dX7_divided_11 : decode cX7_divided 11 = .ok (.ifCond .ne 7, 3) := dk_154 0 7 (dk_at dksX7_divided_0 11 rfl rfl)
theorem dX7_divided_14 : decode cX7_divided 14 = .ok (.iconst 1, 1) := dk_4 (dk_at dksX7_divided_0 14 rfl rfl)
theorem dX7_divided_15 : decode cX7_divided 15 = .ok (.goto 9, 3) := dk_167 0 9 (dk_at dksX7_divided_0 15 rfl rfl)
theorem dX7_divided_18 : decode cX7_divided 18 = .ok (.aload_n 0, 1) := dk_42 (dk_at dksX7_divided_0 18 rfl rfl)
theorem dX7_divided_19 : decode cX7_divided 19 = .ok (.iload_n 1, 1) := dk_27 (dk_at dksX7_divided_0 19 rfl rfl)
theorem dX7_divided_20 : decode cX7_divided 20 = .ok (.iload_n 2, 1) := dk_28 (dk_at dksX7_divided_0 20 rfl rfl)
theorem dX7_divided_21 : decode cX7_divided 21 = .ok (.invokevirtual 352, 3) := dk_182 1 96 (dk_at dksX7_divided_0 21 rfl rfl)
theorem dX7_divided_24 : decode cX7_divided 24 = .ok (.istore 4, 2) := dk_54 4 (dk_at dksX7_divided_1 0 rfl rfl)
theorem dX7_divided_26 : decode cX7_divided 26 = .ok (.iload 4, 2) := dk_21 4 (dk_at dksX7_divided_1 2 rfl rfl)
theorem dX7_divided_28 : decode cX7_divided 28 = .ok (.ifCond .le 10, 3) := dk_158 0 10 (dk_at dksX7_divided_1 4 rfl rfl)
theorem dX7_divided_31 : decode cX7_divided 31 = .ok (.aload_n 0, 1) := dk_42 (dk_at dksX7_divided_1 7 rfl rfl)
theorem dX7_divided_32 : decode cX7_divided 32 = .ok (.iload 4, 2) := dk_21 4 (dk_at dksX7_divided_1 8 rfl rfl)
theorem dX7_divided_34 : decode cX7_divided 34 = .ok (.invokevirtual 221, 3) := dk_182 0 221 (dk_at dksX7_divided_1 10 rfl rfl)
theorem dX7_divided_37 : decode cX7_divided 37 = .ok (.ireturn, 1) := dk_172 (dk_at dksX7_divided_1 13 rfl rfl)
theorem dX7_divided_38 : decode cX7_divided 38 = .ok (.aload_n 0, 1) := dk_42 (dk_at dksX7_divided_1 14 rfl rfl)
theorem dX7_divided_39 : decode cX7_divided 39 = .ok (.iload_n 1, 1) := dk_27 (dk_at dksX7_divided_1 15 rfl rfl)
theorem dX7_divided_40 : decode cX7_divided 40 = .ok (.invokevirtual 355, 3) := dk_182 1 99 (dk_at dksX7_divided_1 16 rfl rfl)
theorem dX7_divided_43 : decode cX7_divided 43 = .ok (.aload_n 0, 1) := dk_42 (dk_at dksX7_divided_1 19 rfl rfl)
theorem dX7_divided_44 : decode cX7_divided 44 = .ok (.iload_n 2, 1) := dk_28 (dk_at dksX7_divided_1 20 rfl rfl)
theorem dX7_divided_45 : decode cX7_divided 45 = .ok (.invokevirtual 358, 3) := dk_182 1 102 (dk_at dksX7_divided_1 21 rfl rfl)
theorem dX7_divided_48 : decode cX7_divided 48 = .ok (.ifCond .ne 9, 3) := dk_154 0 9 (dk_at dksX7_divided_2 0 rfl rfl)
theorem dX7_divided_51 : decode cX7_divided 51 = .ok (.aload_n 0, 1) := dk_42 (dk_at dksX7_divided_2 3 rfl rfl)
theorem dX7_divided_52 : decode cX7_divided 52 = .ok (.iconst 3, 1) := dk_6 (dk_at dksX7_divided_2 4 rfl rfl)
theorem dX7_divided_53 : decode cX7_divided 53 = .ok (.invokevirtual 221, 3) := dk_182 0 221 (dk_at dksX7_divided_2 5 rfl rfl)
theorem dX7_divided_56 : decode cX7_divided 56 = .ok (.ireturn, 1) := dk_172 (dk_at dksX7_divided_2 8 rfl rfl)
theorem dX7_divided_57 : decode cX7_divided 57 = .ok (.iconst 0, 1) := dk_3 (dk_at dksX7_divided_2 9 rfl rfl)
theorem dX7_divided_58 : decode cX7_divided 58 = .ok (.istore 5, 2) := dk_54 5 (dk_at dksX7_divided_2 10 rfl rfl)
theorem dX7_divided_60 : decode cX7_divided 60 = .ok (.iconst 0, 1) := dk_3 (dk_at dksX7_divided_2 12 rfl rfl)
theorem dX7_divided_61 : decode cX7_divided 61 = .ok (.istore 6, 2) := dk_54 6 (dk_at dksX7_divided_2 13 rfl rfl)
theorem dX7_divided_63 : decode cX7_divided 63 = .ok (.iload 6, 2) := dk_21 6 (dk_at dksX7_divided_2 15 rfl rfl)
theorem dX7_divided_65 : decode cX7_divided 65 = .ok (.bipush 8, 2) := dk_16 8 (dk_at dksX7_divided_2 17 rfl rfl)
theorem dX7_divided_67 : decode cX7_divided 67 = .ok (.if_icmp .ge 21, 3) := dk_162 0 21 (dk_at dksX7_divided_2 19 rfl rfl)
theorem dX7_divided_70 : decode cX7_divided 70 = .ok (.iload 5, 2) := dk_21 5 (dk_at dksX7_divided_2 22 rfl rfl)
theorem dX7_divided_72 : decode cX7_divided 72 = .ok (.aload_n 0, 1) := dk_42 (dk_at dksX7_divided_3 0 rfl rfl)
theorem dX7_divided_73 : decode cX7_divided 73 = .ok (.getfield 43, 3) := dk_180 0 43 (dk_at dksX7_divided_3 1 rfl rfl)
theorem dX7_divided_76 : decode cX7_divided 76 = .ok (.iload 6, 2) := dk_21 6 (dk_at dksX7_divided_3 4 rfl rfl)
theorem dX7_divided_78 : decode cX7_divided 78 = .ok (.iaload, 1) := dk_46 (dk_at dksX7_divided_3 6 rfl rfl)
theorem dX7_divided_79 : decode cX7_divided 79 = .ok (.iadd, 1) := dk_96 (dk_at dksX7_divided_3 7 rfl rfl)
theorem dX7_divided_80 : decode cX7_divided 80 = .ok (.istore 5, 2) := dk_54 5 (dk_at dksX7_divided_3 8 rfl rfl)
theorem dX7_divided_82 : decode cX7_divided 82 = .ok (.iinc 6 1, 3) := dk_132 6 1 (dk_at dksX7_divided_3 10 rfl rfl)
theorem dX7_divided_85 : decode cX7_divided 85 = .ok (.goto (-22), 3) := dk_167 255 234 (dk_at dksX7_divided_3 13 rfl rfl)
theorem dX7_divided_88 : decode cX7_divided 88 = .ok (.aload_n 0, 1) := dk_42 (dk_at dksX7_divided_3 16 rfl rfl)
theorem dX7_divided_89 : decode cX7_divided 89 = .ok (.iload_n 3, 1) := dk_29 (dk_at dksX7_divided_3 17 rfl rfl)
theorem dX7_divided_90 : decode cX7_divided 90 = .ok (.ifCond .ne 10, 3) := dk_154 0 10 (dk_at dksX7_divided_3 18 rfl rfl)
theorem dX7_divided_93 : decode cX7_divided 93 = .ok (.aload_n 0, 1) := dk_42 (dk_at dksX7_divided_3 21 rfl rfl)
theorem dX7_divided_94 : decode cX7_divided 94 = .ok (.getfield 331, 3) := dk_180 1 75 (dk_at dksX7_divided_4 0 rfl rfl)
theorem dX7_divided_97 : decode cX7_divided 97 = .ok (.goto 29, 3) := dk_167 0 29 (dk_at dksX7_divided_4 3 rfl rfl)
theorem dX7_divided_100 : decode cX7_divided 100 = .ok (.iload_n 3, 1) := dk_29 (dk_at dksX7_divided_4 6 rfl rfl)
theorem dX7_divided_101 : decode cX7_divided 101 = .ok (.iconst 1, 1) := dk_4 (dk_at dksX7_divided_4 7 rfl rfl)
theorem dX7_divided_102 : decode cX7_divided 102 = .ok (.if_icmp .ne 10, 3) := dk_160 0 10 (dk_at dksX7_divided_4 8 rfl rfl)
theorem dX7_divided_105 : decode cX7_divided 105 = .ok (.aload_n 0, 1) := dk_42 (dk_at dksX7_divided_4 11 rfl rfl)
theorem dX7_divided_106 : decode cX7_divided 106 = .ok (.getfield 328, 3) := dk_180 1 72 (dk_at dksX7_divided_4 12 rfl rfl)
theorem dX7_divided_109 : decode cX7_divided 109 = .ok (.goto 17, 3) := dk_167 0 17 (dk_at dksX7_divided_4 15 rfl rfl)
theorem dX7_divided_112 : decode cX7_divided 112 = .ok (.iload_n 3, 1) := dk_29 (dk_at dksX7_divided_4 18 rfl rfl)
theorem dX7_divided_113 : decode cX7_divided 113 = .ok (.iconst 2, 1) := dk_5 (dk_at dksX7_divided_4 19 rfl rfl)
theorem dX7_divided_114 : decode cX7_divided 114 = .ok (.if_icmp .ne 8, 3) := dk_160 0 8 (dk_at dksX7_divided_4 20 rfl rfl)
theorem dX7_divided_117 : decode cX7_divided 117 = .ok (.iload 5, 2) := dk_21 5 (dk_at dksX7_divided_5 0 rfl rfl)
theorem dX7_divided_119 : decode cX7_divided 119 = .ok (.goto 7, 3) := dk_167 0 7 (dk_at dksX7_divided_5 2 rfl rfl)
theorem dX7_divided_122 : decode cX7_divided 122 = .ok (.aload_n 0, 1) := dk_42 (dk_at dksX7_divided_5 5 rfl rfl)
theorem dX7_divided_123 : decode cX7_divided 123 = .ok (.getfield 340, 3) := dk_180 1 84 (dk_at dksX7_divided_5 6 rfl rfl)
theorem dX7_divided_126 : decode cX7_divided 126 = .ok (.invokevirtual 248, 3) := dk_182 0 248 (dk_at dksX7_divided_5 9 rfl rfl)
theorem dX7_divided_129 : decode cX7_divided 129 = .ok (.ireturn, 1) := dk_172 (dk_at dksX7_divided_5 12 rfl rfl)
abbrev cX7_refusesDivision : ByteArray := prog_10_method_68_code
def yX7_refusesDivision : MethodName := ⟨RX7, "refusesDivision", "(II)I"⟩
def dkwX7_refusesDivision_0 : List UInt8 := [42, 27, 182, 1, 20, 154, 0, 7, 4, 167, 0, 8, 42, 28, 182, 1, 93, 172]
abbrev dktX7_refusesDivision_0 : List UInt8 := dkwX7_refusesDivision_0 ++ []
theorem dksX7_refusesDivision_0 : cX7_refusesDivision.data.toList.drop 0 = dktX7_refusesDivision_0 := by decide +kernel
theorem dX7_refusesDivision_0 : decode cX7_refusesDivision 0 = .ok (.aload_n 0, 1) := dk_42 (dk_at dksX7_refusesDivision_0 0 rfl rfl)
theorem dX7_refusesDivision_1 : decode cX7_refusesDivision 1 = .ok (.iload_n 1, 1) := dk_27 (dk_at dksX7_refusesDivision_0 1 rfl rfl)
theorem dX7_refusesDivision_2 : decode cX7_refusesDivision 2 = .ok (.invokevirtual 276, 3) := dk_182 1 20 (dk_at dksX7_refusesDivision_0 2 rfl rfl)
theorem dX7_refusesDivision_5 : decode cX7_refusesDivision 5 = .ok (.ifCond .ne 7, 3) := dk_154 0 7 (dk_at dksX7_refusesDivision_0 5 rfl rfl)
theorem dX7_refusesDivision_8 : decode cX7_refusesDivision 8 = .ok (.iconst 1, 1) := dk_4 (dk_at dksX7_refusesDivision_0 8 rfl rfl)
theorem dX7_refusesDivision_9 : decode cX7_refusesDivision 9 = .ok (.goto 8, 3) := dk_167 0 8 (dk_at dksX7_refusesDivision_0 9 rfl rfl)
theorem dX7_refusesDivision_12 : decode cX7_refusesDivision 12 = .ok (.aload_n 0, 1) := dk_42 (dk_at dksX7_refusesDivision_0 12 rfl rfl)
theorem dX7_refusesDivision_13 : decode cX7_refusesDivision 13 = .ok (.iload_n 2, 1) := dk_28 (dk_at dksX7_refusesDivision_0 13 rfl rfl)
theorem dX7_refusesDivision_14 : decode cX7_refusesDivision 14 = .ok (.invokevirtual 349, 3) := dk_182 1 93 (dk_at dksX7_refusesDivision_0 14 rfl rfl)
theorem dX7_refusesDivision_17 : decode cX7_refusesDivision 17 = .ok (.ireturn, 1) := dk_172 (dk_at dksX7_refusesDivision_0 17 rfl rfl)
abbrev cX7_refusesSet : ByteArray := prog_10_method_64_code
def yX7_refusesSet : MethodName := ⟨RX7, "refusesSet", "(I)I"⟩
def dkwX7_refusesSet_1 : List UInt8 := [4, 126, 4, 160, 0, 13, 42, 28, 182, 1, 14, 153, 0, 5, 8, 172, 132, 2, 1, 167, 255, 228, 3, 172]
abbrev dktX7_refusesSet_1 : List UInt8 := dkwX7_refusesSet_1 ++ []
def dkwX7_refusesSet_0 : List UInt8 := [27, 4, 17, 0, 255, 184, 0, 118, 154, 0, 5, 5, 172, 3, 61, 28, 16, 8, 162, 0, 28, 27, 28, 122]
abbrev dktX7_refusesSet_0 : List UInt8 := dkwX7_refusesSet_0 ++ dktX7_refusesSet_1
theorem dksX7_refusesSet_0 : cX7_refusesSet.data.toList.drop 0 = dktX7_refusesSet_0 := by decide +kernel
theorem dksX7_refusesSet_1 : cX7_refusesSet.data.toList.drop 24 = dktX7_refusesSet_1 := dk_seg dksX7_refusesSet_0 24 rfl rfl
theorem dX7_refusesSet_0 : decode cX7_refusesSet 0 = .ok (.iload_n 1, 1) := dk_27 (dk_at dksX7_refusesSet_0 0 rfl rfl)
theorem dX7_refusesSet_1 : decode cX7_refusesSet 1 = .ok (.iconst 1, 1) := dk_4 (dk_at dksX7_refusesSet_0 1 rfl rfl)
theorem dX7_refusesSet_2 : decode cX7_refusesSet 2 = .ok (.sipush 255, 3) := dk_17 0 255 (dk_at dksX7_refusesSet_0 2 rfl rfl)
theorem dX7_refusesSet_5 : decode cX7_refusesSet 5 = .ok (.invokestatic 118, 3) := dk_184 0 118 (dk_at dksX7_refusesSet_0 5 rfl rfl)
theorem dX7_refusesSet_8 : decode cX7_refusesSet 8 = .ok (.ifCond .ne 5, 3) := dk_154 0 5 (dk_at dksX7_refusesSet_0 8 rfl rfl)
theorem dX7_refusesSet_11 : decode cX7_refusesSet 11 = .ok (.iconst 2, 1) := dk_5 (dk_at dksX7_refusesSet_0 11 rfl rfl)
theorem dX7_refusesSet_12 : decode cX7_refusesSet 12 = .ok (.ireturn, 1) := dk_172 (dk_at dksX7_refusesSet_0 12 rfl rfl)
theorem dX7_refusesSet_13 : decode cX7_refusesSet 13 = .ok (.iconst 0, 1) := dk_3 (dk_at dksX7_refusesSet_0 13 rfl rfl)
theorem dX7_refusesSet_14 : decode cX7_refusesSet 14 = .ok (.istore_n 2, 1) := dk_61 (dk_at dksX7_refusesSet_0 14 rfl rfl)
theorem dX7_refusesSet_15 : decode cX7_refusesSet 15 = .ok (.iload_n 2, 1) := dk_28 (dk_at dksX7_refusesSet_0 15 rfl rfl)
theorem dX7_refusesSet_16 : decode cX7_refusesSet 16 = .ok (.bipush 8, 2) := dk_16 8 (dk_at dksX7_refusesSet_0 16 rfl rfl)
theorem dX7_refusesSet_18 : decode cX7_refusesSet 18 = .ok (.if_icmp .ge 28, 3) := dk_162 0 28 (dk_at dksX7_refusesSet_0 18 rfl rfl)
theorem dX7_refusesSet_21 : decode cX7_refusesSet 21 = .ok (.iload_n 1, 1) := dk_27 (dk_at dksX7_refusesSet_0 21 rfl rfl)
theorem dX7_refusesSet_22 : decode cX7_refusesSet 22 = .ok (.iload_n 2, 1) := dk_28 (dk_at dksX7_refusesSet_0 22 rfl rfl)
theorem dX7_refusesSet_23 : decode cX7_refusesSet 23 = .ok (.ishr, 1) := dk_122 (dk_at dksX7_refusesSet_0 23 rfl rfl)
theorem dX7_refusesSet_24 : decode cX7_refusesSet 24 = .ok (.iconst 1, 1) := dk_4 (dk_at dksX7_refusesSet_1 0 rfl rfl)
theorem dX7_refusesSet_25 : decode cX7_refusesSet 25 = .ok (.iand, 1) := dk_126 (dk_at dksX7_refusesSet_1 1 rfl rfl)
theorem dX7_refusesSet_26 : decode cX7_refusesSet 26 = .ok (.iconst 1, 1) := dk_4 (dk_at dksX7_refusesSet_1 2 rfl rfl)
theorem dX7_refusesSet_27 : decode cX7_refusesSet 27 = .ok (.if_icmp .ne 13, 3) := dk_160 0 13 (dk_at dksX7_refusesSet_1 3 rfl rfl)
theorem dX7_refusesSet_30 : decode cX7_refusesSet 30 = .ok (.aload_n 0, 1) := dk_42 (dk_at dksX7_refusesSet_1 6 rfl rfl)
theorem dX7_refusesSet_31 : decode cX7_refusesSet 31 = .ok (.iload_n 2, 1) := dk_28 (dk_at dksX7_refusesSet_1 7 rfl rfl)
theorem dX7_refusesSet_32 : decode cX7_refusesSet 32 = .ok (.invokevirtual 270, 3) := dk_182 1 14 (dk_at dksX7_refusesSet_1 8 rfl rfl)
theorem dX7_refusesSet_35 : decode cX7_refusesSet 35 = .ok (.ifCond .eq 5, 3) := dk_153 0 5 (dk_at dksX7_refusesSet_1 11 rfl rfl)
theorem dX7_refusesSet_38 : decode cX7_refusesSet 38 = .ok (.iconst 5, 1) := dk_8 (dk_at dksX7_refusesSet_1 14 rfl rfl)
theorem dX7_refusesSet_39 : decode cX7_refusesSet 39 = .ok (.ireturn, 1) := dk_172 (dk_at dksX7_refusesSet_1 15 rfl rfl)
theorem dX7_refusesSet_40 : decode cX7_refusesSet 40 = .ok (.iinc 2 1, 3) := dk_132 2 1 (dk_at dksX7_refusesSet_1 16 rfl rfl)
theorem dX7_refusesSet_43 : decode cX7_refusesSet 43 = .ok (.goto (-28), 3) := dk_167 255 228 (dk_at dksX7_refusesSet_1 19 rfl rfl)
theorem dX7_refusesSet_46 : decode cX7_refusesSet 46 = .ok (.iconst 0, 1) := dk_3 (dk_at dksX7_refusesSet_1 22 rfl rfl)
theorem dX7_refusesSet_47 : decode cX7_refusesSet 47 = .ok (.ireturn, 1) := dk_172 (dk_at dksX7_refusesSet_1 23 rfl rfl)
abbrev cX7_laysRegister : ByteArray := prog_10_method_62_code
def yX7_laysRegister : MethodName := ⟨RX7, "laysRegister", "(I)V"⟩
def dkwX7_laysRegister_1 : List UInt8 := [167, 255, 234, 42, 4, 181, 1, 59, 177]
abbrev dktX7_laysRegister_1 : List UInt8 := dkwX7_laysRegister_1 ++ []
def dkwX7_laysRegister_0 : List UInt8 := [3, 61, 28, 17, 16, 0, 162, 0, 21, 42, 180, 0, 31, 28, 42, 27, 28, 182, 1, 8, 79, 132, 2, 1]
abbrev dktX7_laysRegister_0 : List UInt8 := dkwX7_laysRegister_0 ++ dktX7_laysRegister_1
theorem dksX7_laysRegister_0 : cX7_laysRegister.data.toList.drop 0 = dktX7_laysRegister_0 := by decide +kernel
theorem dksX7_laysRegister_1 : cX7_laysRegister.data.toList.drop 24 = dktX7_laysRegister_1 := dk_seg dksX7_laysRegister_0 24 rfl rfl
theorem dX7_laysRegister_0 : decode cX7_laysRegister 0 = .ok (.iconst 0, 1) := dk_3 (dk_at dksX7_laysRegister_0 0 rfl rfl)
theorem dX7_laysRegister_1 : decode cX7_laysRegister 1 = .ok (.istore_n 2, 1) := dk_61 (dk_at dksX7_laysRegister_0 1 rfl rfl)
theorem dX7_laysRegister_2 : decode cX7_laysRegister 2 = .ok (.iload_n 2, 1) := dk_28 (dk_at dksX7_laysRegister_0 2 rfl rfl)
theorem dX7_laysRegister_3 : decode cX7_laysRegister 3 = .ok (.sipush 4096, 3) := dk_17 16 0 (dk_at dksX7_laysRegister_0 3 rfl rfl)
theorem dX7_laysRegister_6 : decode cX7_laysRegister 6 = .ok (.if_icmp .ge 21, 3) := dk_162 0 21 (dk_at dksX7_laysRegister_0 6 rfl rfl)
theorem dX7_laysRegister_9 : decode cX7_laysRegister 9 = .ok (.aload_n 0, 1) := dk_42 (dk_at dksX7_laysRegister_0 9 rfl rfl)
theorem dX7_laysRegister_10 : decode cX7_laysRegister 10 = .ok (.getfield 31, 3) := dk_180 0 31 (dk_at dksX7_laysRegister_0 10 rfl rfl)
theorem dX7_laysRegister_13 : decode cX7_laysRegister 13 = .ok (.iload_n 2, 1) := dk_28 (dk_at dksX7_laysRegister_0 13 rfl rfl)
theorem dX7_laysRegister_14 : decode cX7_laysRegister 14 = .ok (.aload_n 0, 1) := dk_42 (dk_at dksX7_laysRegister_0 14 rfl rfl)
theorem dX7_laysRegister_15 : decode cX7_laysRegister 15 = .ok (.iload_n 1, 1) := dk_27 (dk_at dksX7_laysRegister_0 15 rfl rfl)
theorem dX7_laysRegister_16 : decode cX7_laysRegister 16 = .ok (.iload_n 2, 1) := dk_28 (dk_at dksX7_laysRegister_0 16 rfl rfl)
theorem dX7_laysRegister_17 : decode cX7_laysRegister 17 = .ok (.invokevirtual 264, 3) := dk_182 1 8 (dk_at dksX7_laysRegister_0 17 rfl rfl)
theorem dX7_laysRegister_20 : decode cX7_laysRegister 20 = .ok (.iastore, 1) := dk_79 (dk_at dksX7_laysRegister_0 20 rfl rfl)
theorem dX7_laysRegister_21 : decode cX7_laysRegister 21 = .ok (.iinc 2 1, 3) := dk_132 2 1 (dk_at dksX7_laysRegister_0 21 rfl rfl)
theorem dX7_laysRegister_24 : decode cX7_laysRegister 24 = .ok (.goto (-22), 3) := dk_167 255 234 (dk_at dksX7_laysRegister_1 0 rfl rfl)
theorem dX7_laysRegister_27 : decode cX7_laysRegister 27 = .ok (.aload_n 0, 1) := dk_42 (dk_at dksX7_laysRegister_1 3 rfl rfl)
theorem dX7_laysRegister_28 : decode cX7_laysRegister 28 = .ok (.iconst 1, 1) := dk_4 (dk_at dksX7_laysRegister_1 4 rfl rfl)
theorem dX7_laysRegister_29 : decode cX7_laysRegister 29 = .ok (.putfield 315, 3) := dk_181 1 59 (dk_at dksX7_laysRegister_1 5 rfl rfl)
theorem dX7_laysRegister_32 : decode cX7_laysRegister 32 = .ok (.return_, 1) := dk_177 (dk_at dksX7_laysRegister_1 8 rfl rfl)
abbrev cX7_dividesBy : ByteArray := prog_10_method_66_code
def yX7_dividesBy : MethodName := ⟨RX7, "dividesBy", "(I)Z"⟩
def dkwX7_dividesBy_10 : List UInt8 := [182, 1, 87, 182, 1, 90, 154, 255, 198, 3, 172, 4, 172]
abbrev dktX7_dividesBy_10 : List UInt8 := dkwX7_dividesBy_10 ++ []
def dkwX7_dividesBy_9 : List UInt8 := [180, 1, 75, 17, 1, 244, 159, 0, 27, 42, 42, 180, 0, 25, 28, 46, 42, 27, 42, 180, 0, 25, 28, 46]
abbrev dktX7_dividesBy_9 : List UInt8 := dkwX7_dividesBy_9 ++ dktX7_dividesBy_10
def dkwX7_dividesBy_8 : List UInt8 := [158, 0, 59, 42, 180, 0, 34, 42, 180, 0, 25, 28, 46, 46, 154, 0, 9, 132, 2, 1, 167, 255, 239, 42]
abbrev dktX7_dividesBy_8 : List UInt8 := dkwX7_dividesBy_8 ++ dktX7_dividesBy_9
def dkwX7_dividesBy_7 : List UInt8 := [182, 1, 81, 79, 132, 2, 1, 167, 255, 181, 42, 42, 180, 1, 69, 181, 1, 84, 3, 61, 42, 180, 1, 69]
abbrev dktX7_dividesBy_7 : List UInt8 := dkwX7_dividesBy_7 ++ dktX7_dividesBy_8
def dkwX7_dividesBy_6 : List UInt8 := [28, 46, 2, 160, 0, 7, 3, 167, 0, 18, 42, 42, 28, 42, 180, 0, 46, 28, 46, 182, 1, 8]
abbrev dktX7_dividesBy_6 : List UInt8 := dkwX7_dividesBy_6 ++ dktX7_dividesBy_7
def dkwX7_dividesBy_5 : List UInt8 := [126, 4, 160, 0, 11, 42, 28, 182, 1, 78, 167, 0, 4, 2, 79, 42, 180, 0, 49, 28, 42, 180, 0, 46]
abbrev dktX7_dividesBy_5 : List UInt8 := dkwX7_dividesBy_5 ++ dktX7_dividesBy_6
def dkwX7_dividesBy_4 : List UInt8 := [3, 61, 28, 16, 8, 162, 0, 75, 42, 180, 0, 43, 28, 3, 79, 42, 180, 0, 46, 28, 27, 28, 122, 4]
abbrev dktX7_dividesBy_4 : List UInt8 := dkwX7_dividesBy_4 ++ dktX7_dividesBy_5
def dkwX7_dividesBy_3 : List UInt8 := [167, 255, 204, 3, 61, 28, 18, 13, 162, 0, 16, 42, 180, 0, 40, 28, 3, 79, 132, 2, 1, 167, 255, 240]
abbrev dktX7_dividesBy_3 : List UInt8 := dkwX7_dividesBy_3 ++ dktX7_dividesBy_4
def dkwX7_dividesBy_2 : List UInt8 := [153, 0, 7, 4, 167, 0, 4, 3, 96, 181, 1, 69, 42, 180, 0, 37, 28, 3, 79, 132, 2, 1]
abbrev dktX7_dividesBy_2 : List UInt8 := dkwX7_dividesBy_2 ++ dktX7_dividesBy_3
def dkwX7_dividesBy_1 : List UInt8 := [42, 180, 0, 34, 28, 42, 180, 0, 31, 28, 46, 79, 42, 89, 180, 1, 69, 42, 180, 0, 34, 28, 46]
abbrev dktX7_dividesBy_1 : List UInt8 := dkwX7_dividesBy_1 ++ dktX7_dividesBy_2
def dkwX7_dividesBy_0 : List UInt8 := [42, 3, 181, 1, 69, 42, 3, 181, 1, 72, 42, 3, 181, 1, 75, 3, 61, 28, 17, 16, 0, 162, 0, 51]
abbrev dktX7_dividesBy_0 : List UInt8 := dkwX7_dividesBy_0 ++ dktX7_dividesBy_1
theorem dksX7_dividesBy_0 : cX7_dividesBy.data.toList.drop 0 = dktX7_dividesBy_0 := by decide +kernel
theorem dksX7_dividesBy_1 : cX7_dividesBy.data.toList.drop 24 = dktX7_dividesBy_1 := dk_seg dksX7_dividesBy_0 24 rfl rfl
theorem dksX7_dividesBy_2 : cX7_dividesBy.data.toList.drop 47 = dktX7_dividesBy_2 := dk_seg dksX7_dividesBy_1 23 rfl rfl
theorem dksX7_dividesBy_3 : cX7_dividesBy.data.toList.drop 69 = dktX7_dividesBy_3 := dk_seg dksX7_dividesBy_2 22 rfl rfl
theorem dksX7_dividesBy_4 : cX7_dividesBy.data.toList.drop 93 = dktX7_dividesBy_4 := dk_seg dksX7_dividesBy_3 24 rfl rfl
theorem dksX7_dividesBy_5 : cX7_dividesBy.data.toList.drop 117 = dktX7_dividesBy_5 := dk_seg dksX7_dividesBy_4 24 rfl rfl
theorem dksX7_dividesBy_6 : cX7_dividesBy.data.toList.drop 141 = dktX7_dividesBy_6 := dk_seg dksX7_dividesBy_5 24 rfl rfl
theorem dksX7_dividesBy_7 : cX7_dividesBy.data.toList.drop 163 = dktX7_dividesBy_7 := dk_seg dksX7_dividesBy_6 22 rfl rfl
theorem dksX7_dividesBy_8 : cX7_dividesBy.data.toList.drop 187 = dktX7_dividesBy_8 := dk_seg dksX7_dividesBy_7 24 rfl rfl
theorem dksX7_dividesBy_9 : cX7_dividesBy.data.toList.drop 211 = dktX7_dividesBy_9 := dk_seg dksX7_dividesBy_8 24 rfl rfl
theorem dksX7_dividesBy_10 : cX7_dividesBy.data.toList.drop 235 = dktX7_dividesBy_10 := dk_seg dksX7_dividesBy_9 24 rfl rfl
theorem dX7_dividesBy_0 : decode cX7_dividesBy 0 = .ok (.aload_n 0, 1) := dk_42 (dk_at dksX7_dividesBy_0 0 rfl rfl)
theorem dX7_dividesBy_1 : decode cX7_dividesBy 1 = .ok (.iconst 0, 1) := dk_3 (dk_at dksX7_dividesBy_0 1 rfl rfl)
theorem dX7_dividesBy_2 : decode cX7_dividesBy 2 = .ok (.putfield 325, 3) := dk_181 1 69 (dk_at dksX7_dividesBy_0 2 rfl rfl)
theorem dX7_dividesBy_5 : decode cX7_dividesBy 5 = .ok (.aload_n 0, 1) := dk_42 (dk_at dksX7_dividesBy_0 5 rfl rfl)
theorem dX7_dividesBy_6 : decode cX7_dividesBy 6 = .ok (.iconst 0, 1) := dk_3 (dk_at dksX7_dividesBy_0 6 rfl rfl)
theorem dX7_dividesBy_7 : decode cX7_dividesBy 7 = .ok (.putfield 328, 3) := dk_181 1 72 (dk_at dksX7_dividesBy_0 7 rfl rfl)
theorem dX7_dividesBy_10 : decode cX7_dividesBy 10 = .ok (.aload_n 0, 1) := dk_42 (dk_at dksX7_dividesBy_0 10 rfl rfl)
theorem dX7_dividesBy_11 : decode cX7_dividesBy 11 = .ok (.iconst 0, 1) := dk_3 (dk_at dksX7_dividesBy_0 11 rfl rfl)
theorem dX7_dividesBy_12 : decode cX7_dividesBy 12 = .ok (.putfield 331, 3) := dk_181 1 75 (dk_at dksX7_dividesBy_0 12 rfl rfl)
theorem dX7_dividesBy_15 : decode cX7_dividesBy 15 = .ok (.iconst 0, 1) := dk_3 (dk_at dksX7_dividesBy_0 15 rfl rfl)
theorem dX7_dividesBy_16 : decode cX7_dividesBy 16 = .ok (.istore_n 2, 1) := dk_61 (dk_at dksX7_dividesBy_0 16 rfl rfl)
theorem dX7_dividesBy_17 : decode cX7_dividesBy 17 = .ok (.iload_n 2, 1) := dk_28 (dk_at dksX7_dividesBy_0 17 rfl rfl)
theorem dX7_dividesBy_18 : decode cX7_dividesBy 18 = .ok (.sipush 4096, 3) := dk_17 16 0 (dk_at dksX7_dividesBy_0 18 rfl rfl)
theorem dX7_dividesBy_21 : decode cX7_dividesBy 21 = .ok (.if_icmp .ge 51, 3) := dk_162 0 51 (dk_at dksX7_dividesBy_0 21 rfl rfl)
theorem dX7_dividesBy_24 : decode cX7_dividesBy 24 = .ok (.aload_n 0, 1) := dk_42 (dk_at dksX7_dividesBy_1 0 rfl rfl)
theorem dX7_dividesBy_25 : decode cX7_dividesBy 25 = .ok (.getfield 34, 3) := dk_180 0 34 (dk_at dksX7_dividesBy_1 1 rfl rfl)
theorem dX7_dividesBy_28 : decode cX7_dividesBy 28 = .ok (.iload_n 2, 1) := dk_28 (dk_at dksX7_dividesBy_1 4 rfl rfl)
theorem dX7_dividesBy_29 : decode cX7_dividesBy 29 = .ok (.aload_n 0, 1) := dk_42 (dk_at dksX7_dividesBy_1 5 rfl rfl)
theorem dX7_dividesBy_30 : decode cX7_dividesBy 30 = .ok (.getfield 31, 3) := dk_180 0 31 (dk_at dksX7_dividesBy_1 6 rfl rfl)
theorem dX7_dividesBy_33 : decode cX7_dividesBy 33 = .ok (.iload_n 2, 1) := dk_28 (dk_at dksX7_dividesBy_1 9 rfl rfl)
theorem dX7_dividesBy_34 : decode cX7_dividesBy 34 = .ok (.iaload, 1) := dk_46 (dk_at dksX7_dividesBy_1 10 rfl rfl)
theorem dX7_dividesBy_35 : decode cX7_dividesBy 35 = .ok (.iastore, 1) := dk_79 (dk_at dksX7_dividesBy_1 11 rfl rfl)
theorem dX7_dividesBy_36 : decode cX7_dividesBy 36 = .ok (.aload_n 0, 1) := dk_42 (dk_at dksX7_dividesBy_1 12 rfl rfl)
theorem dX7_dividesBy_37 : decode cX7_dividesBy 37 = .ok (.dup, 1) := dk_89 (dk_at dksX7_dividesBy_1 13 rfl rfl)
theorem dX7_dividesBy_38 : decode cX7_dividesBy 38 = .ok (.getfield 325, 3) := dk_180 1 69 (dk_at dksX7_dividesBy_1 14 rfl rfl)
theorem dX7_dividesBy_41 : decode cX7_dividesBy 41 = .ok (.aload_n 0, 1) := dk_42 (dk_at dksX7_dividesBy_1 17 rfl rfl)
theorem dX7_dividesBy_42 : decode cX7_dividesBy 42 = .ok (.getfield 34, 3) := dk_180 0 34 (dk_at dksX7_dividesBy_1 18 rfl rfl)
theorem dX7_dividesBy_45 : decode cX7_dividesBy 45 = .ok (.iload_n 2, 1) := dk_28 (dk_at dksX7_dividesBy_1 21 rfl rfl)
theorem dX7_dividesBy_46 : decode cX7_dividesBy 46 = .ok (.iaload, 1) := dk_46 (dk_at dksX7_dividesBy_1 22 rfl rfl)
theorem dX7_dividesBy_47 : decode cX7_dividesBy 47 = .ok (.ifCond .eq 7, 3) := dk_153 0 7 (dk_at dksX7_dividesBy_2 0 rfl rfl)
theorem dX7_dividesBy_50 : decode cX7_dividesBy 50 = .ok (.iconst 1, 1) := dk_4 (dk_at dksX7_dividesBy_2 3 rfl rfl)
theorem dX7_dividesBy_51 : decode cX7_dividesBy 51 = .ok (.goto 4, 3) := dk_167 0 4 (dk_at dksX7_dividesBy_2 4 rfl rfl)
theorem dX7_dividesBy_54 : decode cX7_dividesBy 54 = .ok (.iconst 0, 1) := dk_3 (dk_at dksX7_dividesBy_2 7 rfl rfl)
theorem dX7_dividesBy_55 : decode cX7_dividesBy 55 = .ok (.iadd, 1) := dk_96 (dk_at dksX7_dividesBy_2 8 rfl rfl)
theorem dX7_dividesBy_56 : decode cX7_dividesBy 56 = .ok (.putfield 325, 3) := dk_181 1 69 (dk_at dksX7_dividesBy_2 9 rfl rfl)
theorem dX7_dividesBy_59 : decode cX7_dividesBy 59 = .ok (.aload_n 0, 1) := dk_42 (dk_at dksX7_dividesBy_2 12 rfl rfl)
theorem dX7_dividesBy_60 : decode cX7_dividesBy 60 = .ok (.getfield 37, 3) := dk_180 0 37 (dk_at dksX7_dividesBy_2 13 rfl rfl)
theorem dX7_dividesBy_63 : decode cX7_dividesBy 63 = .ok (.iload_n 2, 1) := dk_28 (dk_at dksX7_dividesBy_2 16 rfl rfl)
theorem dX7_dividesBy_64 : decode cX7_dividesBy 64 = .ok (.iconst 0, 1) := dk_3 (dk_at dksX7_dividesBy_2 17 rfl rfl)
theorem dX7_dividesBy_65 : decode cX7_dividesBy 65 = .ok (.iastore, 1) := dk_79 (dk_at dksX7_dividesBy_2 18 rfl rfl)
theorem dX7_dividesBy_66 : decode cX7_dividesBy 66 = .ok (.iinc 2 1, 3) := dk_132 2 1 (dk_at dksX7_dividesBy_2 19 rfl rfl)
theorem dX7_dividesBy_69 : decode cX7_dividesBy 69 = .ok (.goto (-52), 3) := dk_167 255 204 (dk_at dksX7_dividesBy_3 0 rfl rfl)
theorem dX7_dividesBy_72 : decode cX7_dividesBy 72 = .ok (.iconst 0, 1) := dk_3 (dk_at dksX7_dividesBy_3 3 rfl rfl)
theorem dX7_dividesBy_73 : decode cX7_dividesBy 73 = .ok (.istore_n 2, 1) := dk_61 (dk_at dksX7_dividesBy_3 4 rfl rfl)
theorem dX7_dividesBy_74 : decode cX7_dividesBy 74 = .ok (.iload_n 2, 1) := dk_28 (dk_at dksX7_dividesBy_3 5 rfl rfl)
theorem dX7_dividesBy_75 : decode cX7_dividesBy 75 = .ok (.ldc 13, 2) := dk_18 13 (dk_at dksX7_dividesBy_3 6 rfl rfl)
theorem dX7_dividesBy_77 : decode cX7_dividesBy 77 = .ok (.if_icmp .ge 16, 3) := dk_162 0 16 (dk_at dksX7_dividesBy_3 8 rfl rfl)
theorem dX7_dividesBy_80 : decode cX7_dividesBy 80 = .ok (.aload_n 0, 1) := dk_42 (dk_at dksX7_dividesBy_3 11 rfl rfl)
theorem dX7_dividesBy_81 : decode cX7_dividesBy 81 = .ok (.getfield 40, 3) := dk_180 0 40 (dk_at dksX7_dividesBy_3 12 rfl rfl)
theorem dX7_dividesBy_84 : decode cX7_dividesBy 84 = .ok (.iload_n 2, 1) := dk_28 (dk_at dksX7_dividesBy_3 15 rfl rfl)
theorem dX7_dividesBy_85 : decode cX7_dividesBy 85 = .ok (.iconst 0, 1) := dk_3 (dk_at dksX7_dividesBy_3 16 rfl rfl)
theorem dX7_dividesBy_86 : decode cX7_dividesBy 86 = .ok (.iastore, 1) := dk_79 (dk_at dksX7_dividesBy_3 17 rfl rfl)
theorem dX7_dividesBy_87 : decode cX7_dividesBy 87 = .ok (.iinc 2 1, 3) := dk_132 2 1 (dk_at dksX7_dividesBy_3 18 rfl rfl)
theorem dX7_dividesBy_90 : decode cX7_dividesBy 90 = .ok (.goto (-16), 3) := dk_167 255 240 (dk_at dksX7_dividesBy_3 21 rfl rfl)
theorem dX7_dividesBy_93 : decode cX7_dividesBy 93 = .ok (.iconst 0, 1) := dk_3 (dk_at dksX7_dividesBy_4 0 rfl rfl)
theorem dX7_dividesBy_94 : decode cX7_dividesBy 94 = .ok (.istore_n 2, 1) := dk_61 (dk_at dksX7_dividesBy_4 1 rfl rfl)
theorem dX7_dividesBy_95 : decode cX7_dividesBy 95 = .ok (.iload_n 2, 1) := dk_28 (dk_at dksX7_dividesBy_4 2 rfl rfl)
theorem dX7_dividesBy_96 : decode cX7_dividesBy 96 = .ok (.bipush 8, 2) := dk_16 8 (dk_at dksX7_dividesBy_4 3 rfl rfl)
theorem dX7_dividesBy_98 : decode cX7_dividesBy 98 = .ok (.if_icmp .ge 75, 3) := dk_162 0 75 (dk_at dksX7_dividesBy_4 5 rfl rfl)
theorem dX7_dividesBy_101 : decode cX7_dividesBy 101 = .ok (.aload_n 0, 1) := dk_42 (dk_at dksX7_dividesBy_4 8 rfl rfl)
theorem dX7_dividesBy_102 : decode cX7_dividesBy 102 = .ok (.getfield 43, 3) := dk_180 0 43 (dk_at dksX7_dividesBy_4 9 rfl rfl)
theorem dX7_dividesBy_105 : decode cX7_dividesBy 105 = .ok (.iload_n 2, 1) := dk_28 (dk_at dksX7_dividesBy_4 12 rfl rfl)
theorem dX7_dividesBy_106 : decode cX7_dividesBy 106 = .ok (.iconst 0, 1) := dk_3 (dk_at dksX7_dividesBy_4 13 rfl rfl)
theorem dX7_dividesBy_107 : decode cX7_dividesBy 107 = .ok (.iastore, 1) := dk_79 (dk_at dksX7_dividesBy_4 14 rfl rfl)
theorem dX7_dividesBy_108 : decode cX7_dividesBy 108 = .ok (.aload_n 0, 1) := dk_42 (dk_at dksX7_dividesBy_4 15 rfl rfl)
theorem dX7_dividesBy_109 : decode cX7_dividesBy 109 = .ok (.getfield 46, 3) := dk_180 0 46 (dk_at dksX7_dividesBy_4 16 rfl rfl)
theorem dX7_dividesBy_112 : decode cX7_dividesBy 112 = .ok (.iload_n 2, 1) := dk_28 (dk_at dksX7_dividesBy_4 19 rfl rfl)
theorem dX7_dividesBy_113 : decode cX7_dividesBy 113 = .ok (.iload_n 1, 1) := dk_27 (dk_at dksX7_dividesBy_4 20 rfl rfl)
theorem dX7_dividesBy_114 : decode cX7_dividesBy 114 = .ok (.iload_n 2, 1) := dk_28 (dk_at dksX7_dividesBy_4 21 rfl rfl)
theorem dX7_dividesBy_115 : decode cX7_dividesBy 115 = .ok (.ishr, 1) := dk_122 (dk_at dksX7_dividesBy_4 22 rfl rfl)
theorem dX7_dividesBy_116 : decode cX7_dividesBy 116 = .ok (.iconst 1, 1) := dk_4 (dk_at dksX7_dividesBy_4 23 rfl rfl)
theorem dX7_dividesBy_117 : decode cX7_dividesBy 117 = .ok (.iand, 1) := dk_126 (dk_at dksX7_dividesBy_5 0 rfl rfl)
theorem dX7_dividesBy_118 : decode cX7_dividesBy 118 = .ok (.iconst 1, 1) := dk_4 (dk_at dksX7_dividesBy_5 1 rfl rfl)
theorem dX7_dividesBy_119 : decode cX7_dividesBy 119 = .ok (.if_icmp .ne 11, 3) := dk_160 0 11 (dk_at dksX7_dividesBy_5 2 rfl rfl)
theorem dX7_dividesBy_122 : decode cX7_dividesBy 122 = .ok (.aload_n 0, 1) := dk_42 (dk_at dksX7_dividesBy_5 5 rfl rfl)
theorem dX7_dividesBy_123 : decode cX7_dividesBy 123 = .ok (.iload_n 2, 1) := dk_28 (dk_at dksX7_dividesBy_5 6 rfl rfl)
theorem dX7_dividesBy_124 : decode cX7_dividesBy 124 = .ok (.invokevirtual 334, 3) := dk_182 1 78 (dk_at dksX7_dividesBy_5 7 rfl rfl)
theorem dX7_dividesBy_127 : decode cX7_dividesBy 127 = .ok (.goto 4, 3) := dk_167 0 4 (dk_at dksX7_dividesBy_5 10 rfl rfl)
theorem dX7_dividesBy_130 : decode cX7_dividesBy 130 = .ok (.iconst (-1), 1) := dk_2 (dk_at dksX7_dividesBy_5 13 rfl rfl)
theorem dX7_dividesBy_131 : decode cX7_dividesBy 131 = .ok (.iastore, 1) := dk_79 (dk_at dksX7_dividesBy_5 14 rfl rfl)
theorem dX7_dividesBy_132 : decode cX7_dividesBy 132 = .ok (.aload_n 0, 1) := dk_42 (dk_at dksX7_dividesBy_5 15 rfl rfl)
theorem dX7_dividesBy_133 : decode cX7_dividesBy 133 = .ok (.getfield 49, 3) := dk_180 0 49 (dk_at dksX7_dividesBy_5 16 rfl rfl)
theorem dX7_dividesBy_136 : decode cX7_dividesBy 136 = .ok (.iload_n 2, 1) := dk_28 (dk_at dksX7_dividesBy_5 19 rfl rfl)
theorem dX7_dividesBy_137 : decode cX7_dividesBy 137 = .ok (.aload_n 0, 1) := dk_42 (dk_at dksX7_dividesBy_5 20 rfl rfl)
theorem dX7_dividesBy_138 : decode cX7_dividesBy 138 = .ok (.getfield 46, 3) := dk_180 0 46 (dk_at dksX7_dividesBy_5 21 rfl rfl)
theorem dX7_dividesBy_141 : decode cX7_dividesBy 141 = .ok (.iload_n 2, 1) := dk_28 (dk_at dksX7_dividesBy_6 0 rfl rfl)
theorem dX7_dividesBy_142 : decode cX7_dividesBy 142 = .ok (.iaload, 1) := dk_46 (dk_at dksX7_dividesBy_6 1 rfl rfl)
theorem dX7_dividesBy_143 : decode cX7_dividesBy 143 = .ok (.iconst (-1), 1) := dk_2 (dk_at dksX7_dividesBy_6 2 rfl rfl)
theorem dX7_dividesBy_144 : decode cX7_dividesBy 144 = .ok (.if_icmp .ne 7, 3) := dk_160 0 7 (dk_at dksX7_dividesBy_6 3 rfl rfl)
theorem dX7_dividesBy_147 : decode cX7_dividesBy 147 = .ok (.iconst 0, 1) := dk_3 (dk_at dksX7_dividesBy_6 6 rfl rfl)
theorem dX7_dividesBy_148 : decode cX7_dividesBy 148 = .ok (.goto 18, 3) := dk_167 0 18 (dk_at dksX7_dividesBy_6 7 rfl rfl)
theorem dX7_dividesBy_151 : decode cX7_dividesBy 151 = .ok (.aload_n 0, 1) := dk_42 (dk_at dksX7_dividesBy_6 10 rfl rfl)
theorem dX7_dividesBy_152 : decode cX7_dividesBy 152 = .ok (.aload_n 0, 1) := dk_42 (dk_at dksX7_dividesBy_6 11 rfl rfl)
theorem dX7_dividesBy_153 : decode cX7_dividesBy 153 = .ok (.iload_n 2, 1) := dk_28 (dk_at dksX7_dividesBy_6 12 rfl rfl)
theorem dX7_dividesBy_154 : decode cX7_dividesBy 154 = .ok (.aload_n 0, 1) := dk_42 (dk_at dksX7_dividesBy_6 13 rfl rfl)
theorem dX7_dividesBy_155 : decode cX7_dividesBy 155 = .ok (.getfield 46, 3) := dk_180 0 46 (dk_at dksX7_dividesBy_6 14 rfl rfl)
theorem dX7_dividesBy_158 : decode cX7_dividesBy 158 = .ok (.iload_n 2, 1) := dk_28 (dk_at dksX7_dividesBy_6 17 rfl rfl)
theorem dX7_dividesBy_159 : decode cX7_dividesBy 159 = .ok (.iaload, 1) := dk_46 (dk_at dksX7_dividesBy_6 18 rfl rfl)
theorem dX7_dividesBy_160 : decode cX7_dividesBy 160 = .ok (.invokevirtual 264, 3) := dk_182 1 8 (dk_at dksX7_dividesBy_6 19 rfl rfl)
theorem dX7_dividesBy_163 : decode cX7_dividesBy 163 = .ok (.invokevirtual 337, 3) := dk_182 1 81 (dk_at dksX7_dividesBy_7 0 rfl rfl)
theorem dX7_dividesBy_166 : decode cX7_dividesBy 166 = .ok (.iastore, 1) := dk_79 (dk_at dksX7_dividesBy_7 3 rfl rfl)
theorem dX7_dividesBy_167 : decode cX7_dividesBy 167 = .ok (.iinc 2 1, 3) := dk_132 2 1 (dk_at dksX7_dividesBy_7 4 rfl rfl)
theorem dX7_dividesBy_170 : decode cX7_dividesBy 170 = .ok (.goto (-75), 3) := dk_167 255 181 (dk_at dksX7_dividesBy_7 7 rfl rfl)
theorem dX7_dividesBy_173 : decode cX7_dividesBy 173 = .ok (.aload_n 0, 1) := dk_42 (dk_at dksX7_dividesBy_7 10 rfl rfl)
theorem dX7_dividesBy_174 : decode cX7_dividesBy 174 = .ok (.aload_n 0, 1) := dk_42 (dk_at dksX7_dividesBy_7 11 rfl rfl)
theorem dX7_dividesBy_175 : decode cX7_dividesBy 175 = .ok (.getfield 325, 3) := dk_180 1 69 (dk_at dksX7_dividesBy_7 12 rfl rfl)
theorem dX7_dividesBy_178 : decode cX7_dividesBy 178 = .ok (.putfield 340, 3) := dk_181 1 84 (dk_at dksX7_dividesBy_7 15 rfl rfl)
theorem dX7_dividesBy_181 : decode cX7_dividesBy 181 = .ok (.iconst 0, 1) := dk_3 (dk_at dksX7_dividesBy_7 18 rfl rfl)
theorem dX7_dividesBy_182 : decode cX7_dividesBy 182 = .ok (.istore_n 2, 1) := dk_61 (dk_at dksX7_dividesBy_7 19 rfl rfl)
theorem dX7_dividesBy_183 : decode cX7_dividesBy 183 = .ok (.aload_n 0, 1) := dk_42 (dk_at dksX7_dividesBy_7 20 rfl rfl)
theorem dX7_dividesBy_184 : decode cX7_dividesBy 184 = .ok (.getfield 325, 3) := dk_180 1 69 (dk_at dksX7_dividesBy_7 21 rfl rfl)
theorem dX7_dividesBy_187 : decode cX7_dividesBy 187 = .ok (.ifCond .le 59, 3) := dk_158 0 59 (dk_at dksX7_dividesBy_8 0 rfl rfl)
theorem dX7_dividesBy_190 : decode cX7_dividesBy 190 = .ok (.aload_n 0, 1) := dk_42 (dk_at dksX7_dividesBy_8 3 rfl rfl)
theorem dX7_dividesBy_191 : decode cX7_dividesBy 191 = .ok (.getfield 34, 3) := dk_180 0 34 (dk_at dksX7_dividesBy_8 4 rfl rfl)
theorem dX7_dividesBy_194 : decode cX7_dividesBy 194 = .ok (.aload_n 0, 1) := dk_42 (dk_at dksX7_dividesBy_8 7 rfl rfl)
theorem dX7_dividesBy_195 : decode cX7_dividesBy 195 = .ok (.getfield 25, 3) := dk_180 0 25 (dk_at dksX7_dividesBy_8 8 rfl rfl)
theorem dX7_dividesBy_198 : decode cX7_dividesBy 198 = .ok (.iload_n 2, 1) := dk_28 (dk_at dksX7_dividesBy_8 11 rfl rfl)
theorem dX7_dividesBy_199 : decode cX7_dividesBy 199 = .ok (.iaload, 1) := dk_46 (dk_at dksX7_dividesBy_8 12 rfl rfl)
theorem dX7_dividesBy_200 : decode cX7_dividesBy 200 = .ok (.iaload, 1) := dk_46 (dk_at dksX7_dividesBy_8 13 rfl rfl)
theorem dX7_dividesBy_201 : decode cX7_dividesBy 201 = .ok (.ifCond .ne 9, 3) := dk_154 0 9 (dk_at dksX7_dividesBy_8 14 rfl rfl)
theorem dX7_dividesBy_204 : decode cX7_dividesBy 204 = .ok (.iinc 2 1, 3) := dk_132 2 1 (dk_at dksX7_dividesBy_8 17 rfl rfl)
theorem dX7_dividesBy_207 : decode cX7_dividesBy 207 = .ok (.goto (-17), 3) := dk_167 255 239 (dk_at dksX7_dividesBy_8 20 rfl rfl)
theorem dX7_dividesBy_210 : decode cX7_dividesBy 210 = .ok (.aload_n 0, 1) := dk_42 (dk_at dksX7_dividesBy_8 23 rfl rfl)
theorem dX7_dividesBy_211 : decode cX7_dividesBy 211 = .ok (.getfield 331, 3) := dk_180 1 75 (dk_at dksX7_dividesBy_9 0 rfl rfl)
theorem dX7_dividesBy_214 : decode cX7_dividesBy 214 = .ok (.sipush 500, 3) := dk_17 1 244 (dk_at dksX7_dividesBy_9 3 rfl rfl)
theorem dX7_dividesBy_217 : decode cX7_dividesBy 217 = .ok (.if_icmp .eq 27, 3) := dk_159 0 27 (dk_at dksX7_dividesBy_9 6 rfl rfl)
theorem dX7_dividesBy_220 : decode cX7_dividesBy 220 = .ok (.aload_n 0, 1) := dk_42 (dk_at dksX7_dividesBy_9 9 rfl rfl)
theorem dX7_dividesBy_221 : decode cX7_dividesBy 221 = .ok (.aload_n 0, 1) := dk_42 (dk_at dksX7_dividesBy_9 10 rfl rfl)
theorem dX7_dividesBy_222 : decode cX7_dividesBy 222 = .ok (.getfield 25, 3) := dk_180 0 25 (dk_at dksX7_dividesBy_9 11 rfl rfl)
theorem dX7_dividesBy_225 : decode cX7_dividesBy 225 = .ok (.iload_n 2, 1) := dk_28 (dk_at dksX7_dividesBy_9 14 rfl rfl)
theorem dX7_dividesBy_226 : decode cX7_dividesBy 226 = .ok (.iaload, 1) := dk_46 (dk_at dksX7_dividesBy_9 15 rfl rfl)
theorem dX7_dividesBy_227 : decode cX7_dividesBy 227 = .ok (.aload_n 0, 1) := dk_42 (dk_at dksX7_dividesBy_9 16 rfl rfl)
theorem dX7_dividesBy_228 : decode cX7_dividesBy 228 = .ok (.iload_n 1, 1) := dk_27 (dk_at dksX7_dividesBy_9 17 rfl rfl)
theorem dX7_dividesBy_229 : decode cX7_dividesBy 229 = .ok (.aload_n 0, 1) := dk_42 (dk_at dksX7_dividesBy_9 18 rfl rfl)
theorem dX7_dividesBy_230 : decode cX7_dividesBy 230 = .ok (.getfield 25, 3) := dk_180 0 25 (dk_at dksX7_dividesBy_9 19 rfl rfl)
theorem dX7_dividesBy_233 : decode cX7_dividesBy 233 = .ok (.iload_n 2, 1) := dk_28 (dk_at dksX7_dividesBy_9 22 rfl rfl)
theorem dX7_dividesBy_234 : decode cX7_dividesBy 234 = .ok (.iaload, 1) := dk_46 (dk_at dksX7_dividesBy_9 23 rfl rfl)
theorem dX7_dividesBy_235 : decode cX7_dividesBy 235 = .ok (.invokevirtual 343, 3) := dk_182 1 87 (dk_at dksX7_dividesBy_10 0 rfl rfl)
theorem dX7_dividesBy_238 : decode cX7_dividesBy 238 = .ok (.invokevirtual 346, 3) := dk_182 1 90 (dk_at dksX7_dividesBy_10 3 rfl rfl)
theorem dX7_dividesBy_241 : decode cX7_dividesBy 241 = .ok (.ifCond .ne (-58), 3) := dk_154 255 198 (dk_at dksX7_dividesBy_10 6 rfl rfl)
theorem dX7_dividesBy_244 : decode cX7_dividesBy 244 = .ok (.iconst 0, 1) := dk_3 (dk_at dksX7_dividesBy_10 9 rfl rfl)
theorem dX7_dividesBy_245 : decode cX7_dividesBy 245 = .ok (.ireturn, 1) := dk_172 (dk_at dksX7_dividesBy_10 10 rfl rfl)
theorem dX7_dividesBy_246 : decode cX7_dividesBy 246 = .ok (.iconst 1, 1) := dk_4 (dk_at dksX7_dividesBy_10 11 rfl rfl)
theorem dX7_dividesBy_247 : decode cX7_dividesBy 247 = .ok (.ireturn, 1) := dk_172 (dk_at dksX7_dividesBy_10 12 rfl rfl)
abbrev cX7_leadOf : ByteArray := prog_10_method_39_code
def yX7_leadOf : MethodName := ⟨RX7, "leadOf", "(I)I"⟩
def dkwX7_leadOf_1 : List UInt8 := [180, 0, 25, 28, 46, 172, 132, 2, 1, 167, 255, 225, 2, 172]
abbrev dktX7_leadOf_1 : List UInt8 := dkwX7_leadOf_1 ++ []
def dkwX7_leadOf_0 : List UInt8 := [3, 61, 28, 17, 16, 0, 162, 0, 30, 42, 27, 42, 180, 0, 25, 28, 46, 182, 1, 8, 153, 0, 10, 42]
abbrev dktX7_leadOf_0 : List UInt8 := dkwX7_leadOf_0 ++ dktX7_leadOf_1
theorem dksX7_leadOf_0 : cX7_leadOf.data.toList.drop 0 = dktX7_leadOf_0 := by decide +kernel
theorem dksX7_leadOf_1 : cX7_leadOf.data.toList.drop 24 = dktX7_leadOf_1 := dk_seg dksX7_leadOf_0 24 rfl rfl
theorem dX7_leadOf_0 : decode cX7_leadOf 0 = .ok (.iconst 0, 1) := dk_3 (dk_at dksX7_leadOf_0 0 rfl rfl)
theorem dX7_leadOf_1 : decode cX7_leadOf 1 = .ok (.istore_n 2, 1) := dk_61 (dk_at dksX7_leadOf_0 1 rfl rfl)
theorem dX7_leadOf_2 : decode cX7_leadOf 2 = .ok (.iload_n 2, 1) := dk_28 (dk_at dksX7_leadOf_0 2 rfl rfl)
theorem dX7_leadOf_3 : decode cX7_leadOf 3 = .ok (.sipush 4096, 3) := dk_17 16 0 (dk_at dksX7_leadOf_0 3 rfl rfl)
theorem dX7_leadOf_6 : decode cX7_leadOf 6 = .ok (.if_icmp .ge 30, 3) := dk_162 0 30 (dk_at dksX7_leadOf_0 6 rfl rfl)
theorem dX7_leadOf_9 : decode cX7_leadOf 9 = .ok (.aload_n 0, 1) := dk_42 (dk_at dksX7_leadOf_0 9 rfl rfl)
theorem dX7_leadOf_10 : decode cX7_leadOf 10 = .ok (.iload_n 1, 1) := dk_27 (dk_at dksX7_leadOf_0 10 rfl rfl)
theorem dX7_leadOf_11 : decode cX7_leadOf 11 = .ok (.aload_n 0, 1) := dk_42 (dk_at dksX7_leadOf_0 11 rfl rfl)
theorem dX7_leadOf_12 : decode cX7_leadOf 12 = .ok (.getfield 25, 3) := dk_180 0 25 (dk_at dksX7_leadOf_0 12 rfl rfl)
theorem dX7_leadOf_15 : decode cX7_leadOf 15 = .ok (.iload_n 2, 1) := dk_28 (dk_at dksX7_leadOf_0 15 rfl rfl)
theorem dX7_leadOf_16 : decode cX7_leadOf 16 = .ok (.iaload, 1) := dk_46 (dk_at dksX7_leadOf_0 16 rfl rfl)
theorem dX7_leadOf_17 : decode cX7_leadOf 17 = .ok (.invokevirtual 264, 3) := dk_182 1 8 (dk_at dksX7_leadOf_0 17 rfl rfl)
theorem dX7_leadOf_20 : decode cX7_leadOf 20 = .ok (.ifCond .eq 10, 3) := dk_153 0 10 (dk_at dksX7_leadOf_0 20 rfl rfl)
theorem dX7_leadOf_23 : decode cX7_leadOf 23 = .ok (.aload_n 0, 1) := dk_42 (dk_at dksX7_leadOf_0 23 rfl rfl)
theorem dX7_leadOf_24 : decode cX7_leadOf 24 = .ok (.getfield 25, 3) := dk_180 0 25 (dk_at dksX7_leadOf_1 0 rfl rfl)
theorem dX7_leadOf_27 : decode cX7_leadOf 27 = .ok (.iload_n 2, 1) := dk_28 (dk_at dksX7_leadOf_1 3 rfl rfl)
theorem dX7_leadOf_28 : decode cX7_leadOf 28 = .ok (.iaload, 1) := dk_46 (dk_at dksX7_leadOf_1 4 rfl rfl)
theorem dX7_leadOf_29 : decode cX7_leadOf 29 = .ok (.ireturn, 1) := dk_172 (dk_at dksX7_leadOf_1 5 rfl rfl)
theorem dX7_leadOf_30 : decode cX7_leadOf 30 = .ok (.iinc 2 1, 3) := dk_132 2 1 (dk_at dksX7_leadOf_1 6 rfl rfl)
theorem dX7_leadOf_33 : decode cX7_leadOf 33 = .ok (.goto (-31), 3) := dk_167 255 225 (dk_at dksX7_leadOf_1 9 rfl rfl)
theorem dX7_leadOf_36 : decode cX7_leadOf 36 = .ok (.iconst (-1), 1) := dk_2 (dk_at dksX7_leadOf_1 12 rfl rfl)
theorem dX7_leadOf_37 : decode cX7_leadOf 37 = .ok (.ireturn, 1) := dk_172 (dk_at dksX7_leadOf_1 13 rfl rfl)
abbrev cX7_inverse : ByteArray := prog_10_method_61_code
def yX7_inverse : MethodName := ⟨RX7, "inverse", "(I)I"⟩
def dkwX7_inverse_0 : List UInt8 := [4, 61, 28, 27, 104, 42, 180, 0, 231, 112, 4, 159, 0, 9, 132, 2, 1, 167, 255, 241, 28, 172]
abbrev dktX7_inverse_0 : List UInt8 := dkwX7_inverse_0 ++ []
theorem dksX7_inverse_0 : cX7_inverse.data.toList.drop 0 = dktX7_inverse_0 := by decide +kernel
theorem dX7_inverse_0 : decode cX7_inverse 0 = .ok (.iconst 1, 1) := dk_4 (dk_at dksX7_inverse_0 0 rfl rfl)
theorem dX7_inverse_1 : decode cX7_inverse 1 = .ok (.istore_n 2, 1) := dk_61 (dk_at dksX7_inverse_0 1 rfl rfl)
theorem dX7_inverse_2 : decode cX7_inverse 2 = .ok (.iload_n 2, 1) := dk_28 (dk_at dksX7_inverse_0 2 rfl rfl)
theorem dX7_inverse_3 : decode cX7_inverse 3 = .ok (.iload_n 1, 1) := dk_27 (dk_at dksX7_inverse_0 3 rfl rfl)
theorem dX7_inverse_4 : decode cX7_inverse 4 = .ok (.imul, 1) := dk_104 (dk_at dksX7_inverse_0 4 rfl rfl)
theorem dX7_inverse_5 : decode cX7_inverse 5 = .ok (.aload_n 0, 1) := dk_42 (dk_at dksX7_inverse_0 5 rfl rfl)
theorem dX7_inverse_6 : decode cX7_inverse 6 = .ok (.getfield 231, 3) := dk_180 0 231 (dk_at dksX7_inverse_0 6 rfl rfl)
theorem dX7_inverse_9 : decode cX7_inverse 9 = .ok (.irem, 1) := dk_112 (dk_at dksX7_inverse_0 9 rfl rfl)
theorem dX7_inverse_10 : decode cX7_inverse 10 = .ok (.iconst 1, 1) := dk_4 (dk_at dksX7_inverse_0 10 rfl rfl)
theorem dX7_inverse_11 : decode cX7_inverse 11 = .ok (.if_icmp .eq 9, 3) := dk_159 0 9 (dk_at dksX7_inverse_0 11 rfl rfl)
theorem dX7_inverse_14 : decode cX7_inverse 14 = .ok (.iinc 2 1, 3) := dk_132 2 1 (dk_at dksX7_inverse_0 14 rfl rfl)
theorem dX7_inverse_17 : decode cX7_inverse 17 = .ok (.goto (-15), 3) := dk_167 255 241 (dk_at dksX7_inverse_0 17 rfl rfl)
theorem dX7_inverse_20 : decode cX7_inverse 20 = .ok (.iload_n 2, 1) := dk_28 (dk_at dksX7_inverse_0 20 rfl rfl)
theorem dX7_inverse_21 : decode cX7_inverse 21 = .ok (.ireturn, 1) := dk_172 (dk_at dksX7_inverse_0 21 rfl rfl)
abbrev cX7_divisorOf : ByteArray := prog_10_method_65_code
def yX7_divisorOf : MethodName := ⟨RX7, "divisorOf", "(II)I"⟩
def dkwX7_divisorOf_1 : List UInt8 := [184, 1, 65, 153, 0, 5, 29, 172, 132, 3, 1, 167, 255, 223, 2, 172]
abbrev dktX7_divisorOf_1 : List UInt8 := dkwX7_divisorOf_1 ++ []
def dkwX7_divisorOf_0 : List UInt8 := [3, 62, 29, 16, 8, 162, 0, 33, 27, 29, 122, 4, 126, 4, 160, 0, 18, 42, 180, 0, 46, 29, 46, 28]
abbrev dktX7_divisorOf_0 : List UInt8 := dkwX7_divisorOf_0 ++ dktX7_divisorOf_1
theorem dksX7_divisorOf_0 : cX7_divisorOf.data.toList.drop 0 = dktX7_divisorOf_0 := by decide +kernel
theorem dksX7_divisorOf_1 : cX7_divisorOf.data.toList.drop 24 = dktX7_divisorOf_1 := dk_seg dksX7_divisorOf_0 24 rfl rfl
theorem dX7_divisorOf_0 : decode cX7_divisorOf 0 = .ok (.iconst 0, 1) := dk_3 (dk_at dksX7_divisorOf_0 0 rfl rfl)
theorem dX7_divisorOf_1 : decode cX7_divisorOf 1 = .ok (.istore_n 3, 1) := dk_62 (dk_at dksX7_divisorOf_0 1 rfl rfl)
theorem dX7_divisorOf_2 : decode cX7_divisorOf 2 = .ok (.iload_n 3, 1) := dk_29 (dk_at dksX7_divisorOf_0 2 rfl rfl)
theorem dX7_divisorOf_3 : decode cX7_divisorOf 3 = .ok (.bipush 8, 2) := dk_16 8 (dk_at dksX7_divisorOf_0 3 rfl rfl)
theorem dX7_divisorOf_5 : decode cX7_divisorOf 5 = .ok (.if_icmp .ge 33, 3) := dk_162 0 33 (dk_at dksX7_divisorOf_0 5 rfl rfl)
theorem dX7_divisorOf_8 : decode cX7_divisorOf 8 = .ok (.iload_n 1, 1) := dk_27 (dk_at dksX7_divisorOf_0 8 rfl rfl)
theorem dX7_divisorOf_9 : decode cX7_divisorOf 9 = .ok (.iload_n 3, 1) := dk_29 (dk_at dksX7_divisorOf_0 9 rfl rfl)
theorem dX7_divisorOf_10 : decode cX7_divisorOf 10 = .ok (.ishr, 1) := dk_122 (dk_at dksX7_divisorOf_0 10 rfl rfl)
theorem dX7_divisorOf_11 : decode cX7_divisorOf 11 = .ok (.iconst 1, 1) := dk_4 (dk_at dksX7_divisorOf_0 11 rfl rfl)
theorem dX7_divisorOf_12 : decode cX7_divisorOf 12 = .ok (.iand, 1) := dk_126 (dk_at dksX7_divisorOf_0 12 rfl rfl)
theorem dX7_divisorOf_13 : decode cX7_divisorOf 13 = .ok (.iconst 1, 1) := dk_4 (dk_at dksX7_divisorOf_0 13 rfl rfl)
theorem dX7_divisorOf_14 : decode cX7_divisorOf 14 = .ok (.if_icmp .ne 18, 3) := dk_160 0 18 (dk_at dksX7_divisorOf_0 14 rfl rfl)
theorem dX7_divisorOf_17 : decode cX7_divisorOf 17 = .ok (.aload_n 0, 1) := dk_42 (dk_at dksX7_divisorOf_0 17 rfl rfl)
theorem dX7_divisorOf_18 : decode cX7_divisorOf 18 = .ok (.getfield 46, 3) := dk_180 0 46 (dk_at dksX7_divisorOf_0 18 rfl rfl)
theorem dX7_divisorOf_21 : decode cX7_divisorOf 21 = .ok (.iload_n 3, 1) := dk_29 (dk_at dksX7_divisorOf_0 21 rfl rfl)
theorem dX7_divisorOf_22 : decode cX7_divisorOf 22 = .ok (.iaload, 1) := dk_46 (dk_at dksX7_divisorOf_0 22 rfl rfl)
theorem dX7_divisorOf_23 : decode cX7_divisorOf 23 = .ok (.iload_n 2, 1) := dk_28 (dk_at dksX7_divisorOf_0 23 rfl rfl)
theorem dX7_divisorOf_24 : decode cX7_divisorOf 24 = .ok (.invokestatic 321, 3) := dk_184 1 65 (dk_at dksX7_divisorOf_1 0 rfl rfl)
theorem dX7_divisorOf_27 : decode cX7_divisorOf 27 = .ok (.ifCond .eq 5, 3) := dk_153 0 5 (dk_at dksX7_divisorOf_1 3 rfl rfl)
theorem dX7_divisorOf_30 : decode cX7_divisorOf 30 = .ok (.iload_n 3, 1) := dk_29 (dk_at dksX7_divisorOf_1 6 rfl rfl)
theorem dX7_divisorOf_31 : decode cX7_divisorOf 31 = .ok (.ireturn, 1) := dk_172 (dk_at dksX7_divisorOf_1 7 rfl rfl)
theorem dX7_divisorOf_32 : decode cX7_divisorOf 32 = .ok (.iinc 3 1, 3) := dk_132 3 1 (dk_at dksX7_divisorOf_1 8 rfl rfl)
theorem dX7_divisorOf_35 : decode cX7_divisorOf 35 = .ok (.goto (-33), 3) := dk_167 255 223 (dk_at dksX7_divisorOf_1 11 rfl rfl)
theorem dX7_divisorOf_38 : decode cX7_divisorOf 38 = .ok (.iconst (-1), 1) := dk_2 (dk_at dksX7_divisorOf_1 14 rfl rfl)
theorem dX7_divisorOf_39 : decode cX7_divisorOf 39 = .ok (.ireturn, 1) := dk_172 (dk_at dksX7_divisorOf_1 15 rfl rfl)
abbrev cX7_isUnder : ByteArray := prog_10_method_63_code
def yX7_isUnder : MethodName := ⟨RX7, "isUnder", "(II)Z"⟩
def dkwX7_isUnder_1 : List UInt8 := [132, 2, 1, 167, 255, 233, 4, 172]
abbrev dktX7_isUnder_1 : List UInt8 := dkwX7_isUnder_1 ++ []
def dkwX7_isUnder_0 : List UInt8 := [3, 61, 28, 6, 162, 0, 24, 26, 28, 184, 0, 95, 27, 28, 184, 0, 95, 164, 0, 5, 3, 172]
abbrev dktX7_isUnder_0 : List UInt8 := dkwX7_isUnder_0 ++ dktX7_isUnder_1
theorem dksX7_isUnder_0 : cX7_isUnder.data.toList.drop 0 = dktX7_isUnder_0 := by decide +kernel
theorem dksX7_isUnder_1 : cX7_isUnder.data.toList.drop 22 = dktX7_isUnder_1 := dk_seg dksX7_isUnder_0 22 rfl rfl
theorem dX7_isUnder_0 : decode cX7_isUnder 0 = .ok (.iconst 0, 1) := dk_3 (dk_at dksX7_isUnder_0 0 rfl rfl)
theorem dX7_isUnder_1 : decode cX7_isUnder 1 = .ok (.istore_n 2, 1) := dk_61 (dk_at dksX7_isUnder_0 1 rfl rfl)
theorem dX7_isUnder_2 : decode cX7_isUnder 2 = .ok (.iload_n 2, 1) := dk_28 (dk_at dksX7_isUnder_0 2 rfl rfl)
theorem dX7_isUnder_3 : decode cX7_isUnder 3 = .ok (.iconst 3, 1) := dk_6 (dk_at dksX7_isUnder_0 3 rfl rfl)
theorem dX7_isUnder_4 : decode cX7_isUnder 4 = .ok (.if_icmp .ge 24, 3) := dk_162 0 24 (dk_at dksX7_isUnder_0 4 rfl rfl)
theorem dX7_isUnder_7 : decode cX7_isUnder 7 = .ok (.iload_n 0, 1) := dk_26 (dk_at dksX7_isUnder_0 7 rfl rfl)
theorem dX7_isUnder_8 : decode cX7_isUnder 8 = .ok (.iload_n 2, 1) := dk_28 (dk_at dksX7_isUnder_0 8 rfl rfl)
theorem dX7_isUnder_9 : decode cX7_isUnder 9 = .ok (.invokestatic 95, 3) := dk_184 0 95 (dk_at dksX7_isUnder_0 9 rfl rfl)
theorem dX7_isUnder_12 : decode cX7_isUnder 12 = .ok (.iload_n 1, 1) := dk_27 (dk_at dksX7_isUnder_0 12 rfl rfl)
theorem dX7_isUnder_13 : decode cX7_isUnder 13 = .ok (.iload_n 2, 1) := dk_28 (dk_at dksX7_isUnder_0 13 rfl rfl)
theorem dX7_isUnder_14 : decode cX7_isUnder 14 = .ok (.invokestatic 95, 3) := dk_184 0 95 (dk_at dksX7_isUnder_0 14 rfl rfl)
theorem dX7_isUnder_17 : decode cX7_isUnder 17 = .ok (.if_icmp .le 5, 3) := dk_164 0 5 (dk_at dksX7_isUnder_0 17 rfl rfl)
theorem dX7_isUnder_20 : decode cX7_isUnder 20 = .ok (.iconst 0, 1) := dk_3 (dk_at dksX7_isUnder_0 20 rfl rfl)
theorem dX7_isUnder_21 : decode cX7_isUnder 21 = .ok (.ireturn, 1) := dk_172 (dk_at dksX7_isUnder_0 21 rfl rfl)
theorem dX7_isUnder_22 : decode cX7_isUnder 22 = .ok (.iinc 2 1, 3) := dk_132 2 1 (dk_at dksX7_isUnder_1 0 rfl rfl)
theorem dX7_isUnder_25 : decode cX7_isUnder 25 = .ok (.goto (-23), 3) := dk_167 255 233 (dk_at dksX7_isUnder_1 3 rfl rfl)
theorem dX7_isUnder_28 : decode cX7_isUnder 28 = .ok (.iconst 1, 1) := dk_4 (dk_at dksX7_isUnder_1 6 rfl rfl)
theorem dX7_isUnder_29 : decode cX7_isUnder 29 = .ok (.ireturn, 1) := dk_172 (dk_at dksX7_isUnder_1 7 rfl rfl)
abbrev cX7_goesOn : ByteArray := prog_10_method_67_code
def yX7_goesOn : MethodName := ⟨RX7, "goesOn", "(II)Z"⟩
def dkwX7_goesOn_12 : List UInt8 := [180, 0, 43, 28, 46, 16, 60, 163, 0, 7, 4, 167, 0, 4, 3, 172]
abbrev dktX7_goesOn_12 : List UInt8 := dkwX7_goesOn_12 ++ []
def dkwX7_goesOn_11 : List UInt8 := [180, 1, 84, 164, 0, 11, 42, 42, 180, 1, 69, 181, 1, 84, 42, 180, 1, 69, 16, 60, 163, 0, 18, 42]
abbrev dktX7_goesOn_11 : List UInt8 := dkwX7_goesOn_11 ++ dktX7_goesOn_12
def dkwX7_goesOn_10 : List UInt8 := [153, 0, 7, 4, 167, 0, 4, 3, 96, 181, 1, 69, 132, 5, 1, 167, 255, 133, 42, 180, 1, 69, 42]
abbrev dktX7_goesOn_10 : List UInt8 := dkwX7_goesOn_10 ++ dktX7_goesOn_11
def dkwX7_goesOn_9 : List UInt8 := [182, 1, 8, 104, 96, 42, 180, 0, 231, 112, 79, 42, 89, 180, 1, 69, 42, 180, 0, 34, 21, 6, 46]
abbrev dktX7_goesOn_9 : List UInt8 := dkwX7_goesOn_9 ++ dktX7_goesOn_10
def dkwX7_goesOn_8 : List UInt8 := [180, 0, 34, 21, 6, 42, 180, 0, 34, 21, 6, 46, 42, 180, 0, 231, 29, 100, 42, 28, 21, 5]
abbrev dktX7_goesOn_8 : List UInt8 := dkwX7_goesOn_8 ++ dktX7_goesOn_9
def dkwX7_goesOn_7 : List UInt8 := [89, 180, 1, 69, 42, 180, 0, 34, 21, 6, 46, 153, 0, 7, 4, 167, 0, 4, 3, 100, 181, 1, 69, 42]
abbrev dktX7_goesOn_7 : List UInt8 := dkwX7_goesOn_7 ++ dktX7_goesOn_8
def dkwX7_goesOn_6 : List UInt8 := [154, 0, 6, 167, 0, 102, 21, 5, 21, 4, 184, 1, 62, 54, 6, 21, 6, 2, 160, 0, 5, 3, 172, 42]
abbrev dktX7_goesOn_6 : List UInt8 := dkwX7_goesOn_6 ++ dktX7_goesOn_7
def dkwX7_goesOn_5 : List UInt8 := [46, 4, 96, 79, 3, 54, 5, 21, 5, 17, 16, 0, 162, 0, 121, 42, 28, 21, 5, 182, 1, 8]
abbrev dktX7_goesOn_5 : List UInt8 := dkwX7_goesOn_5 ++ dktX7_goesOn_6
def dkwX7_goesOn_4 : List UInt8 := [46, 100, 54, 4, 42, 180, 0, 40, 17, 16, 0, 28, 104, 21, 4, 96, 29, 79, 42, 180, 0, 43, 28, 92]
abbrev dktX7_goesOn_4 : List UInt8 := dkwX7_goesOn_4 ++ dktX7_goesOn_5
def dkwX7_goesOn_3 : List UInt8 := [180, 0, 34, 27, 46, 42, 180, 0, 49, 28, 46, 104, 42, 180, 0, 231, 112, 62, 27, 42, 180, 0, 46, 28]
abbrev dktX7_goesOn_3 : List UInt8 := dkwX7_goesOn_3 ++ dktX7_goesOn_4
def dkwX7_goesOn_2 : List UInt8 := [180, 1, 72, 4, 96, 181, 1, 72, 42, 180, 1, 72, 16, 60, 163, 0, 7, 4, 167, 0, 4, 3, 172, 42]
abbrev dktX7_goesOn_2 : List UInt8 := dkwX7_goesOn_2 ++ dktX7_goesOn_3
def dkwX7_goesOn_1 : List UInt8 := [27, 46, 79, 42, 180, 0, 34, 27, 3, 79, 42, 89, 180, 1, 69, 4, 100, 181, 1, 69, 42, 89]
abbrev dktX7_goesOn_1 : List UInt8 := dkwX7_goesOn_1 ++ dktX7_goesOn_2
def dkwX7_goesOn_0 : List UInt8 := [42, 89, 180, 1, 75, 4, 96, 181, 1, 75, 28, 2, 160, 0, 57, 42, 180, 0, 37, 27, 42, 180, 0, 34]
abbrev dktX7_goesOn_0 : List UInt8 := dkwX7_goesOn_0 ++ dktX7_goesOn_1
theorem dksX7_goesOn_0 : cX7_goesOn.data.toList.drop 0 = dktX7_goesOn_0 := by decide +kernel
theorem dksX7_goesOn_1 : cX7_goesOn.data.toList.drop 24 = dktX7_goesOn_1 := dk_seg dksX7_goesOn_0 24 rfl rfl
theorem dksX7_goesOn_2 : cX7_goesOn.data.toList.drop 46 = dktX7_goesOn_2 := dk_seg dksX7_goesOn_1 22 rfl rfl
theorem dksX7_goesOn_3 : cX7_goesOn.data.toList.drop 70 = dktX7_goesOn_3 := dk_seg dksX7_goesOn_2 24 rfl rfl
theorem dksX7_goesOn_4 : cX7_goesOn.data.toList.drop 94 = dktX7_goesOn_4 := dk_seg dksX7_goesOn_3 24 rfl rfl
theorem dksX7_goesOn_5 : cX7_goesOn.data.toList.drop 118 = dktX7_goesOn_5 := dk_seg dksX7_goesOn_4 24 rfl rfl
theorem dksX7_goesOn_6 : cX7_goesOn.data.toList.drop 140 = dktX7_goesOn_6 := dk_seg dksX7_goesOn_5 22 rfl rfl
theorem dksX7_goesOn_7 : cX7_goesOn.data.toList.drop 164 = dktX7_goesOn_7 := dk_seg dksX7_goesOn_6 24 rfl rfl
theorem dksX7_goesOn_8 : cX7_goesOn.data.toList.drop 188 = dktX7_goesOn_8 := dk_seg dksX7_goesOn_7 24 rfl rfl
theorem dksX7_goesOn_9 : cX7_goesOn.data.toList.drop 210 = dktX7_goesOn_9 := dk_seg dksX7_goesOn_8 22 rfl rfl
theorem dksX7_goesOn_10 : cX7_goesOn.data.toList.drop 233 = dktX7_goesOn_10 := dk_seg dksX7_goesOn_9 23 rfl rfl
theorem dksX7_goesOn_11 : cX7_goesOn.data.toList.drop 256 = dktX7_goesOn_11 := dk_seg dksX7_goesOn_10 23 rfl rfl
theorem dksX7_goesOn_12 : cX7_goesOn.data.toList.drop 280 = dktX7_goesOn_12 := dk_seg dksX7_goesOn_11 24 rfl rfl
theorem dX7_goesOn_0 : decode cX7_goesOn 0 = .ok (.aload_n 0, 1) := dk_42 (dk_at dksX7_goesOn_0 0 rfl rfl)
theorem dX7_goesOn_1 : decode cX7_goesOn 1 = .ok (.dup, 1) := dk_89 (dk_at dksX7_goesOn_0 1 rfl rfl)
theorem dX7_goesOn_2 : decode cX7_goesOn 2 = .ok (.getfield 331, 3) := dk_180 1 75 (dk_at dksX7_goesOn_0 2 rfl rfl)
theorem dX7_goesOn_5 : decode cX7_goesOn 5 = .ok (.iconst 1, 1) := dk_4 (dk_at dksX7_goesOn_0 5 rfl rfl)
theorem dX7_goesOn_6 : decode cX7_goesOn 6 = .ok (.iadd, 1) := dk_96 (dk_at dksX7_goesOn_0 6 rfl rfl)
theorem dX7_goesOn_7 : decode cX7_goesOn 7 = .ok (.putfield 331, 3) := dk_181 1 75 (dk_at dksX7_goesOn_0 7 rfl rfl)
theorem dX7_goesOn_10 : decode cX7_goesOn 10 = .ok (.iload_n 2, 1) := dk_28 (dk_at dksX7_goesOn_0 10 rfl rfl)
theorem dX7_goesOn_11 : decode cX7_goesOn 11 = .ok (.iconst (-1), 1) := dk_2 (dk_at dksX7_goesOn_0 11 rfl rfl)
theorem dX7_goesOn_12 : decode cX7_goesOn 12 = .ok (.if_icmp .ne 57, 3) := dk_160 0 57 (dk_at dksX7_goesOn_0 12 rfl rfl)
theorem dX7_goesOn_15 : decode cX7_goesOn 15 = .ok (.aload_n 0, 1) := dk_42 (dk_at dksX7_goesOn_0 15 rfl rfl)
theorem dX7_goesOn_16 : decode cX7_goesOn 16 = .ok (.getfield 37, 3) := dk_180 0 37 (dk_at dksX7_goesOn_0 16 rfl rfl)
theorem dX7_goesOn_19 : decode cX7_goesOn 19 = .ok (.iload_n 1, 1) := dk_27 (dk_at dksX7_goesOn_0 19 rfl rfl)
theorem dX7_goesOn_20 : decode cX7_goesOn 20 = .ok (.aload_n 0, 1) := dk_42 (dk_at dksX7_goesOn_0 20 rfl rfl)
theorem dX7_goesOn_21 : decode cX7_goesOn 21 = .ok (.getfield 34, 3) := dk_180 0 34 (dk_at dksX7_goesOn_0 21 rfl rfl)
theorem dX7_goesOn_24 : decode cX7_goesOn 24 = .ok (.iload_n 1, 1) := dk_27 (dk_at dksX7_goesOn_1 0 rfl rfl)
theorem dX7_goesOn_25 : decode cX7_goesOn 25 = .ok (.iaload, 1) := dk_46 (dk_at dksX7_goesOn_1 1 rfl rfl)
theorem dX7_goesOn_26 : decode cX7_goesOn 26 = .ok (.iastore, 1) := dk_79 (dk_at dksX7_goesOn_1 2 rfl rfl)
theorem dX7_goesOn_27 : decode cX7_goesOn 27 = .ok (.aload_n 0, 1) := dk_42 (dk_at dksX7_goesOn_1 3 rfl rfl)
theorem dX7_goesOn_28 : decode cX7_goesOn 28 = .ok (.getfield 34, 3) := dk_180 0 34 (dk_at dksX7_goesOn_1 4 rfl rfl)
theorem dX7_goesOn_31 : decode cX7_goesOn 31 = .ok (.iload_n 1, 1) := dk_27 (dk_at dksX7_goesOn_1 7 rfl rfl)
theorem dX7_goesOn_32 : decode cX7_goesOn 32 = .ok (.iconst 0, 1) := dk_3 (dk_at dksX7_goesOn_1 8 rfl rfl)
theorem dX7_goesOn_33 : decode cX7_goesOn 33 = .ok (.iastore, 1) := dk_79 (dk_at dksX7_goesOn_1 9 rfl rfl)
theorem dX7_goesOn_34 : decode cX7_goesOn 34 = .ok (.aload_n 0, 1) := dk_42 (dk_at dksX7_goesOn_1 10 rfl rfl)
theorem dX7_goesOn_35 : decode cX7_goesOn 35 = .ok (.dup, 1) := dk_89 (dk_at dksX7_goesOn_1 11 rfl rfl)
theorem dX7_goesOn_36 : decode cX7_goesOn 36 = .ok (.getfield 325, 3) := dk_180 1 69 (dk_at dksX7_goesOn_1 12 rfl rfl)
theorem dX7_goesOn_39 : decode cX7_goesOn 39 = .ok (.iconst 1, 1) := dk_4 (dk_at dksX7_goesOn_1 15 rfl rfl)
theorem dX7_goesOn_40 : decode cX7_goesOn 40 = .ok (.isub, 1) := dk_100 (dk_at dksX7_goesOn_1 16 rfl rfl)
theorem dX7_goesOn_41 : decode cX7_goesOn 41 = .ok (.putfield 325, 3) := dk_181 1 69 (dk_at dksX7_goesOn_1 17 rfl rfl)
theorem dX7_goesOn_44 : decode cX7_goesOn 44 = .ok (.aload_n 0, 1) := dk_42 (dk_at dksX7_goesOn_1 20 rfl rfl)
theorem dX7_goesOn_45 : decode cX7_goesOn 45 = .ok (.dup, 1) := dk_89 (dk_at dksX7_goesOn_1 21 rfl rfl)
theorem dX7_goesOn_46 : decode cX7_goesOn 46 = .ok (.getfield 328, 3) := dk_180 1 72 (dk_at dksX7_goesOn_2 0 rfl rfl)
theorem dX7_goesOn_49 : decode cX7_goesOn 49 = .ok (.iconst 1, 1) := dk_4 (dk_at dksX7_goesOn_2 3 rfl rfl)
theorem dX7_goesOn_50 : decode cX7_goesOn 50 = .ok (.iadd, 1) := dk_96 (dk_at dksX7_goesOn_2 4 rfl rfl)
theorem dX7_goesOn_51 : decode cX7_goesOn 51 = .ok (.putfield 328, 3) := dk_181 1 72 (dk_at dksX7_goesOn_2 5 rfl rfl)
theorem dX7_goesOn_54 : decode cX7_goesOn 54 = .ok (.aload_n 0, 1) := dk_42 (dk_at dksX7_goesOn_2 8 rfl rfl)
theorem dX7_goesOn_55 : decode cX7_goesOn 55 = .ok (.getfield 328, 3) := dk_180 1 72 (dk_at dksX7_goesOn_2 9 rfl rfl)
theorem dX7_goesOn_58 : decode cX7_goesOn 58 = .ok (.bipush 60, 2) := dk_16 60 (dk_at dksX7_goesOn_2 12 rfl rfl)
theorem dX7_goesOn_60 : decode cX7_goesOn 60 = .ok (.if_icmp .gt 7, 3) := dk_163 0 7 (dk_at dksX7_goesOn_2 14 rfl rfl)
theorem dX7_goesOn_63 : decode cX7_goesOn 63 = .ok (.iconst 1, 1) := dk_4 (dk_at dksX7_goesOn_2 17 rfl rfl)
theorem dX7_goesOn_64 : decode cX7_goesOn 64 = .ok (.goto 4, 3) := dk_167 0 4 (dk_at dksX7_goesOn_2 18 rfl rfl)
theorem dX7_goesOn_67 : decode cX7_goesOn 67 = .ok (.iconst 0, 1) := dk_3 (dk_at dksX7_goesOn_2 21 rfl rfl)
theorem dX7_goesOn_68 : decode cX7_goesOn 68 = .ok (.ireturn, 1) := dk_172 (dk_at dksX7_goesOn_2 22 rfl rfl)
theorem dX7_goesOn_69 : decode cX7_goesOn 69 = .ok (.aload_n 0, 1) := dk_42 (dk_at dksX7_goesOn_2 23 rfl rfl)
theorem dX7_goesOn_70 : decode cX7_goesOn 70 = .ok (.getfield 34, 3) := dk_180 0 34 (dk_at dksX7_goesOn_3 0 rfl rfl)
theorem dX7_goesOn_73 : decode cX7_goesOn 73 = .ok (.iload_n 1, 1) := dk_27 (dk_at dksX7_goesOn_3 3 rfl rfl)
theorem dX7_goesOn_74 : decode cX7_goesOn 74 = .ok (.iaload, 1) := dk_46 (dk_at dksX7_goesOn_3 4 rfl rfl)
theorem dX7_goesOn_75 : decode cX7_goesOn 75 = .ok (.aload_n 0, 1) := dk_42 (dk_at dksX7_goesOn_3 5 rfl rfl)
theorem dX7_goesOn_76 : decode cX7_goesOn 76 = .ok (.getfield 49, 3) := dk_180 0 49 (dk_at dksX7_goesOn_3 6 rfl rfl)
theorem dX7_goesOn_79 : decode cX7_goesOn 79 = .ok (.iload_n 2, 1) := dk_28 (dk_at dksX7_goesOn_3 9 rfl rfl)
theorem dX7_goesOn_80 : decode cX7_goesOn 80 = .ok (.iaload, 1) := dk_46 (dk_at dksX7_goesOn_3 10 rfl rfl)
theorem dX7_goesOn_81 : decode cX7_goesOn 81 = .ok (.imul, 1) := dk_104 (dk_at dksX7_goesOn_3 11 rfl rfl)
theorem dX7_goesOn_82 : decode cX7_goesOn 82 = .ok (.aload_n 0, 1) := dk_42 (dk_at dksX7_goesOn_3 12 rfl rfl)
theorem dX7_goesOn_83 : decode cX7_goesOn 83 = .ok (.getfield 231, 3) := dk_180 0 231 (dk_at dksX7_goesOn_3 13 rfl rfl)
theorem dX7_goesOn_86 : decode cX7_goesOn 86 = .ok (.irem, 1) := dk_112 (dk_at dksX7_goesOn_3 16 rfl rfl)
theorem dX7_goesOn_87 : decode cX7_goesOn 87 = .ok (.istore_n 3, 1) := dk_62 (dk_at dksX7_goesOn_3 17 rfl rfl)
theorem dX7_goesOn_88 : decode cX7_goesOn 88 = .ok (.iload_n 1, 1) := dk_27 (dk_at dksX7_goesOn_3 18 rfl rfl)
theorem dX7_goesOn_89 : decode cX7_goesOn 89 = .ok (.aload_n 0, 1) := dk_42 (dk_at dksX7_goesOn_3 19 rfl rfl)
theorem dX7_goesOn_90 : decode cX7_goesOn 90 = .ok (.getfield 46, 3) := dk_180 0 46 (dk_at dksX7_goesOn_3 20 rfl rfl)
theorem dX7_goesOn_93 : decode cX7_goesOn 93 = .ok (.iload_n 2, 1) := dk_28 (dk_at dksX7_goesOn_3 23 rfl rfl)
theorem dX7_goesOn_94 : decode cX7_goesOn 94 = .ok (.iaload, 1) := dk_46 (dk_at dksX7_goesOn_4 0 rfl rfl)
theorem dX7_goesOn_95 : decode cX7_goesOn 95 = .ok (.isub, 1) := dk_100 (dk_at dksX7_goesOn_4 1 rfl rfl)
theorem dX7_goesOn_96 : decode cX7_goesOn 96 = .ok (.istore 4, 2) := dk_54 4 (dk_at dksX7_goesOn_4 2 rfl rfl)
theorem dX7_goesOn_98 : decode cX7_goesOn 98 = .ok (.aload_n 0, 1) := dk_42 (dk_at dksX7_goesOn_4 4 rfl rfl)
theorem dX7_goesOn_99 : decode cX7_goesOn 99 = .ok (.getfield 40, 3) := dk_180 0 40 (dk_at dksX7_goesOn_4 5 rfl rfl)
theorem dX7_goesOn_102 : decode cX7_goesOn 102 = .ok (.sipush 4096, 3) := dk_17 16 0 (dk_at dksX7_goesOn_4 8 rfl rfl)
theorem dX7_goesOn_105 : decode cX7_goesOn 105 = .ok (.iload_n 2, 1) := dk_28 (dk_at dksX7_goesOn_4 11 rfl rfl)
theorem dX7_goesOn_106 : decode cX7_goesOn 106 = .ok (.imul, 1) := dk_104 (dk_at dksX7_goesOn_4 12 rfl rfl)
theorem dX7_goesOn_107 : decode cX7_goesOn 107 = .ok (.iload 4, 2) := dk_21 4 (dk_at dksX7_goesOn_4 13 rfl rfl)
theorem dX7_goesOn_109 : decode cX7_goesOn 109 = .ok (.iadd, 1) := dk_96 (dk_at dksX7_goesOn_4 15 rfl rfl)
theorem dX7_goesOn_110 : decode cX7_goesOn 110 = .ok (.iload_n 3, 1) := dk_29 (dk_at dksX7_goesOn_4 16 rfl rfl)
theorem dX7_goesOn_111 : decode cX7_goesOn 111 = .ok (.iastore, 1) := dk_79 (dk_at dksX7_goesOn_4 17 rfl rfl)
theorem dX7_goesOn_112 : decode cX7_goesOn 112 = .ok (.aload_n 0, 1) := dk_42 (dk_at dksX7_goesOn_4 18 rfl rfl)
theorem dX7_goesOn_113 : decode cX7_goesOn 113 = .ok (.getfield 43, 3) := dk_180 0 43 (dk_at dksX7_goesOn_4 19 rfl rfl)
theorem dX7_goesOn_116 : decode cX7_goesOn 116 = .ok (.iload_n 2, 1) := dk_28 (dk_at dksX7_goesOn_4 22 rfl rfl)
theorem dX7_goesOn_117 : decode cX7_goesOn 117 = .ok (.dup2, 1) := dk_92 (dk_at dksX7_goesOn_4 23 rfl rfl)
theorem dX7_goesOn_118 : decode cX7_goesOn 118 = .ok (.iaload, 1) := dk_46 (dk_at dksX7_goesOn_5 0 rfl rfl)
theorem dX7_goesOn_119 : decode cX7_goesOn 119 = .ok (.iconst 1, 1) := dk_4 (dk_at dksX7_goesOn_5 1 rfl rfl)
theorem dX7_goesOn_120 : decode cX7_goesOn 120 = .ok (.iadd, 1) := dk_96 (dk_at dksX7_goesOn_5 2 rfl rfl)
theorem dX7_goesOn_121 : decode cX7_goesOn 121 = .ok (.iastore, 1) := dk_79 (dk_at dksX7_goesOn_5 3 rfl rfl)
theorem dX7_goesOn_122 : decode cX7_goesOn 122 = .ok (.iconst 0, 1) := dk_3 (dk_at dksX7_goesOn_5 4 rfl rfl)
theorem dX7_goesOn_123 : decode cX7_goesOn 123 = .ok (.istore 5, 2) := dk_54 5 (dk_at dksX7_goesOn_5 5 rfl rfl)
theorem dX7_goesOn_125 : decode cX7_goesOn 125 = .ok (.iload 5, 2) := dk_21 5 (dk_at dksX7_goesOn_5 7 rfl rfl)
theorem dX7_goesOn_127 : decode cX7_goesOn 127 = .ok (.sipush 4096, 3) := dk_17 16 0 (dk_at dksX7_goesOn_5 9 rfl rfl)
theorem dX7_goesOn_130 : decode cX7_goesOn 130 = .ok (.if_icmp .ge 121, 3) := dk_162 0 121 (dk_at dksX7_goesOn_5 12 rfl rfl)
theorem dX7_goesOn_133 : decode cX7_goesOn 133 = .ok (.aload_n 0, 1) := dk_42 (dk_at dksX7_goesOn_5 15 rfl rfl)
theorem dX7_goesOn_134 : decode cX7_goesOn 134 = .ok (.iload_n 2, 1) := dk_28 (dk_at dksX7_goesOn_5 16 rfl rfl)
theorem dX7_goesOn_135 : decode cX7_goesOn 135 = .ok (.iload 5, 2) := dk_21 5 (dk_at dksX7_goesOn_5 17 rfl rfl)
theorem dX7_goesOn_137 : decode cX7_goesOn 137 = .ok (.invokevirtual 264, 3) := dk_182 1 8 (dk_at dksX7_goesOn_5 19 rfl rfl)
theorem dX7_goesOn_140 : decode cX7_goesOn 140 = .ok (.ifCond .ne 6, 3) := dk_154 0 6 (dk_at dksX7_goesOn_6 0 rfl rfl)
theorem dX7_goesOn_143 : decode cX7_goesOn 143 = .ok (.goto 102, 3) := dk_167 0 102 (dk_at dksX7_goesOn_6 3 rfl rfl)
theorem dX7_goesOn_146 : decode cX7_goesOn 146 = .ok (.iload 5, 2) := dk_21 5 (dk_at dksX7_goesOn_6 6 rfl rfl)
theorem dX7_goesOn_148 : decode cX7_goesOn 148 = .ok (.iload 4, 2) := dk_21 4 (dk_at dksX7_goesOn_6 8 rfl rfl)
theorem dX7_goesOn_150 : decode cX7_goesOn 150 = .ok (.invokestatic 318, 3) := dk_184 1 62 (dk_at dksX7_goesOn_6 10 rfl rfl)
theorem dX7_goesOn_153 : decode cX7_goesOn 153 = .ok (.istore 6, 2) := dk_54 6 (dk_at dksX7_goesOn_6 13 rfl rfl)
theorem dX7_goesOn_155 : decode cX7_goesOn 155 = .ok (.iload 6, 2) := dk_21 6 (dk_at dksX7_goesOn_6 15 rfl rfl)
theorem dX7_goesOn_157 : decode cX7_goesOn 157 = .ok (.iconst (-1), 1) := dk_2 (dk_at dksX7_goesOn_6 17 rfl rfl)
theorem dX7_goesOn_158 : decode cX7_goesOn 158 = .ok (.if_icmp .ne 5, 3) := dk_160 0 5 (dk_at dksX7_goesOn_6 18 rfl rfl)
theorem dX7_goesOn_161 : decode cX7_goesOn 161 = .ok (.iconst 0, 1) := dk_3 (dk_at dksX7_goesOn_6 21 rfl rfl)
theorem dX7_goesOn_162 : decode cX7_goesOn 162 = .ok (.ireturn, 1) := dk_172 (dk_at dksX7_goesOn_6 22 rfl rfl)
theorem dX7_goesOn_163 : decode cX7_goesOn 163 = .ok (.aload_n 0, 1) := dk_42 (dk_at dksX7_goesOn_6 23 rfl rfl)
theorem dX7_goesOn_164 : decode cX7_goesOn 164 = .ok (.dup, 1) := dk_89 (dk_at dksX7_goesOn_7 0 rfl rfl)
theorem dX7_goesOn_165 : decode cX7_goesOn 165 = .ok (.getfield 325, 3) := dk_180 1 69 (dk_at dksX7_goesOn_7 1 rfl rfl)
theorem dX7_goesOn_168 : decode cX7_goesOn 168 = .ok (.aload_n 0, 1) := dk_42 (dk_at dksX7_goesOn_7 4 rfl rfl)
theorem dX7_goesOn_169 : decode cX7_goesOn 169 = .ok (.getfield 34, 3) := dk_180 0 34 (dk_at dksX7_goesOn_7 5 rfl rfl)
theorem dX7_goesOn_172 : decode cX7_goesOn 172 = .ok (.iload 6, 2) := dk_21 6 (dk_at dksX7_goesOn_7 8 rfl rfl)
theorem dX7_goesOn_174 : decode cX7_goesOn 174 = .ok (.iaload, 1) := dk_46 (dk_at dksX7_goesOn_7 10 rfl rfl)
theorem dX7_goesOn_175 : decode cX7_goesOn 175 = .ok (.ifCond .eq 7, 3) := dk_153 0 7 (dk_at dksX7_goesOn_7 11 rfl rfl)
theorem dX7_goesOn_178 : decode cX7_goesOn 178 = .ok (.iconst 1, 1) := dk_4 (dk_at dksX7_goesOn_7 14 rfl rfl)
theorem dX7_goesOn_179 : decode cX7_goesOn 179 = .ok (.goto 4, 3) := dk_167 0 4 (dk_at dksX7_goesOn_7 15 rfl rfl)
theorem dX7_goesOn_182 : decode cX7_goesOn 182 = .ok (.iconst 0, 1) := dk_3 (dk_at dksX7_goesOn_7 18 rfl rfl)
theorem dX7_goesOn_183 : decode cX7_goesOn 183 = .ok (.isub, 1) := dk_100 (dk_at dksX7_goesOn_7 19 rfl rfl)
theorem dX7_goesOn_184 : decode cX7_goesOn 184 = .ok (.putfield 325, 3) := dk_181 1 69 (dk_at dksX7_goesOn_7 20 rfl rfl)
theorem dX7_goesOn_187 : decode cX7_goesOn 187 = .ok (.aload_n 0, 1) := dk_42 (dk_at dksX7_goesOn_7 23 rfl rfl)
theorem dX7_goesOn_188 : decode cX7_goesOn 188 = .ok (.getfield 34, 3) := dk_180 0 34 (dk_at dksX7_goesOn_8 0 rfl rfl)
theorem dX7_goesOn_191 : decode cX7_goesOn 191 = .ok (.iload 6, 2) := dk_21 6 (dk_at dksX7_goesOn_8 3 rfl rfl)
theorem dX7_goesOn_193 : decode cX7_goesOn 193 = .ok (.aload_n 0, 1) := dk_42 (dk_at dksX7_goesOn_8 5 rfl rfl)
theorem dX7_goesOn_194 : decode cX7_goesOn 194 = .ok (.getfield 34, 3) := dk_180 0 34 (dk_at dksX7_goesOn_8 6 rfl rfl)
theorem dX7_goesOn_197 : decode cX7_goesOn 197 = .ok (.iload 6, 2) := dk_21 6 (dk_at dksX7_goesOn_8 9 rfl rfl)
theorem dX7_goesOn_199 : decode cX7_goesOn 199 = .ok (.iaload, 1) := dk_46 (dk_at dksX7_goesOn_8 11 rfl rfl)
theorem dX7_goesOn_200 : decode cX7_goesOn 200 = .ok (.aload_n 0, 1) := dk_42 (dk_at dksX7_goesOn_8 12 rfl rfl)
theorem dX7_goesOn_201 : decode cX7_goesOn 201 = .ok (.getfield 231, 3) := dk_180 0 231 (dk_at dksX7_goesOn_8 13 rfl rfl)
theorem dX7_goesOn_204 : decode cX7_goesOn 204 = .ok (.iload_n 3, 1) := dk_29 (dk_at dksX7_goesOn_8 16 rfl rfl)
theorem dX7_goesOn_205 : decode cX7_goesOn 205 = .ok (.isub, 1) := dk_100 (dk_at dksX7_goesOn_8 17 rfl rfl)
theorem dX7_goesOn_206 : decode cX7_goesOn 206 = .ok (.aload_n 0, 1) := dk_42 (dk_at dksX7_goesOn_8 18 rfl rfl)
theorem dX7_goesOn_207 : decode cX7_goesOn 207 = .ok (.iload_n 2, 1) := dk_28 (dk_at dksX7_goesOn_8 19 rfl rfl)
theorem dX7_goesOn_208 : decode cX7_goesOn 208 = .ok (.iload 5, 2) := dk_21 5 (dk_at dksX7_goesOn_8 20 rfl rfl)
theorem dX7_goesOn_210 : decode cX7_goesOn 210 = .ok (.invokevirtual 264, 3) := dk_182 1 8 (dk_at dksX7_goesOn_9 0 rfl rfl)
theorem dX7_goesOn_213 : decode cX7_goesOn 213 = .ok (.imul, 1) := dk_104 (dk_at dksX7_goesOn_9 3 rfl rfl)
theorem dX7_goesOn_214 : decode cX7_goesOn 214 = .ok (.iadd, 1) := dk_96 (dk_at dksX7_goesOn_9 4 rfl rfl)
theorem dX7_goesOn_215 : decode cX7_goesOn 215 = .ok (.aload_n 0, 1) := dk_42 (dk_at dksX7_goesOn_9 5 rfl rfl)
theorem dX7_goesOn_216 : decode cX7_goesOn 216 = .ok (.getfield 231, 3) := dk_180 0 231 (dk_at dksX7_goesOn_9 6 rfl rfl)
theorem dX7_goesOn_219 : decode cX7_goesOn 219 = .ok (.irem, 1) := dk_112 (dk_at dksX7_goesOn_9 9 rfl rfl)
theorem dX7_goesOn_220 : decode cX7_goesOn 220 = .ok (.iastore, 1) := dk_79 (dk_at dksX7_goesOn_9 10 rfl rfl)
theorem dX7_goesOn_221 : decode cX7_goesOn 221 = .ok (.aload_n 0, 1) := dk_42 (dk_at dksX7_goesOn_9 11 rfl rfl)
theorem dX7_goesOn_222 : decode cX7_goesOn 222 = .ok (.dup, 1) := dk_89 (dk_at dksX7_goesOn_9 12 rfl rfl)
theorem dX7_goesOn_223 : decode cX7_goesOn 223 = .ok (.getfield 325, 3) := dk_180 1 69 (dk_at dksX7_goesOn_9 13 rfl rfl)
theorem dX7_goesOn_226 : decode cX7_goesOn 226 = .ok (.aload_n 0, 1) := dk_42 (dk_at dksX7_goesOn_9 16 rfl rfl)
theorem dX7_goesOn_227 : decode cX7_goesOn 227 = .ok (.getfield 34, 3) := dk_180 0 34 (dk_at dksX7_goesOn_9 17 rfl rfl)
theorem dX7_goesOn_230 : decode cX7_goesOn 230 = .ok (.iload 6, 2) := dk_21 6 (dk_at dksX7_goesOn_9 20 rfl rfl)
theorem dX7_goesOn_232 : decode cX7_goesOn 232 = .ok (.iaload, 1) := dk_46 (dk_at dksX7_goesOn_9 22 rfl rfl)
theorem dX7_goesOn_233 : decode cX7_goesOn 233 = .ok (.ifCond .eq 7, 3) := dk_153 0 7 (dk_at dksX7_goesOn_10 0 rfl rfl)
theorem dX7_goesOn_236 : decode cX7_goesOn 236 = .ok (.iconst 1, 1) := dk_4 (dk_at dksX7_goesOn_10 3 rfl rfl)
theorem dX7_goesOn_237 : decode cX7_goesOn 237 = .ok (.goto 4, 3) := dk_167 0 4 (dk_at dksX7_goesOn_10 4 rfl rfl)
theorem dX7_goesOn_240 : decode cX7_goesOn 240 = .ok (.iconst 0, 1) := dk_3 (dk_at dksX7_goesOn_10 7 rfl rfl)
theorem dX7_goesOn_241 : decode cX7_goesOn 241 = .ok (.iadd, 1) := dk_96 (dk_at dksX7_goesOn_10 8 rfl rfl)
theorem dX7_goesOn_242 : decode cX7_goesOn 242 = .ok (.putfield 325, 3) := dk_181 1 69 (dk_at dksX7_goesOn_10 9 rfl rfl)
theorem dX7_goesOn_245 : decode cX7_goesOn 245 = .ok (.iinc 5 1, 3) := dk_132 5 1 (dk_at dksX7_goesOn_10 12 rfl rfl)
theorem dX7_goesOn_248 : decode cX7_goesOn 248 = .ok (.goto (-123), 3) := dk_167 255 133 (dk_at dksX7_goesOn_10 15 rfl rfl)
theorem dX7_goesOn_251 : decode cX7_goesOn 251 = .ok (.aload_n 0, 1) := dk_42 (dk_at dksX7_goesOn_10 18 rfl rfl)
theorem dX7_goesOn_252 : decode cX7_goesOn 252 = .ok (.getfield 325, 3) := dk_180 1 69 (dk_at dksX7_goesOn_10 19 rfl rfl)
theorem dX7_goesOn_255 : decode cX7_goesOn 255 = .ok (.aload_n 0, 1) := dk_42 (dk_at dksX7_goesOn_10 22 rfl rfl)
theorem dX7_goesOn_256 : decode cX7_goesOn 256 = .ok (.getfield 340, 3) := dk_180 1 84 (dk_at dksX7_goesOn_11 0 rfl rfl)
theorem dX7_goesOn_259 : decode cX7_goesOn 259 = .ok (.if_icmp .le 11, 3) := dk_164 0 11 (dk_at dksX7_goesOn_11 3 rfl rfl)
theorem dX7_goesOn_262 : decode cX7_goesOn 262 = .ok (.aload_n 0, 1) := dk_42 (dk_at dksX7_goesOn_11 6 rfl rfl)
theorem dX7_goesOn_263 : decode cX7_goesOn 263 = .ok (.aload_n 0, 1) := dk_42 (dk_at dksX7_goesOn_11 7 rfl rfl)
theorem dX7_goesOn_264 : decode cX7_goesOn 264 = .ok (.getfield 325, 3) := dk_180 1 69 (dk_at dksX7_goesOn_11 8 rfl rfl)
theorem dX7_goesOn_267 : decode cX7_goesOn 267 = .ok (.putfield 340, 3) := dk_181 1 84 (dk_at dksX7_goesOn_11 11 rfl rfl)
theorem dX7_goesOn_270 : decode cX7_goesOn 270 = .ok (.aload_n 0, 1) := dk_42 (dk_at dksX7_goesOn_11 14 rfl rfl)
theorem dX7_goesOn_271 : decode cX7_goesOn 271 = .ok (.getfield 325, 3) := dk_180 1 69 (dk_at dksX7_goesOn_11 15 rfl rfl)
theorem dX7_goesOn_274 : decode cX7_goesOn 274 = .ok (.bipush 60, 2) := dk_16 60 (dk_at dksX7_goesOn_11 18 rfl rfl)
theorem dX7_goesOn_276 : decode cX7_goesOn 276 = .ok (.if_icmp .gt 18, 3) := dk_163 0 18 (dk_at dksX7_goesOn_11 20 rfl rfl)
theorem dX7_goesOn_279 : decode cX7_goesOn 279 = .ok (.aload_n 0, 1) := dk_42 (dk_at dksX7_goesOn_11 23 rfl rfl)
theorem dX7_goesOn_280 : decode cX7_goesOn 280 = .ok (.getfield 43, 3) := dk_180 0 43 (dk_at dksX7_goesOn_12 0 rfl rfl)
theorem dX7_goesOn_283 : decode cX7_goesOn 283 = .ok (.iload_n 2, 1) := dk_28 (dk_at dksX7_goesOn_12 3 rfl rfl)
theorem dX7_goesOn_284 : decode cX7_goesOn 284 = .ok (.iaload, 1) := dk_46 (dk_at dksX7_goesOn_12 4 rfl rfl)
theorem dX7_goesOn_285 : decode cX7_goesOn 285 = .ok (.bipush 60, 2) := dk_16 60 (dk_at dksX7_goesOn_12 5 rfl rfl)
theorem dX7_goesOn_287 : decode cX7_goesOn 287 = .ok (.if_icmp .gt 7, 3) := dk_163 0 7 (dk_at dksX7_goesOn_12 7 rfl rfl)
theorem dX7_goesOn_290 : decode cX7_goesOn 290 = .ok (.iconst 1, 1) := dk_4 (dk_at dksX7_goesOn_12 10 rfl rfl)
theorem dX7_goesOn_291 : decode cX7_goesOn 291 = .ok (.goto 4, 3) := dk_167 0 4 (dk_at dksX7_goesOn_12 11 rfl rfl)
theorem dX7_goesOn_294 : decode cX7_goesOn 294 = .ok (.iconst 0, 1) := dk_3 (dk_at dksX7_goesOn_12 14 rfl rfl)
theorem dX7_goesOn_295 : decode cX7_goesOn 295 = .ok (.ireturn, 1) := dk_172 (dk_at dksX7_goesOn_12 15 rfl rfl)
abbrev cX7_sum : ByteArray := prog_10_method_60_code
def yX7_sum : MethodName := ⟨RX7, "sum", "(II)I"⟩
def dkwX7_sum_1 : List UInt8 := [16, 15, 164, 0, 5, 2, 172, 28, 21, 4, 7, 29, 104, 120, 128, 61, 132, 3, 1, 167, 255, 217, 28, 172]
abbrev dktX7_sum_1 : List UInt8 := dkwX7_sum_1 ++ []
def dkwX7_sum_0 : List UInt8 := [3, 61, 3, 62, 29, 6, 162, 0, 40, 26, 29, 184, 0, 95, 27, 29, 184, 0, 95, 96, 54, 4, 21, 4]
abbrev dktX7_sum_0 : List UInt8 := dkwX7_sum_0 ++ dktX7_sum_1
theorem dksX7_sum_0 : cX7_sum.data.toList.drop 0 = dktX7_sum_0 := by decide +kernel
theorem dksX7_sum_1 : cX7_sum.data.toList.drop 24 = dktX7_sum_1 := dk_seg dksX7_sum_0 24 rfl rfl
theorem dX7_sum_0 : decode cX7_sum 0 = .ok (.iconst 0, 1) := dk_3 (dk_at dksX7_sum_0 0 rfl rfl)
theorem dX7_sum_1 : decode cX7_sum 1 = .ok (.istore_n 2, 1) := dk_61 (dk_at dksX7_sum_0 1 rfl rfl)
theorem dX7_sum_2 : decode cX7_sum 2 = .ok (.iconst 0, 1) := dk_3 (dk_at dksX7_sum_0 2 rfl rfl)
theorem dX7_sum_3 : decode cX7_sum 3 = .ok (.istore_n 3, 1) := dk_62 (dk_at dksX7_sum_0 3 rfl rfl)
theorem dX7_sum_4 : decode cX7_sum 4 = .ok (.iload_n 3, 1) := dk_29 (dk_at dksX7_sum_0 4 rfl rfl)
theorem dX7_sum_5 : decode cX7_sum 5 = .ok (.iconst 3, 1) := dk_6 (dk_at dksX7_sum_0 5 rfl rfl)
theorem dX7_sum_6 : decode cX7_sum 6 = .ok (.if_icmp .ge 40, 3) := dk_162 0 40 (dk_at dksX7_sum_0 6 rfl rfl)
theorem dX7_sum_9 : decode cX7_sum 9 = .ok (.iload_n 0, 1) := dk_26 (dk_at dksX7_sum_0 9 rfl rfl)
theorem dX7_sum_10 : decode cX7_sum 10 = .ok (.iload_n 3, 1) := dk_29 (dk_at dksX7_sum_0 10 rfl rfl)
theorem dX7_sum_11 : decode cX7_sum 11 = .ok (.invokestatic 95, 3) := dk_184 0 95 (dk_at dksX7_sum_0 11 rfl rfl)
theorem dX7_sum_14 : decode cX7_sum 14 = .ok (.iload_n 1, 1) := dk_27 (dk_at dksX7_sum_0 14 rfl rfl)
theorem dX7_sum_15 : decode cX7_sum 15 = .ok (.iload_n 3, 1) := dk_29 (dk_at dksX7_sum_0 15 rfl rfl)
theorem dX7_sum_16 : decode cX7_sum 16 = .ok (.invokestatic 95, 3) := dk_184 0 95 (dk_at dksX7_sum_0 16 rfl rfl)
theorem dX7_sum_19 : decode cX7_sum 19 = .ok (.iadd, 1) := dk_96 (dk_at dksX7_sum_0 19 rfl rfl)
theorem dX7_sum_20 : decode cX7_sum 20 = .ok (.istore 4, 2) := dk_54 4 (dk_at dksX7_sum_0 20 rfl rfl)
theorem dX7_sum_22 : decode cX7_sum 22 = .ok (.iload 4, 2) := dk_21 4 (dk_at dksX7_sum_0 22 rfl rfl)
theorem dX7_sum_24 : decode cX7_sum 24 = .ok (.bipush 15, 2) := dk_16 15 (dk_at dksX7_sum_1 0 rfl rfl)
theorem dX7_sum_26 : decode cX7_sum 26 = .ok (.if_icmp .le 5, 3) := dk_164 0 5 (dk_at dksX7_sum_1 2 rfl rfl)
theorem dX7_sum_29 : decode cX7_sum 29 = .ok (.iconst (-1), 1) := dk_2 (dk_at dksX7_sum_1 5 rfl rfl)
theorem dX7_sum_30 : decode cX7_sum 30 = .ok (.ireturn, 1) := dk_172 (dk_at dksX7_sum_1 6 rfl rfl)
theorem dX7_sum_31 : decode cX7_sum 31 = .ok (.iload_n 2, 1) := dk_28 (dk_at dksX7_sum_1 7 rfl rfl)
theorem dX7_sum_32 : decode cX7_sum 32 = .ok (.iload 4, 2) := dk_21 4 (dk_at dksX7_sum_1 8 rfl rfl)
theorem dX7_sum_34 : decode cX7_sum 34 = .ok (.iconst 4, 1) := dk_7 (dk_at dksX7_sum_1 10 rfl rfl)
theorem dX7_sum_35 : decode cX7_sum 35 = .ok (.iload_n 3, 1) := dk_29 (dk_at dksX7_sum_1 11 rfl rfl)
theorem dX7_sum_36 : decode cX7_sum 36 = .ok (.imul, 1) := dk_104 (dk_at dksX7_sum_1 12 rfl rfl)
theorem dX7_sum_37 : decode cX7_sum 37 = .ok (.ishl, 1) := dk_120 (dk_at dksX7_sum_1 13 rfl rfl)
theorem dX7_sum_38 : decode cX7_sum 38 = .ok (.ior, 1) := dk_128 (dk_at dksX7_sum_1 14 rfl rfl)
theorem dX7_sum_39 : decode cX7_sum 39 = .ok (.istore_n 2, 1) := dk_61 (dk_at dksX7_sum_1 15 rfl rfl)
theorem dX7_sum_40 : decode cX7_sum 40 = .ok (.iinc 3 1, 3) := dk_132 3 1 (dk_at dksX7_sum_1 16 rfl rfl)
theorem dX7_sum_43 : decode cX7_sum 43 = .ok (.goto (-39), 3) := dk_167 255 217 (dk_at dksX7_sum_1 19 rfl rfl)
theorem dX7_sum_46 : decode cX7_sum 46 = .ok (.iload_n 2, 1) := dk_28 (dk_at dksX7_sum_1 22 rfl rfl)
theorem dX7_sum_47 : decode cX7_sum 47 = .ok (.ireturn, 1) := dk_172 (dk_at dksX7_sum_1 23 rfl rfl)
abbrev cX7_divides : ByteArray := prog_10_method_70_code
def yX7_divides : MethodName := ⟨RX7, "divides", "(II)I"⟩
def dkwX7_divides_3 : List UInt8 := [182, 0, 248, 167, 0, 8, 42, 6, 182, 0, 221, 172]
abbrev dktX7_divides_3 : List UInt8 := dkwX7_divides_3 ++ []
def dkwX7_divides_2 : List UInt8 := [4, 27, 120, 182, 1, 102, 153, 0, 22, 42, 42, 180, 1, 72, 154, 0, 7, 4, 167, 0, 4, 3]
abbrev dktX7_divides_2 : List UInt8 := dkwX7_divides_2 ++ dktX7_divides_3
def dkwX7_divides_1 : List UInt8 := [182, 0, 221, 172, 42, 27, 182, 1, 14, 153, 0, 9, 42, 8, 182, 0, 221, 172, 42, 28, 182, 1, 99, 42]
abbrev dktX7_divides_1 : List UInt8 := dkwX7_divides_1 ++ dktX7_divides_2
def dkwX7_divides_0 : List UInt8 := [42, 3, 181, 0, 89, 42, 27, 182, 1, 20, 153, 0, 11, 42, 28, 182, 1, 20, 154, 0, 9, 42, 4]
abbrev dktX7_divides_0 : List UInt8 := dkwX7_divides_0 ++ dktX7_divides_1
theorem dksX7_divides_0 : cX7_divides.data.toList.drop 0 = dktX7_divides_0 := by decide +kernel
theorem dksX7_divides_1 : cX7_divides.data.toList.drop 23 = dktX7_divides_1 := dk_seg dksX7_divides_0 23 rfl rfl
theorem dksX7_divides_2 : cX7_divides.data.toList.drop 47 = dktX7_divides_2 := dk_seg dksX7_divides_1 24 rfl rfl
theorem dksX7_divides_3 : cX7_divides.data.toList.drop 69 = dktX7_divides_3 := dk_seg dksX7_divides_2 22 rfl rfl
theorem dX7_divides_0 : decode cX7_divides 0 = .ok (.aload_n 0, 1) := dk_42 (dk_at dksX7_divides_0 0 rfl rfl)
theorem dX7_divides_1 : decode cX7_divides 1 = .ok (.iconst 0, 1) := dk_3 (dk_at dksX7_divides_0 1 rfl rfl)
theorem dX7_divides_2 : decode cX7_divides 2 = .ok (.putfield 89, 3) := dk_181 0 89 (dk_at dksX7_divides_0 2 rfl rfl)
theorem dX7_divides_5 : decode cX7_divides 5 = .ok (.aload_n 0, 1) := dk_42 (dk_at dksX7_divides_0 5 rfl rfl)
theorem dX7_divides_6 : decode cX7_divides 6 = .ok (.iload_n 1, 1) := dk_27 (dk_at dksX7_divides_0 6 rfl rfl)
theorem dX7_divides_7 : decode cX7_divides 7 = .ok (.invokevirtual 276, 3) := dk_182 1 20 (dk_at dksX7_divides_0 7 rfl rfl)
theorem dX7_divides_10 : decode cX7_divides 10 = .ok (.ifCond .eq 11, 3) := dk_153 0 11 (dk_at dksX7_divides_0 10 rfl rfl)
theorem dX7_divides_13 : decode cX7_divides 13 = .ok (.aload_n 0, 1) := dk_42 (dk_at dksX7_divides_0 13 rfl rfl)
theorem dX7_divides_14 : decode cX7_divides 14 = .ok (.iload_n 2, 1) := dk_28 (dk_at dksX7_divides_0 14 rfl rfl)
theorem dX7_divides_15 : decode cX7_divides 15 = .ok (.invokevirtual 276, 3) := dk_182 1 20 (dk_at dksX7_divides_0 15 rfl rfl)
theorem dX7_divides_18 : decode cX7_divides 18 = .ok (.ifCond .ne 9, 3) := dk_154 0 9 (dk_at dksX7_divides_0 18 rfl rfl)
theorem dX7_divides_21 : decode cX7_divides 21 = .ok (.aload_n 0, 1) := dk_42 (dk_at dksX7_divides_0 21 rfl rfl)
theorem dX7_divides_22 : decode cX7_divides 22 = .ok (.iconst 1, 1) := dk_4 (dk_at dksX7_divides_0 22 rfl rfl)
theorem dX7_divides_23 : decode cX7_divides 23 = .ok (.invokevirtual 221, 3) := dk_182 0 221 (dk_at dksX7_divides_1 0 rfl rfl)
theorem dX7_divides_26 : decode cX7_divides 26 = .ok (.ireturn, 1) := dk_172 (dk_at dksX7_divides_1 3 rfl rfl)
theorem dX7_divides_27 : decode cX7_divides 27 = .ok (.aload_n 0, 1) := dk_42 (dk_at dksX7_divides_1 4 rfl rfl)
theorem dX7_divides_28 : decode cX7_divides 28 = .ok (.iload_n 1, 1) := dk_27 (dk_at dksX7_divides_1 5 rfl rfl)
theorem dX7_divides_29 : decode cX7_divides 29 = .ok (.invokevirtual 270, 3) := dk_182 1 14 (dk_at dksX7_divides_1 6 rfl rfl)
theorem dX7_divides_32 : decode cX7_divides 32 = .ok (.ifCond .eq 9, 3) := dk_153 0 9 (dk_at dksX7_divides_1 9 rfl rfl)
theorem dX7_divides_35 : decode cX7_divides 35 = .ok (.aload_n 0, 1) := dk_42 (dk_at dksX7_divides_1 12 rfl rfl)
theorem dX7_divides_36 : decode cX7_divides 36 = .ok (.iconst 5, 1) := dk_8 (dk_at dksX7_divides_1 13 rfl rfl)
theorem dX7_divides_37 : decode cX7_divides 37 = .ok (.invokevirtual 221, 3) := dk_182 0 221 (dk_at dksX7_divides_1 14 rfl rfl)
theorem dX7_divides_40 : decode cX7_divides 40 = .ok (.ireturn, 1) := dk_172 (dk_at dksX7_divides_1 17 rfl rfl)
theorem dX7_divides_41 : decode cX7_divides 41 = .ok (.aload_n 0, 1) := dk_42 (dk_at dksX7_divides_1 18 rfl rfl)
theorem dX7_divides_42 : decode cX7_divides 42 = .ok (.iload_n 2, 1) := dk_28 (dk_at dksX7_divides_1 19 rfl rfl)
theorem dX7_divides_43 : decode cX7_divides 43 = .ok (.invokevirtual 355, 3) := dk_182 1 99 (dk_at dksX7_divides_1 20 rfl rfl)
theorem dX7_divides_46 : decode cX7_divides 46 = .ok (.aload_n 0, 1) := dk_42 (dk_at dksX7_divides_1 23 rfl rfl)
theorem dX7_divides_47 : decode cX7_divides 47 = .ok (.iconst 1, 1) := dk_4 (dk_at dksX7_divides_2 0 rfl rfl)
theorem dX7_divides_48 : decode cX7_divides 48 = .ok (.iload_n 1, 1) := dk_27 (dk_at dksX7_divides_2 1 rfl rfl)
theorem dX7_divides_49 : decode cX7_divides 49 = .ok (.ishl, 1) := dk_120 (dk_at dksX7_divides_2 2 rfl rfl)
theorem dX7_divides_50 : decode cX7_divides 50 = .ok (.invokevirtual 358, 3) := dk_182 1 102 (dk_at dksX7_divides_2 3 rfl rfl)
theorem dX7_divides_53 : decode cX7_divides 53 = .ok (.ifCond .eq 22, 3) := dk_153 0 22 (dk_at dksX7_divides_2 6 rfl rfl)
theorem dX7_divides_56 : decode cX7_divides 56 = .ok (.aload_n 0, 1) := dk_42 (dk_at dksX7_divides_2 9 rfl rfl)
theorem dX7_divides_57 : decode cX7_divides 57 = .ok (.aload_n 0, 1) := dk_42 (dk_at dksX7_divides_2 10 rfl rfl)
theorem dX7_divides_58 : decode cX7_divides 58 = .ok (.getfield 328, 3) := dk_180 1 72 (dk_at dksX7_divides_2 11 rfl rfl)
theorem dX7_divides_61 : decode cX7_divides 61 = .ok (.ifCond .ne 7, 3) := dk_154 0 7 (dk_at dksX7_divides_2 14 rfl rfl)
theorem dX7_divides_64 : decode cX7_divides 64 = .ok (.iconst 1, 1) := dk_4 (dk_at dksX7_divides_2 17 rfl rfl)
theorem dX7_divides_65 : decode cX7_divides 65 = .ok (.goto 4, 3) := dk_167 0 4 (dk_at dksX7_divides_2 18 rfl rfl)
theorem dX7_divides_68 : decode cX7_divides 68 = .ok (.iconst 0, 1) := dk_3 (dk_at dksX7_divides_2 21 rfl rfl)
theorem dX7_divides_69 : decode cX7_divides 69 = .ok (.invokevirtual 248, 3) := dk_182 0 248 (dk_at dksX7_divides_3 0 rfl rfl)
theorem dX7_divides_72 : decode cX7_divides 72 = .ok (.goto 8, 3) := dk_167 0 8 (dk_at dksX7_divides_3 3 rfl rfl)
theorem dX7_divides_75 : decode cX7_divides 75 = .ok (.aload_n 0, 1) := dk_42 (dk_at dksX7_divides_3 6 rfl rfl)
theorem dX7_divides_76 : decode cX7_divides 76 = .ok (.iconst 3, 1) := dk_6 (dk_at dksX7_divides_3 7 rfl rfl)
theorem dX7_divides_77 : decode cX7_divides 77 = .ok (.invokevirtual 221, 3) := dk_182 0 221 (dk_at dksX7_divides_3 8 rfl rfl)
theorem dX7_divides_80 : decode cX7_divides 80 = .ok (.ireturn, 1) := dk_172 (dk_at dksX7_divides_3 11 rfl rfl)
abbrev cX7_missing : ByteArray := prog_10_method_73_code
def yX7_missing : MethodName := ⟨RX7, "missing", "(I)I"⟩
def dkwX7_missing_3 : List UInt8 := [160, 0, 11, 42, 6, 182, 0, 221, 167, 0, 8, 42, 29, 182, 0, 248, 172]
abbrev dktX7_missing_3 : List UInt8 := dkwX7_missing_3 ++ []
def dkwX7_missing_2 : List UInt8 := [155, 0, 20, 132, 3, 1, 42, 27, 21, 4, 4, 96, 182, 1, 117, 54, 4, 167, 255, 237, 21, 4, 16, 253]
abbrev dktX7_missing_2 : List UInt8 := dkwX7_missing_2 ++ dktX7_missing_3
def dkwX7_missing_1 : List UInt8 := [28, 158, 0, 9, 42, 28, 182, 0, 221, 172, 3, 62, 42, 27, 3, 182, 1, 117, 54, 4, 21, 4]
abbrev dktX7_missing_1 : List UInt8 := dkwX7_missing_1 ++ dktX7_missing_2
def dkwX7_missing_0 : List UInt8 := [42, 3, 181, 0, 89, 42, 180, 0, 227, 154, 0, 9, 42, 4, 182, 0, 221, 172, 42, 27, 182, 1, 93, 61]
abbrev dktX7_missing_0 : List UInt8 := dkwX7_missing_0 ++ dktX7_missing_1
theorem dksX7_missing_0 : cX7_missing.data.toList.drop 0 = dktX7_missing_0 := by decide +kernel
theorem dksX7_missing_1 : cX7_missing.data.toList.drop 24 = dktX7_missing_1 := dk_seg dksX7_missing_0 24 rfl rfl
theorem dksX7_missing_2 : cX7_missing.data.toList.drop 46 = dktX7_missing_2 := dk_seg dksX7_missing_1 22 rfl rfl
theorem dksX7_missing_3 : cX7_missing.data.toList.drop 70 = dktX7_missing_3 := dk_seg dksX7_missing_2 24 rfl rfl
theorem dX7_missing_0 : decode cX7_missing 0 = .ok (.aload_n 0, 1) := dk_42 (dk_at dksX7_missing_0 0 rfl rfl)
theorem dX7_missing_1 : decode cX7_missing 1 = .ok (.iconst 0, 1) := dk_3 (dk_at dksX7_missing_0 1 rfl rfl)
theorem dX7_missing_2 : decode cX7_missing 2 = .ok (.putfield 89, 3) := dk_181 0 89 (dk_at dksX7_missing_0 2 rfl rfl)
theorem dX7_missing_5 : decode cX7_missing 5 = .ok (.aload_n 0, 1) := dk_42 (dk_at dksX7_missing_0 5 rfl rfl)
theorem dX7_missing_6 : decode cX7_missing 6 = .ok (.getfield 227, 3) := dk_180 0 227 (dk_at dksX7_missing_0 6 rfl rfl)
theorem dX7_missing_9 : decode cX7_missing 9 = .ok (.ifCond .ne 9, 3) := dk_154 0 9 (dk_at dksX7_missing_0 9 rfl rfl)
theorem dX7_missing_12 : decode cX7_missing 12 = .ok (.aload_n 0, 1) := dk_42 (dk_at dksX7_missing_0 12 rfl rfl)
theorem dX7_missing_13 : decode cX7_missing 13 = .ok (.iconst 1, 1) := dk_4 (dk_at dksX7_missing_0 13 rfl rfl)
theorem dX7_missing_14 : decode cX7_missing 14 = .ok (.invokevirtual 221, 3) := dk_182 0 221 (dk_at dksX7_missing_0 14 rfl rfl)
theorem dX7_missing_17 : decode cX7_missing 17 = .ok (.ireturn, 1) := dk_172 (dk_at dksX7_missing_0 17 rfl rfl)
theorem dX7_missing_18 : decode cX7_missing 18 = .ok (.aload_n 0, 1) := dk_42 (dk_at dksX7_missing_0 18 rfl rfl)
theorem dX7_missing_19 : decode cX7_missing 19 = .ok (.iload_n 1, 1) := dk_27 (dk_at dksX7_missing_0 19 rfl rfl)
theorem dX7_missing_20 : decode cX7_missing 20 = .ok (.invokevirtual 349, 3) := dk_182 1 93 (dk_at dksX7_missing_0 20 rfl rfl)
theorem dX7_missing_23 : decode cX7_missing 23 = .ok (.istore_n 2, 1) := dk_61 (dk_at dksX7_missing_0 23 rfl rfl)
theorem dX7_missing_24 : decode cX7_missing 24 = .ok (.iload_n 2, 1) := dk_28 (dk_at dksX7_missing_1 0 rfl rfl)
theorem dX7_missing_25 : decode cX7_missing 25 = .ok (.ifCond .le 9, 3) := dk_158 0 9 (dk_at dksX7_missing_1 1 rfl rfl)
theorem dX7_missing_28 : decode cX7_missing 28 = .ok (.aload_n 0, 1) := dk_42 (dk_at dksX7_missing_1 4 rfl rfl)
theorem dX7_missing_29 : decode cX7_missing 29 = .ok (.iload_n 2, 1) := dk_28 (dk_at dksX7_missing_1 5 rfl rfl)
theorem dX7_missing_30 : decode cX7_missing 30 = .ok (.invokevirtual 221, 3) := dk_182 0 221 (dk_at dksX7_missing_1 6 rfl rfl)
theorem dX7_missing_33 : decode cX7_missing 33 = .ok (.ireturn, 1) := dk_172 (dk_at dksX7_missing_1 9 rfl rfl)
theorem dX7_missing_34 : decode cX7_missing 34 = .ok (.iconst 0, 1) := dk_3 (dk_at dksX7_missing_1 10 rfl rfl)
theorem dX7_missing_35 : decode cX7_missing 35 = .ok (.istore_n 3, 1) := dk_62 (dk_at dksX7_missing_1 11 rfl rfl)
theorem dX7_missing_36 : decode cX7_missing 36 = .ok (.aload_n 0, 1) := dk_42 (dk_at dksX7_missing_1 12 rfl rfl)
theorem dX7_missing_37 : decode cX7_missing 37 = .ok (.iload_n 1, 1) := dk_27 (dk_at dksX7_missing_1 13 rfl rfl)
theorem dX7_missing_38 : decode cX7_missing 38 = .ok (.iconst 0, 1) := dk_3 (dk_at dksX7_missing_1 14 rfl rfl)
theorem dX7_missing_39 : decode cX7_missing 39 = .ok (.invokevirtual 373, 3) := dk_182 1 117 (dk_at dksX7_missing_1 15 rfl rfl)
theorem dX7_missing_42 : decode cX7_missing 42 = .ok (.istore 4, 2) := dk_54 4 (dk_at dksX7_missing_1 18 rfl rfl)
theorem dX7_missing_44 : decode cX7_missing 44 = .ok (.iload 4, 2) := dk_21 4 (dk_at dksX7_missing_1 20 rfl rfl)
theorem dX7_missing_46 : decode cX7_missing 46 = .ok (.ifCond .lt 20, 3) := dk_155 0 20 (dk_at dksX7_missing_2 0 rfl rfl)
theorem dX7_missing_49 : decode cX7_missing 49 = .ok (.iinc 3 1, 3) := dk_132 3 1 (dk_at dksX7_missing_2 3 rfl rfl)
theorem dX7_missing_52 : decode cX7_missing 52 = .ok (.aload_n 0, 1) := dk_42 (dk_at dksX7_missing_2 6 rfl rfl)
theorem dX7_missing_53 : decode cX7_missing 53 = .ok (.iload_n 1, 1) := dk_27 (dk_at dksX7_missing_2 7 rfl rfl)
theorem dX7_missing_54 : decode cX7_missing 54 = .ok (.iload 4, 2) := dk_21 4 (dk_at dksX7_missing_2 8 rfl rfl)
theorem dX7_missing_56 : decode cX7_missing 56 = .ok (.iconst 1, 1) := dk_4 (dk_at dksX7_missing_2 10 rfl rfl)
theorem dX7_missing_57 : decode cX7_missing 57 = .ok (.iadd, 1) := dk_96 (dk_at dksX7_missing_2 11 rfl rfl)
theorem dX7_missing_58 : decode cX7_missing 58 = .ok (.invokevirtual 373, 3) := dk_182 1 117 (dk_at dksX7_missing_2 12 rfl rfl)
theorem dX7_missing_61 : decode cX7_missing 61 = .ok (.istore 4, 2) := dk_54 4 (dk_at dksX7_missing_2 15 rfl rfl)
theorem dX7_missing_63 : decode cX7_missing 63 = .ok (.goto (-19), 3) := dk_167 255 237 (dk_at dksX7_missing_2 17 rfl rfl)
theorem dX7_missing_66 : decode cX7_missing 66 = .ok (.iload 4, 2) := dk_21 4 (dk_at dksX7_missing_2 20 rfl rfl)
theorem dX7_missing_68 : decode cX7_missing 68 = .ok (.bipush (-3), 2) := dk_16 253 (dk_at dksX7_missing_2 22 rfl rfl)
theorem dX7_missing_70 : decode cX7_missing 70 = .ok (.if_icmp .ne 11, 3) := dk_160 0 11 (dk_at dksX7_missing_3 0 rfl rfl)
theorem dX7_missing_73 : decode cX7_missing 73 = .ok (.aload_n 0, 1) := dk_42 (dk_at dksX7_missing_3 3 rfl rfl)
theorem dX7_missing_74 : decode cX7_missing 74 = .ok (.iconst 3, 1) := dk_6 (dk_at dksX7_missing_3 4 rfl rfl)
theorem dX7_missing_75 : decode cX7_missing 75 = .ok (.invokevirtual 221, 3) := dk_182 0 221 (dk_at dksX7_missing_3 5 rfl rfl)
theorem dX7_missing_78 : decode cX7_missing 78 = .ok (.goto 8, 3) := dk_167 0 8 (dk_at dksX7_missing_3 8 rfl rfl)
theorem dX7_missing_81 : decode cX7_missing 81 = .ok (.aload_n 0, 1) := dk_42 (dk_at dksX7_missing_3 11 rfl rfl)
theorem dX7_missing_82 : decode cX7_missing 82 = .ok (.iload_n 3, 1) := dk_29 (dk_at dksX7_missing_3 12 rfl rfl)
theorem dX7_missing_83 : decode cX7_missing 83 = .ok (.invokevirtual 248, 3) := dk_182 0 248 (dk_at dksX7_missing_3 13 rfl rfl)
theorem dX7_missing_86 : decode cX7_missing 86 = .ok (.ireturn, 1) := dk_172 (dk_at dksX7_missing_3 16 rfl rfl)
abbrev cX7_firstMissing : ByteArray := prog_10_method_72_code
def yX7_firstMissing : MethodName := ⟨RX7, "firstMissing", "(II)I"⟩
def dkwX7_firstMissing_3 : List UInt8 := [180, 1, 72, 158, 0, 5, 29, 172, 132, 3, 1, 167, 255, 176, 2, 172]
abbrev dktX7_firstMissing_3 : List UInt8 := dkwX7_firstMissing_3 ++ []
def dkwX7_firstMissing_2 : List UInt8 := [42, 21, 4, 21, 5, 182, 1, 114, 153, 0, 11, 42, 27, 182, 1, 102, 154, 0, 6, 16, 253, 172, 42]
abbrev dktX7_firstMissing_2 : List UInt8 := dkwX7_firstMissing_2 ++ dktX7_firstMissing_3
def dkwX7_firstMissing_1 : List UInt8 := [162, 0, 55, 27, 21, 4, 122, 4, 126, 153, 0, 46, 27, 21, 5, 122, 4, 126, 154, 0, 6, 167, 0, 34]
abbrev dktX7_firstMissing_1 : List UInt8 := dkwX7_firstMissing_1 ++ dktX7_firstMissing_2
def dkwX7_firstMissing_0 : List UInt8 := [28, 62, 29, 16, 64, 162, 0, 80, 29, 16, 8, 108, 54, 4, 29, 16, 8, 112, 54, 5, 21, 4, 21, 5]
abbrev dktX7_firstMissing_0 : List UInt8 := dkwX7_firstMissing_0 ++ dktX7_firstMissing_1
theorem dksX7_firstMissing_0 : cX7_firstMissing.data.toList.drop 0 = dktX7_firstMissing_0 := by decide +kernel
theorem dksX7_firstMissing_1 : cX7_firstMissing.data.toList.drop 24 = dktX7_firstMissing_1 := dk_seg dksX7_firstMissing_0 24 rfl rfl
theorem dksX7_firstMissing_2 : cX7_firstMissing.data.toList.drop 48 = dktX7_firstMissing_2 := dk_seg dksX7_firstMissing_1 24 rfl rfl
theorem dksX7_firstMissing_3 : cX7_firstMissing.data.toList.drop 71 = dktX7_firstMissing_3 := dk_seg dksX7_firstMissing_2 23 rfl rfl
theorem dX7_firstMissing_0 : decode cX7_firstMissing 0 = .ok (.iload_n 2, 1) := dk_28 (dk_at dksX7_firstMissing_0 0 rfl rfl)
theorem dX7_firstMissing_1 : decode cX7_firstMissing 1 = .ok (.istore_n 3, 1) := dk_62 (dk_at dksX7_firstMissing_0 1 rfl rfl)
theorem dX7_firstMissing_2 : decode cX7_firstMissing 2 = .ok (.iload_n 3, 1) := dk_29 (dk_at dksX7_firstMissing_0 2 rfl rfl)
theorem dX7_firstMissing_3 : decode cX7_firstMissing 3 = .ok (.bipush 64, 2) := dk_16 64 (dk_at dksX7_firstMissing_0 3 rfl rfl)
theorem dX7_firstMissing_5 : decode cX7_firstMissing 5 = .ok (.if_icmp .ge 80, 3) := dk_162 0 80 (dk_at dksX7_firstMissing_0 5 rfl rfl)
theorem dX7_firstMissing_8 : decode cX7_firstMissing 8 = .ok (.iload_n 3, 1) := dk_29 (dk_at dksX7_firstMissing_0 8 rfl rfl)
theorem dX7_firstMissing_9 : decode cX7_firstMissing 9 = .ok (.bipush 8, 2) := dk_16 8 (dk_at dksX7_firstMissing_0 9 rfl rfl)
theorem dX7_firstMissing_11 : decode cX7_firstMissing 11 = .ok (.idiv, 1) := dk_108 (dk_at dksX7_firstMissing_0 11 rfl rfl)
theorem dX7_firstMissing_12 : decode cX7_firstMissing 12 = .ok (.istore 4, 2) := dk_54 4 (dk_at dksX7_firstMissing_0 12 rfl rfl)
theorem dX7_firstMissing_14 : decode cX7_firstMissing 14 = .ok (.iload_n 3, 1) := dk_29 (dk_at dksX7_firstMissing_0 14 rfl rfl)
theorem dX7_firstMissing_15 : decode cX7_firstMissing 15 = .ok (.bipush 8, 2) := dk_16 8 (dk_at dksX7_firstMissing_0 15 rfl rfl)
theorem dX7_firstMissing_17 : decode cX7_firstMissing 17 = .ok (.irem, 1) := dk_112 (dk_at dksX7_firstMissing_0 17 rfl rfl)
theorem dX7_firstMissing_18 : decode cX7_firstMissing 18 = .ok (.istore 5, 2) := dk_54 5 (dk_at dksX7_firstMissing_0 18 rfl rfl)
theorem dX7_firstMissing_20 : decode cX7_firstMissing 20 = .ok (.iload 4, 2) := dk_21 4 (dk_at dksX7_firstMissing_0 20 rfl rfl)
theorem dX7_firstMissing_22 : decode cX7_firstMissing 22 = .ok (.iload 5, 2) := dk_21 5 (dk_at dksX7_firstMissing_0 22 rfl rfl)
theorem dX7_firstMissing_24 : decode cX7_firstMissing 24 = .ok (.if_icmp .ge 55, 3) := dk_162 0 55 (dk_at dksX7_firstMissing_1 0 rfl rfl)
theorem dX7_firstMissing_27 : decode cX7_firstMissing 27 = .ok (.iload_n 1, 1) := dk_27 (dk_at dksX7_firstMissing_1 3 rfl rfl)
theorem dX7_firstMissing_28 : decode cX7_firstMissing 28 = .ok (.iload 4, 2) := dk_21 4 (dk_at dksX7_firstMissing_1 4 rfl rfl)
theorem dX7_firstMissing_30 : decode cX7_firstMissing 30 = .ok (.ishr, 1) := dk_122 (dk_at dksX7_firstMissing_1 6 rfl rfl)
theorem dX7_firstMissing_31 : decode cX7_firstMissing 31 = .ok (.iconst 1, 1) := dk_4 (dk_at dksX7_firstMissing_1 7 rfl rfl)
theorem dX7_firstMissing_32 : decode cX7_firstMissing 32 = .ok (.iand, 1) := dk_126 (dk_at dksX7_firstMissing_1 8 rfl rfl)
theorem dX7_firstMissing_33 : decode cX7_firstMissing 33 = .ok (.ifCond .eq 46, 3) := dk_153 0 46 (dk_at dksX7_firstMissing_1 9 rfl rfl)
theorem dX7_firstMissing_36 : decode cX7_firstMissing 36 = .ok (.iload_n 1, 1) := dk_27 (dk_at dksX7_firstMissing_1 12 rfl rfl)
theorem dX7_firstMissing_37 : decode cX7_firstMissing 37 = .ok (.iload 5, 2) := dk_21 5 (dk_at dksX7_firstMissing_1 13 rfl rfl)
theorem dX7_firstMissing_39 : decode cX7_firstMissing 39 = .ok (.ishr, 1) := dk_122 (dk_at dksX7_firstMissing_1 15 rfl rfl)
theorem dX7_firstMissing_40 : decode cX7_firstMissing 40 = .ok (.iconst 1, 1) := dk_4 (dk_at dksX7_firstMissing_1 16 rfl rfl)
theorem dX7_firstMissing_41 : decode cX7_firstMissing 41 = .ok (.iand, 1) := dk_126 (dk_at dksX7_firstMissing_1 17 rfl rfl)
theorem dX7_firstMissing_42 : decode cX7_firstMissing 42 = .ok (.ifCond .ne 6, 3) := dk_154 0 6 (dk_at dksX7_firstMissing_1 18 rfl rfl)
theorem dX7_firstMissing_45 : decode cX7_firstMissing 45 = .ok (.goto 34, 3) := dk_167 0 34 (dk_at dksX7_firstMissing_1 21 rfl rfl)
theorem dX7_firstMissing_48 : decode cX7_firstMissing 48 = .ok (.aload_n 0, 1) := dk_42 (dk_at dksX7_firstMissing_2 0 rfl rfl)
theorem dX7_firstMissing_49 : decode cX7_firstMissing 49 = .ok (.iload 4, 2) := dk_21 4 (dk_at dksX7_firstMissing_2 1 rfl rfl)
theorem dX7_firstMissing_51 : decode cX7_firstMissing 51 = .ok (.iload 5, 2) := dk_21 5 (dk_at dksX7_firstMissing_2 3 rfl rfl)
theorem dX7_firstMissing_53 : decode cX7_firstMissing 53 = .ok (.invokevirtual 370, 3) := dk_182 1 114 (dk_at dksX7_firstMissing_2 5 rfl rfl)
theorem dX7_firstMissing_56 : decode cX7_firstMissing 56 = .ok (.ifCond .eq 11, 3) := dk_153 0 11 (dk_at dksX7_firstMissing_2 8 rfl rfl)
theorem dX7_firstMissing_59 : decode cX7_firstMissing 59 = .ok (.aload_n 0, 1) := dk_42 (dk_at dksX7_firstMissing_2 11 rfl rfl)
theorem dX7_firstMissing_60 : decode cX7_firstMissing 60 = .ok (.iload_n 1, 1) := dk_27 (dk_at dksX7_firstMissing_2 12 rfl rfl)
theorem dX7_firstMissing_61 : decode cX7_firstMissing 61 = .ok (.invokevirtual 358, 3) := dk_182 1 102 (dk_at dksX7_firstMissing_2 13 rfl rfl)
theorem dX7_firstMissing_64 : decode cX7_firstMissing 64 = .ok (.ifCond .ne 6, 3) := dk_154 0 6 (dk_at dksX7_firstMissing_2 16 rfl rfl)
theorem dX7_firstMissing_67 : decode cX7_firstMissing 67 = .ok (.bipush (-3), 2) := dk_16 253 (dk_at dksX7_firstMissing_2 19 rfl rfl)
theorem dX7_firstMissing_69 : decode cX7_firstMissing 69 = .ok (.ireturn, 1) := dk_172 (dk_at dksX7_firstMissing_2 21 rfl rfl)
theorem dX7_firstMissing_70 : decode cX7_firstMissing 70 = .ok (.aload_n 0, 1) := dk_42 (dk_at dksX7_firstMissing_2 22 rfl rfl)
theorem dX7_firstMissing_71 : decode cX7_firstMissing 71 = .ok (.getfield 328, 3) := dk_180 1 72 (dk_at dksX7_firstMissing_3 0 rfl rfl)
theorem dX7_firstMissing_74 : decode cX7_firstMissing 74 = .ok (.ifCond .le 5, 3) := dk_158 0 5 (dk_at dksX7_firstMissing_3 3 rfl rfl)
theorem dX7_firstMissing_77 : decode cX7_firstMissing 77 = .ok (.iload_n 3, 1) := dk_29 (dk_at dksX7_firstMissing_3 6 rfl rfl)
theorem dX7_firstMissing_78 : decode cX7_firstMissing 78 = .ok (.ireturn, 1) := dk_172 (dk_at dksX7_firstMissing_3 7 rfl rfl)
theorem dX7_firstMissing_79 : decode cX7_firstMissing 79 = .ok (.iinc 3 1, 3) := dk_132 3 1 (dk_at dksX7_firstMissing_3 8 rfl rfl)
theorem dX7_firstMissing_82 : decode cX7_firstMissing 82 = .ok (.goto (-80), 3) := dk_167 255 176 (dk_at dksX7_firstMissing_3 11 rfl rfl)
theorem dX7_firstMissing_85 : decode cX7_firstMissing 85 = .ok (.iconst (-1), 1) := dk_2 (dk_at dksX7_firstMissing_3 14 rfl rfl)
theorem dX7_firstMissing_86 : decode cX7_firstMissing 86 = .ok (.ireturn, 1) := dk_172 (dk_at dksX7_firstMissing_3 15 rfl rfl)
abbrev cX7_laysPair : ByteArray := prog_10_method_71_code
def yX7_laysPair : MethodName := ⟨RX7, "laysPair", "(II)Z"⟩
def dkwX7_laysPair_6 : List UInt8 := [16, 60, 163, 0, 7, 4, 167, 0, 4, 3, 172]
abbrev dktX7_laysPair_6 : List UInt8 := dkwX7_laysPair_6 ++ []
def dkwX7_laysPair_5 : List UInt8 := [182, 1, 81, 100, 21, 5, 21, 4, 100, 182, 1, 108, 42, 180, 1, 59, 153, 0, 16, 42, 182, 1, 111]
abbrev dktX7_laysPair_5 : List UInt8 := dkwX7_laysPair_5 ++ dktX7_laysPair_6
def dkwX7_laysPair_4 : List UInt8 := [182, 1, 81, 21, 5, 29, 100, 182, 1, 108, 42, 28, 42, 180, 0, 231, 42, 42, 28, 21, 4, 182, 1, 8]
abbrev dktX7_laysPair_4 : List UInt8 := dkwX7_laysPair_4 ++ dktX7_laysPair_5
def dkwX7_laysPair_3 : List UInt8 := [128, 54, 5, 132, 6, 1, 167, 255, 201, 42, 182, 1, 105, 42, 27, 42, 42, 27, 29, 182, 1, 8]
abbrev dktX7_laysPair_3 : List UInt8 := dkwX7_laysPair_3 ++ dktX7_laysPair_4
def dkwX7_laysPair_2 : List UInt8 := [184, 0, 95, 167, 0, 10, 21, 4, 21, 6, 184, 0, 95, 54, 7, 21, 5, 21, 7, 7, 21, 6, 104, 120]
abbrev dktX7_laysPair_2 : List UInt8 := dkwX7_laysPair_2 ++ dktX7_laysPair_3
def dkwX7_laysPair_1 : List UInt8 := [162, 0, 55, 29, 21, 6, 184, 0, 95, 21, 4, 21, 6, 184, 0, 95, 164, 0, 12, 29, 21, 6]
abbrev dktX7_laysPair_1 : List UInt8 := dkwX7_laysPair_1 ++ dktX7_laysPair_2
def dkwX7_laysPair_0 : List UInt8 := [42, 27, 182, 1, 78, 62, 42, 28, 182, 1, 78, 54, 4, 3, 54, 5, 3, 54, 6, 21, 6, 6]
abbrev dktX7_laysPair_0 : List UInt8 := dkwX7_laysPair_0 ++ dktX7_laysPair_1
theorem dksX7_laysPair_0 : cX7_laysPair.data.toList.drop 0 = dktX7_laysPair_0 := by decide +kernel
theorem dksX7_laysPair_1 : cX7_laysPair.data.toList.drop 22 = dktX7_laysPair_1 := dk_seg dksX7_laysPair_0 22 rfl rfl
theorem dksX7_laysPair_2 : cX7_laysPair.data.toList.drop 44 = dktX7_laysPair_2 := dk_seg dksX7_laysPair_1 22 rfl rfl
theorem dksX7_laysPair_3 : cX7_laysPair.data.toList.drop 68 = dktX7_laysPair_3 := dk_seg dksX7_laysPair_2 24 rfl rfl
theorem dksX7_laysPair_4 : cX7_laysPair.data.toList.drop 90 = dktX7_laysPair_4 := dk_seg dksX7_laysPair_3 22 rfl rfl
theorem dksX7_laysPair_5 : cX7_laysPair.data.toList.drop 114 = dktX7_laysPair_5 := dk_seg dksX7_laysPair_4 24 rfl rfl
theorem dksX7_laysPair_6 : cX7_laysPair.data.toList.drop 137 = dktX7_laysPair_6 := dk_seg dksX7_laysPair_5 23 rfl rfl
theorem dX7_laysPair_0 : decode cX7_laysPair 0 = .ok (.aload_n 0, 1) := dk_42 (dk_at dksX7_laysPair_0 0 rfl rfl)
theorem dX7_laysPair_1 : decode cX7_laysPair 1 = .ok (.iload_n 1, 1) := dk_27 (dk_at dksX7_laysPair_0 1 rfl rfl)
theorem dX7_laysPair_2 : decode cX7_laysPair 2 = .ok (.invokevirtual 334, 3) := dk_182 1 78 (dk_at dksX7_laysPair_0 2 rfl rfl)
theorem dX7_laysPair_5 : decode cX7_laysPair 5 = .ok (.istore_n 3, 1) := dk_62 (dk_at dksX7_laysPair_0 5 rfl rfl)
theorem dX7_laysPair_6 : decode cX7_laysPair 6 = .ok (.aload_n 0, 1) := dk_42 (dk_at dksX7_laysPair_0 6 rfl rfl)
theorem dX7_laysPair_7 : decode cX7_laysPair 7 = .ok (.iload_n 2, 1) := dk_28 (dk_at dksX7_laysPair_0 7 rfl rfl)
theorem dX7_laysPair_8 : decode cX7_laysPair 8 = .ok (.invokevirtual 334, 3) := dk_182 1 78 (dk_at dksX7_laysPair_0 8 rfl rfl)
theorem dX7_laysPair_11 : decode cX7_laysPair 11 = .ok (.istore 4, 2) := dk_54 4 (dk_at dksX7_laysPair_0 11 rfl rfl)
theorem dX7_laysPair_13 : decode cX7_laysPair 13 = .ok (.iconst 0, 1) := dk_3 (dk_at dksX7_laysPair_0 13 rfl rfl)
theorem dX7_laysPair_14 : decode cX7_laysPair 14 = .ok (.istore 5, 2) := dk_54 5 (dk_at dksX7_laysPair_0 14 rfl rfl)
theorem dX7_laysPair_16 : decode cX7_laysPair 16 = .ok (.iconst 0, 1) := dk_3 (dk_at dksX7_laysPair_0 16 rfl rfl)
theorem dX7_laysPair_17 : decode cX7_laysPair 17 = .ok (.istore 6, 2) := dk_54 6 (dk_at dksX7_laysPair_0 17 rfl rfl)
theorem dX7_laysPair_19 : decode cX7_laysPair 19 = .ok (.iload 6, 2) := dk_21 6 (dk_at dksX7_laysPair_0 19 rfl rfl)
theorem dX7_laysPair_21 : decode cX7_laysPair 21 = .ok (.iconst 3, 1) := dk_6 (dk_at dksX7_laysPair_0 21 rfl rfl)
theorem dX7_laysPair_22 : decode cX7_laysPair 22 = .ok (.if_icmp .ge 55, 3) := dk_162 0 55 (dk_at dksX7_laysPair_1 0 rfl rfl)
theorem dX7_laysPair_25 : decode cX7_laysPair 25 = .ok (.iload_n 3, 1) := dk_29 (dk_at dksX7_laysPair_1 3 rfl rfl)
theorem dX7_laysPair_26 : decode cX7_laysPair 26 = .ok (.iload 6, 2) := dk_21 6 (dk_at dksX7_laysPair_1 4 rfl rfl)
theorem dX7_laysPair_28 : decode cX7_laysPair 28 = .ok (.invokestatic 95, 3) := dk_184 0 95 (dk_at dksX7_laysPair_1 6 rfl rfl)
theorem dX7_laysPair_31 : decode cX7_laysPair 31 = .ok (.iload 4, 2) := dk_21 4 (dk_at dksX7_laysPair_1 9 rfl rfl)
theorem dX7_laysPair_33 : decode cX7_laysPair 33 = .ok (.iload 6, 2) := dk_21 6 (dk_at dksX7_laysPair_1 11 rfl rfl)
theorem dX7_laysPair_35 : decode cX7_laysPair 35 = .ok (.invokestatic 95, 3) := dk_184 0 95 (dk_at dksX7_laysPair_1 13 rfl rfl)
theorem dX7_laysPair_38 : decode cX7_laysPair 38 = .ok (.if_icmp .le 12, 3) := dk_164 0 12 (dk_at dksX7_laysPair_1 16 rfl rfl)
theorem dX7_laysPair_41 : decode cX7_laysPair 41 = .ok (.iload_n 3, 1) := dk_29 (dk_at dksX7_laysPair_1 19 rfl rfl)
theorem dX7_laysPair_42 : decode cX7_laysPair 42 = .ok (.iload 6, 2) := dk_21 6 (dk_at dksX7_laysPair_1 20 rfl rfl)
theorem dX7_laysPair_44 : decode cX7_laysPair 44 = .ok (.invokestatic 95, 3) := dk_184 0 95 (dk_at dksX7_laysPair_2 0 rfl rfl)
theorem dX7_laysPair_47 : decode cX7_laysPair 47 = .ok (.goto 10, 3) := dk_167 0 10 (dk_at dksX7_laysPair_2 3 rfl rfl)
theorem dX7_laysPair_50 : decode cX7_laysPair 50 = .ok (.iload 4, 2) := dk_21 4 (dk_at dksX7_laysPair_2 6 rfl rfl)
theorem dX7_laysPair_52 : decode cX7_laysPair 52 = .ok (.iload 6, 2) := dk_21 6 (dk_at dksX7_laysPair_2 8 rfl rfl)
theorem dX7_laysPair_54 : decode cX7_laysPair 54 = .ok (.invokestatic 95, 3) := dk_184 0 95 (dk_at dksX7_laysPair_2 10 rfl rfl)
theorem dX7_laysPair_57 : decode cX7_laysPair 57 = .ok (.istore 7, 2) := dk_54 7 (dk_at dksX7_laysPair_2 13 rfl rfl)
theorem dX7_laysPair_59 : decode cX7_laysPair 59 = .ok (.iload 5, 2) := dk_21 5 (dk_at dksX7_laysPair_2 15 rfl rfl)
theorem dX7_laysPair_61 : decode cX7_laysPair 61 = .ok (.iload 7, 2) := dk_21 7 (dk_at dksX7_laysPair_2 17 rfl rfl)
theorem dX7_laysPair_63 : decode cX7_laysPair 63 = .ok (.iconst 4, 1) := dk_7 (dk_at dksX7_laysPair_2 19 rfl rfl)
theorem dX7_laysPair_64 : decode cX7_laysPair 64 = .ok (.iload 6, 2) := dk_21 6 (dk_at dksX7_laysPair_2 20 rfl rfl)
theorem dX7_laysPair_66 : decode cX7_laysPair 66 = .ok (.imul, 1) := dk_104 (dk_at dksX7_laysPair_2 22 rfl rfl)
theorem dX7_laysPair_67 : decode cX7_laysPair 67 = .ok (.ishl, 1) := dk_120 (dk_at dksX7_laysPair_2 23 rfl rfl)
theorem dX7_laysPair_68 : decode cX7_laysPair 68 = .ok (.ior, 1) := dk_128 (dk_at dksX7_laysPair_3 0 rfl rfl)
theorem dX7_laysPair_69 : decode cX7_laysPair 69 = .ok (.istore 5, 2) := dk_54 5 (dk_at dksX7_laysPair_3 1 rfl rfl)
theorem dX7_laysPair_71 : decode cX7_laysPair 71 = .ok (.iinc 6 1, 3) := dk_132 6 1 (dk_at dksX7_laysPair_3 3 rfl rfl)
theorem dX7_laysPair_74 : decode cX7_laysPair 74 = .ok (.goto (-55), 3) := dk_167 255 201 (dk_at dksX7_laysPair_3 6 rfl rfl)
theorem dX7_laysPair_77 : decode cX7_laysPair 77 = .ok (.aload_n 0, 1) := dk_42 (dk_at dksX7_laysPair_3 9 rfl rfl)
theorem dX7_laysPair_78 : decode cX7_laysPair 78 = .ok (.invokevirtual 361, 3) := dk_182 1 105 (dk_at dksX7_laysPair_3 10 rfl rfl)
theorem dX7_laysPair_81 : decode cX7_laysPair 81 = .ok (.aload_n 0, 1) := dk_42 (dk_at dksX7_laysPair_3 13 rfl rfl)
theorem dX7_laysPair_82 : decode cX7_laysPair 82 = .ok (.iload_n 1, 1) := dk_27 (dk_at dksX7_laysPair_3 14 rfl rfl)
theorem dX7_laysPair_83 : decode cX7_laysPair 83 = .ok (.aload_n 0, 1) := dk_42 (dk_at dksX7_laysPair_3 15 rfl rfl)
theorem dX7_laysPair_84 : decode cX7_laysPair 84 = .ok (.aload_n 0, 1) := dk_42 (dk_at dksX7_laysPair_3 16 rfl rfl)
theorem dX7_laysPair_85 : decode cX7_laysPair 85 = .ok (.iload_n 1, 1) := dk_27 (dk_at dksX7_laysPair_3 17 rfl rfl)
theorem dX7_laysPair_86 : decode cX7_laysPair 86 = .ok (.iload_n 3, 1) := dk_29 (dk_at dksX7_laysPair_3 18 rfl rfl)
theorem dX7_laysPair_87 : decode cX7_laysPair 87 = .ok (.invokevirtual 264, 3) := dk_182 1 8 (dk_at dksX7_laysPair_3 19 rfl rfl)
theorem dX7_laysPair_90 : decode cX7_laysPair 90 = .ok (.invokevirtual 337, 3) := dk_182 1 81 (dk_at dksX7_laysPair_4 0 rfl rfl)
theorem dX7_laysPair_93 : decode cX7_laysPair 93 = .ok (.iload 5, 2) := dk_21 5 (dk_at dksX7_laysPair_4 3 rfl rfl)
theorem dX7_laysPair_95 : decode cX7_laysPair 95 = .ok (.iload_n 3, 1) := dk_29 (dk_at dksX7_laysPair_4 5 rfl rfl)
theorem dX7_laysPair_96 : decode cX7_laysPair 96 = .ok (.isub, 1) := dk_100 (dk_at dksX7_laysPair_4 6 rfl rfl)
theorem dX7_laysPair_97 : decode cX7_laysPair 97 = .ok (.invokevirtual 364, 3) := dk_182 1 108 (dk_at dksX7_laysPair_4 7 rfl rfl)
theorem dX7_laysPair_100 : decode cX7_laysPair 100 = .ok (.aload_n 0, 1) := dk_42 (dk_at dksX7_laysPair_4 10 rfl rfl)
theorem dX7_laysPair_101 : decode cX7_laysPair 101 = .ok (.iload_n 2, 1) := dk_28 (dk_at dksX7_laysPair_4 11 rfl rfl)
theorem dX7_laysPair_102 : decode cX7_laysPair 102 = .ok (.aload_n 0, 1) := dk_42 (dk_at dksX7_laysPair_4 12 rfl rfl)
theorem dX7_laysPair_103 : decode cX7_laysPair 103 = .ok (.getfield 231, 3) := dk_180 0 231 (dk_at dksX7_laysPair_4 13 rfl rfl)
theorem dX7_laysPair_106 : decode cX7_laysPair 106 = .ok (.aload_n 0, 1) := dk_42 (dk_at dksX7_laysPair_4 16 rfl rfl)
theorem dX7_laysPair_107 : decode cX7_laysPair 107 = .ok (.aload_n 0, 1) := dk_42 (dk_at dksX7_laysPair_4 17 rfl rfl)
theorem dX7_laysPair_108 : decode cX7_laysPair 108 = .ok (.iload_n 2, 1) := dk_28 (dk_at dksX7_laysPair_4 18 rfl rfl)
theorem dX7_laysPair_109 : decode cX7_laysPair 109 = .ok (.iload 4, 2) := dk_21 4 (dk_at dksX7_laysPair_4 19 rfl rfl)
theorem dX7_laysPair_111 : decode cX7_laysPair 111 = .ok (.invokevirtual 264, 3) := dk_182 1 8 (dk_at dksX7_laysPair_4 21 rfl rfl)
theorem dX7_laysPair_114 : decode cX7_laysPair 114 = .ok (.invokevirtual 337, 3) := dk_182 1 81 (dk_at dksX7_laysPair_5 0 rfl rfl)
theorem dX7_laysPair_117 : decode cX7_laysPair 117 = .ok (.isub, 1) := dk_100 (dk_at dksX7_laysPair_5 3 rfl rfl)
theorem dX7_laysPair_118 : decode cX7_laysPair 118 = .ok (.iload 5, 2) := dk_21 5 (dk_at dksX7_laysPair_5 4 rfl rfl)
theorem dX7_laysPair_120 : decode cX7_laysPair 120 = .ok (.iload 4, 2) := dk_21 4 (dk_at dksX7_laysPair_5 6 rfl rfl)
theorem dX7_laysPair_122 : decode cX7_laysPair 122 = .ok (.isub, 1) := dk_100 (dk_at dksX7_laysPair_5 8 rfl rfl)
theorem dX7_laysPair_123 : decode cX7_laysPair 123 = .ok (.invokevirtual 364, 3) := dk_182 1 108 (dk_at dksX7_laysPair_5 9 rfl rfl)
theorem dX7_laysPair_126 : decode cX7_laysPair 126 = .ok (.aload_n 0, 1) := dk_42 (dk_at dksX7_laysPair_5 12 rfl rfl)
theorem dX7_laysPair_127 : decode cX7_laysPair 127 = .ok (.getfield 315, 3) := dk_180 1 59 (dk_at dksX7_laysPair_5 13 rfl rfl)
theorem dX7_laysPair_130 : decode cX7_laysPair 130 = .ok (.ifCond .eq 16, 3) := dk_153 0 16 (dk_at dksX7_laysPair_5 16 rfl rfl)
theorem dX7_laysPair_133 : decode cX7_laysPair 133 = .ok (.aload_n 0, 1) := dk_42 (dk_at dksX7_laysPair_5 19 rfl rfl)
theorem dX7_laysPair_134 : decode cX7_laysPair 134 = .ok (.invokevirtual 367, 3) := dk_182 1 111 (dk_at dksX7_laysPair_5 20 rfl rfl)
theorem dX7_laysPair_137 : decode cX7_laysPair 137 = .ok (.bipush 60, 2) := dk_16 60 (dk_at dksX7_laysPair_6 0 rfl rfl)
theorem dX7_laysPair_139 : decode cX7_laysPair 139 = .ok (.if_icmp .gt 7, 3) := dk_163 0 7 (dk_at dksX7_laysPair_6 2 rfl rfl)
theorem dX7_laysPair_142 : decode cX7_laysPair 142 = .ok (.iconst 1, 1) := dk_4 (dk_at dksX7_laysPair_6 5 rfl rfl)
theorem dX7_laysPair_143 : decode cX7_laysPair 143 = .ok (.goto 4, 3) := dk_167 0 4 (dk_at dksX7_laysPair_6 6 rfl rfl)
theorem dX7_laysPair_146 : decode cX7_laysPair 146 = .ok (.iconst 0, 1) := dk_3 (dk_at dksX7_laysPair_6 9 rfl rfl)
theorem dX7_laysPair_147 : decode cX7_laysPair 147 = .ok (.ireturn, 1) := dk_172 (dk_at dksX7_laysPair_6 10 rfl rfl)
abbrev cX7_clears : ByteArray := prog_10_method_57_code
def yX7_clears : MethodName := ⟨RX7, "clears", "()V"⟩
def dkwX7_clears_1 : List UInt8 := [181, 1, 59, 177]
abbrev dktX7_clears_1 : List UInt8 := dkwX7_clears_1 ++ []
def dkwX7_clears_0 : List UInt8 := [3, 60, 27, 17, 16, 0, 162, 0, 16, 42, 180, 0, 31, 27, 3, 79, 132, 1, 1, 167, 255, 239, 42, 4]
abbrev dktX7_clears_0 : List UInt8 := dkwX7_clears_0 ++ dktX7_clears_1
theorem dksX7_clears_0 : cX7_clears.data.toList.drop 0 = dktX7_clears_0 := by decide +kernel
theorem dksX7_clears_1 : cX7_clears.data.toList.drop 24 = dktX7_clears_1 := dk_seg dksX7_clears_0 24 rfl rfl
theorem dX7_clears_0 : decode cX7_clears 0 = .ok (.iconst 0, 1) := dk_3 (dk_at dksX7_clears_0 0 rfl rfl)
theorem dX7_clears_1 : decode cX7_clears 1 = .ok (.istore_n 1, 1) := dk_60 (dk_at dksX7_clears_0 1 rfl rfl)
theorem dX7_clears_2 : decode cX7_clears 2 = .ok (.iload_n 1, 1) := dk_27 (dk_at dksX7_clears_0 2 rfl rfl)
theorem dX7_clears_3 : decode cX7_clears 3 = .ok (.sipush 4096, 3) := dk_17 16 0 (dk_at dksX7_clears_0 3 rfl rfl)
theorem dX7_clears_6 : decode cX7_clears 6 = .ok (.if_icmp .ge 16, 3) := dk_162 0 16 (dk_at dksX7_clears_0 6 rfl rfl)
theorem dX7_clears_9 : decode cX7_clears 9 = .ok (.aload_n 0, 1) := dk_42 (dk_at dksX7_clears_0 9 rfl rfl)
theorem dX7_clears_10 : decode cX7_clears 10 = .ok (.getfield 31, 3) := dk_180 0 31 (dk_at dksX7_clears_0 10 rfl rfl)
theorem dX7_clears_13 : decode cX7_clears 13 = .ok (.iload_n 1, 1) := dk_27 (dk_at dksX7_clears_0 13 rfl rfl)
theorem dX7_clears_14 : decode cX7_clears 14 = .ok (.iconst 0, 1) := dk_3 (dk_at dksX7_clears_0 14 rfl rfl)
theorem dX7_clears_15 : decode cX7_clears 15 = .ok (.iastore, 1) := dk_79 (dk_at dksX7_clears_0 15 rfl rfl)
theorem dX7_clears_16 : decode cX7_clears 16 = .ok (.iinc 1 1, 3) := dk_132 1 1 (dk_at dksX7_clears_0 16 rfl rfl)
theorem dX7_clears_19 : decode cX7_clears 19 = .ok (.goto (-17), 3) := dk_167 255 239 (dk_at dksX7_clears_0 19 rfl rfl)
theorem dX7_clears_22 : decode cX7_clears 22 = .ok (.aload_n 0, 1) := dk_42 (dk_at dksX7_clears_0 22 rfl rfl)
theorem dX7_clears_23 : decode cX7_clears 23 = .ok (.iconst 1, 1) := dk_4 (dk_at dksX7_clears_0 23 rfl rfl)
theorem dX7_clears_24 : decode cX7_clears 24 = .ok (.putfield 315, 3) := dk_181 1 59 (dk_at dksX7_clears_1 0 rfl rfl)
theorem dX7_clears_27 : decode cX7_clears 27 = .ok (.return_, 1) := dk_177 (dk_at dksX7_clears_1 3 rfl rfl)
abbrev cX7_puts : ByteArray := prog_10_method_59_code
def yX7_puts : MethodName := ⟨RX7, "puts", "(III)V"⟩
def dkwX7_puts_3 : List UInt8 := [182, 1, 8, 28, 104, 96, 42, 180, 0, 231, 112, 79, 132, 4, 1, 167, 255, 177, 177]
abbrev dktX7_puts_3 : List UInt8 := dkwX7_puts_3 ++ []
def dkwX7_puts_2 : List UInt8 := [181, 1, 59, 167, 0, 32, 42, 180, 0, 31, 21, 5, 42, 180, 0, 31, 21, 5, 46, 42, 27, 21, 4]
abbrev dktX7_puts_2 : List UInt8 := dkwX7_puts_2 ++ dktX7_puts_3
def dkwX7_puts_1 : List UInt8 := [154, 0, 6, 167, 0, 54, 21, 4, 29, 184, 1, 62, 54, 5, 21, 5, 2, 160, 0, 11, 42, 3]
abbrev dktX7_puts_1 : List UInt8 := dkwX7_puts_1 ++ dktX7_puts_2
def dkwX7_puts_0 : List UInt8 := [3, 54, 4, 21, 4, 17, 16, 0, 162, 0, 77, 42, 27, 21, 4, 182, 1, 8, 153, 0, 61, 28]
abbrev dktX7_puts_0 : List UInt8 := dkwX7_puts_0 ++ dktX7_puts_1
theorem dksX7_puts_0 : cX7_puts.data.toList.drop 0 = dktX7_puts_0 := by decide +kernel
theorem dksX7_puts_1 : cX7_puts.data.toList.drop 22 = dktX7_puts_1 := dk_seg dksX7_puts_0 22 rfl rfl
theorem dksX7_puts_2 : cX7_puts.data.toList.drop 44 = dktX7_puts_2 := dk_seg dksX7_puts_1 22 rfl rfl
theorem dksX7_puts_3 : cX7_puts.data.toList.drop 67 = dktX7_puts_3 := dk_seg dksX7_puts_2 23 rfl rfl
theorem dX7_puts_0 : decode cX7_puts 0 = .ok (.iconst 0, 1) := dk_3 (dk_at dksX7_puts_0 0 rfl rfl)
theorem dX7_puts_1 : decode cX7_puts 1 = .ok (.istore 4, 2) := dk_54 4 (dk_at dksX7_puts_0 1 rfl rfl)
theorem dX7_puts_3 : decode cX7_puts 3 = .ok (.iload 4, 2) := dk_21 4 (dk_at dksX7_puts_0 3 rfl rfl)
theorem dX7_puts_5 : decode cX7_puts 5 = .ok (.sipush 4096, 3) := dk_17 16 0 (dk_at dksX7_puts_0 5 rfl rfl)
theorem dX7_puts_8 : decode cX7_puts 8 = .ok (.if_icmp .ge 77, 3) := dk_162 0 77 (dk_at dksX7_puts_0 8 rfl rfl)
theorem dX7_puts_11 : decode cX7_puts 11 = .ok (.aload_n 0, 1) := dk_42 (dk_at dksX7_puts_0 11 rfl rfl)
theorem dX7_puts_12 : decode cX7_puts 12 = .ok (.iload_n 1, 1) := dk_27 (dk_at dksX7_puts_0 12 rfl rfl)
theorem dX7_puts_13 : decode cX7_puts 13 = .ok (.iload 4, 2) := dk_21 4 (dk_at dksX7_puts_0 13 rfl rfl)
theorem dX7_puts_15 : decode cX7_puts 15 = .ok (.invokevirtual 264, 3) := dk_182 1 8 (dk_at dksX7_puts_0 15 rfl rfl)
theorem dX7_puts_18 : decode cX7_puts 18 = .ok (.ifCond .eq 61, 3) := dk_153 0 61 (dk_at dksX7_puts_0 18 rfl rfl)
theorem dX7_puts_21 : decode cX7_puts 21 = .ok (.iload_n 2, 1) := dk_28 (dk_at dksX7_puts_0 21 rfl rfl)
theorem dX7_puts_22 : decode cX7_puts 22 = .ok (.ifCond .ne 6, 3) := dk_154 0 6 (dk_at dksX7_puts_1 0 rfl rfl)
theorem dX7_puts_25 : decode cX7_puts 25 = .ok (.goto 54, 3) := dk_167 0 54 (dk_at dksX7_puts_1 3 rfl rfl)
theorem dX7_puts_28 : decode cX7_puts 28 = .ok (.iload 4, 2) := dk_21 4 (dk_at dksX7_puts_1 6 rfl rfl)
theorem dX7_puts_30 : decode cX7_puts 30 = .ok (.iload_n 3, 1) := dk_29 (dk_at dksX7_puts_1 8 rfl rfl)
theorem dX7_puts_31 : decode cX7_puts 31 = .ok (.invokestatic 318, 3) := dk_184 1 62 (dk_at dksX7_puts_1 9 rfl rfl)
theorem dX7_puts_34 : decode cX7_puts 34 = .ok (.istore 5, 2) := dk_54 5 (dk_at dksX7_puts_1 12 rfl rfl)
theorem dX7_puts_36 : decode cX7_puts 36 = .ok (.iload 5, 2) := dk_21 5 (dk_at dksX7_puts_1 14 rfl rfl)
theorem dX7_puts_38 : decode cX7_puts 38 = .ok (.iconst (-1), 1) := dk_2 (dk_at dksX7_puts_1 16 rfl rfl)
theorem dX7_puts_39 : decode cX7_puts 39 = .ok (.if_icmp .ne 11, 3) := dk_160 0 11 (dk_at dksX7_puts_1 17 rfl rfl)
theorem dX7_puts_42 : decode cX7_puts 42 = .ok (.aload_n 0, 1) := dk_42 (dk_at dksX7_puts_1 20 rfl rfl)
theorem dX7_puts_43 : decode cX7_puts 43 = .ok (.iconst 0, 1) := dk_3 (dk_at dksX7_puts_1 21 rfl rfl)
theorem dX7_puts_44 : decode cX7_puts 44 = .ok (.putfield 315, 3) := dk_181 1 59 (dk_at dksX7_puts_2 0 rfl rfl)
theorem dX7_puts_47 : decode cX7_puts 47 = .ok (.goto 32, 3) := dk_167 0 32 (dk_at dksX7_puts_2 3 rfl rfl)
theorem dX7_puts_50 : decode cX7_puts 50 = .ok (.aload_n 0, 1) := dk_42 (dk_at dksX7_puts_2 6 rfl rfl)
theorem dX7_puts_51 : decode cX7_puts 51 = .ok (.getfield 31, 3) := dk_180 0 31 (dk_at dksX7_puts_2 7 rfl rfl)
theorem dX7_puts_54 : decode cX7_puts 54 = .ok (.iload 5, 2) := dk_21 5 (dk_at dksX7_puts_2 10 rfl rfl)
theorem dX7_puts_56 : decode cX7_puts 56 = .ok (.aload_n 0, 1) := dk_42 (dk_at dksX7_puts_2 12 rfl rfl)
theorem dX7_puts_57 : decode cX7_puts 57 = .ok (.getfield 31, 3) := dk_180 0 31 (dk_at dksX7_puts_2 13 rfl rfl)
theorem dX7_puts_60 : decode cX7_puts 60 = .ok (.iload 5, 2) := dk_21 5 (dk_at dksX7_puts_2 16 rfl rfl)
theorem dX7_puts_62 : decode cX7_puts 62 = .ok (.iaload, 1) := dk_46 (dk_at dksX7_puts_2 18 rfl rfl)
theorem dX7_puts_63 : decode cX7_puts 63 = .ok (.aload_n 0, 1) := dk_42 (dk_at dksX7_puts_2 19 rfl rfl)
theorem dX7_puts_64 : decode cX7_puts 64 = .ok (.iload_n 1, 1) := dk_27 (dk_at dksX7_puts_2 20 rfl rfl)
theorem dX7_puts_65 : decode cX7_puts 65 = .ok (.iload 4, 2) := dk_21 4 (dk_at dksX7_puts_2 21 rfl rfl)
theorem dX7_puts_67 : decode cX7_puts 67 = .ok (.invokevirtual 264, 3) := dk_182 1 8 (dk_at dksX7_puts_3 0 rfl rfl)
theorem dX7_puts_70 : decode cX7_puts 70 = .ok (.iload_n 2, 1) := dk_28 (dk_at dksX7_puts_3 3 rfl rfl)
theorem dX7_puts_71 : decode cX7_puts 71 = .ok (.imul, 1) := dk_104 (dk_at dksX7_puts_3 4 rfl rfl)
theorem dX7_puts_72 : decode cX7_puts 72 = .ok (.iadd, 1) := dk_96 (dk_at dksX7_puts_3 5 rfl rfl)
theorem dX7_puts_73 : decode cX7_puts 73 = .ok (.aload_n 0, 1) := dk_42 (dk_at dksX7_puts_3 6 rfl rfl)
theorem dX7_puts_74 : decode cX7_puts 74 = .ok (.getfield 231, 3) := dk_180 0 231 (dk_at dksX7_puts_3 7 rfl rfl)
theorem dX7_puts_77 : decode cX7_puts 77 = .ok (.irem, 1) := dk_112 (dk_at dksX7_puts_3 10 rfl rfl)
theorem dX7_puts_78 : decode cX7_puts 78 = .ok (.iastore, 1) := dk_79 (dk_at dksX7_puts_3 11 rfl rfl)
theorem dX7_puts_79 : decode cX7_puts 79 = .ok (.iinc 4 1, 3) := dk_132 4 1 (dk_at dksX7_puts_3 12 rfl rfl)
theorem dX7_puts_82 : decode cX7_puts 82 = .ok (.goto (-79), 3) := dk_167 255 177 (dk_at dksX7_puts_3 15 rfl rfl)
theorem dX7_puts_85 : decode cX7_puts 85 = .ok (.return_, 1) := dk_177 (dk_at dksX7_puts_3 18 rfl rfl)
abbrev cX7_workTerms : ByteArray := prog_10_method_58_code
def yX7_workTerms : MethodName := ⟨RX7, "workTerms", "()I"⟩
def dkwX7_workTerms_1 : List UInt8 := [167, 0, 4, 3, 96, 60, 132, 2, 1, 167, 255, 229, 27, 172]
abbrev dktX7_workTerms_1 : List UInt8 := dkwX7_workTerms_1 ++ []
def dkwX7_workTerms_0 : List UInt8 := [3, 60, 3, 61, 28, 17, 16, 0, 162, 0, 26, 27, 42, 180, 0, 31, 28, 46, 153, 0, 7, 4]
abbrev dktX7_workTerms_0 : List UInt8 := dkwX7_workTerms_0 ++ dktX7_workTerms_1
theorem dksX7_workTerms_0 : cX7_workTerms.data.toList.drop 0 = dktX7_workTerms_0 := by decide +kernel
theorem dksX7_workTerms_1 : cX7_workTerms.data.toList.drop 22 = dktX7_workTerms_1 := dk_seg dksX7_workTerms_0 22 rfl rfl
theorem dX7_workTerms_0 : decode cX7_workTerms 0 = .ok (.iconst 0, 1) := dk_3 (dk_at dksX7_workTerms_0 0 rfl rfl)
theorem dX7_workTerms_1 : decode cX7_workTerms 1 = .ok (.istore_n 1, 1) := dk_60 (dk_at dksX7_workTerms_0 1 rfl rfl)
theorem dX7_workTerms_2 : decode cX7_workTerms 2 = .ok (.iconst 0, 1) := dk_3 (dk_at dksX7_workTerms_0 2 rfl rfl)
theorem dX7_workTerms_3 : decode cX7_workTerms 3 = .ok (.istore_n 2, 1) := dk_61 (dk_at dksX7_workTerms_0 3 rfl rfl)
theorem dX7_workTerms_4 : decode cX7_workTerms 4 = .ok (.iload_n 2, 1) := dk_28 (dk_at dksX7_workTerms_0 4 rfl rfl)
theorem dX7_workTerms_5 : decode cX7_workTerms 5 = .ok (.sipush 4096, 3) := dk_17 16 0 (dk_at dksX7_workTerms_0 5 rfl rfl)
theorem dX7_workTerms_8 : decode cX7_workTerms 8 = .ok (.if_icmp .ge 26, 3) := dk_162 0 26 (dk_at dksX7_workTerms_0 8 rfl rfl)
theorem dX7_workTerms_11 : decode cX7_workTerms 11 = .ok (.iload_n 1, 1) := dk_27 (dk_at dksX7_workTerms_0 11 rfl rfl)
theorem dX7_workTerms_12 : decode cX7_workTerms 12 = .ok (.aload_n 0, 1) := dk_42 (dk_at dksX7_workTerms_0 12 rfl rfl)
theorem dX7_workTerms_13 : decode cX7_workTerms 13 = .ok (.getfield 31, 3) := dk_180 0 31 (dk_at dksX7_workTerms_0 13 rfl rfl)
theorem dX7_workTerms_16 : decode cX7_workTerms 16 = .ok (.iload_n 2, 1) := dk_28 (dk_at dksX7_workTerms_0 16 rfl rfl)
theorem dX7_workTerms_17 : decode cX7_workTerms 17 = .ok (.iaload, 1) := dk_46 (dk_at dksX7_workTerms_0 17 rfl rfl)
theorem dX7_workTerms_18 : decode cX7_workTerms 18 = .ok (.ifCond .eq 7, 3) := dk_153 0 7 (dk_at dksX7_workTerms_0 18 rfl rfl)
theorem dX7_workTerms_21 : decode cX7_workTerms 21 = .ok (.iconst 1, 1) := dk_4 (dk_at dksX7_workTerms_0 21 rfl rfl)
theorem dX7_workTerms_22 : decode cX7_workTerms 22 = .ok (.goto 4, 3) := dk_167 0 4 (dk_at dksX7_workTerms_1 0 rfl rfl)
theorem dX7_workTerms_25 : decode cX7_workTerms 25 = .ok (.iconst 0, 1) := dk_3 (dk_at dksX7_workTerms_1 3 rfl rfl)
theorem dX7_workTerms_26 : decode cX7_workTerms 26 = .ok (.iadd, 1) := dk_96 (dk_at dksX7_workTerms_1 4 rfl rfl)
theorem dX7_workTerms_27 : decode cX7_workTerms 27 = .ok (.istore_n 1, 1) := dk_60 (dk_at dksX7_workTerms_1 5 rfl rfl)
theorem dX7_workTerms_28 : decode cX7_workTerms 28 = .ok (.iinc 2 1, 3) := dk_132 2 1 (dk_at dksX7_workTerms_1 6 rfl rfl)
theorem dX7_workTerms_31 : decode cX7_workTerms 31 = .ok (.goto (-27), 3) := dk_167 255 229 (dk_at dksX7_workTerms_1 9 rfl rfl)
theorem dX7_workTerms_34 : decode cX7_workTerms 34 = .ok (.iload_n 1, 1) := dk_27 (dk_at dksX7_workTerms_1 12 rfl rfl)
theorem dX7_workTerms_35 : decode cX7_workTerms 35 = .ok (.ireturn, 1) := dk_172 (dk_at dksX7_workTerms_1 13 rfl rfl)
abbrev cX7_add : ByteArray := prog_10_method_77_code
def yX7_add : MethodName := ⟨RX7, "add", "(III)I"⟩
def dkwX7_add_1 : List UInt8 := [182, 1, 105, 42, 27, 4, 3, 182, 1, 108, 42, 28, 4, 3, 182, 1, 108, 42, 29, 182, 1, 126, 172]
abbrev dktX7_add_1 : List UInt8 := dkwX7_add_1 ++ []
def dkwX7_add_0 : List UInt8 := [42, 3, 181, 0, 89, 42, 27, 28, 29, 182, 1, 123, 154, 0, 9, 42, 4, 182, 0, 221, 172, 42]
abbrev dktX7_add_0 : List UInt8 := dkwX7_add_0 ++ dktX7_add_1
theorem dksX7_add_0 : cX7_add.data.toList.drop 0 = dktX7_add_0 := by decide +kernel
theorem dksX7_add_1 : cX7_add.data.toList.drop 22 = dktX7_add_1 := dk_seg dksX7_add_0 22 rfl rfl
theorem dX7_add_0 : decode cX7_add 0 = .ok (.aload_n 0, 1) := dk_42 (dk_at dksX7_add_0 0 rfl rfl)
theorem dX7_add_1 : decode cX7_add 1 = .ok (.iconst 0, 1) := dk_3 (dk_at dksX7_add_0 1 rfl rfl)
theorem dX7_add_2 : decode cX7_add 2 = .ok (.putfield 89, 3) := dk_181 0 89 (dk_at dksX7_add_0 2 rfl rfl)
theorem dX7_add_5 : decode cX7_add 5 = .ok (.aload_n 0, 1) := dk_42 (dk_at dksX7_add_0 5 rfl rfl)
theorem dX7_add_6 : decode cX7_add 6 = .ok (.iload_n 1, 1) := dk_27 (dk_at dksX7_add_0 6 rfl rfl)
theorem dX7_add_7 : decode cX7_add 7 = .ok (.iload_n 2, 1) := dk_28 (dk_at dksX7_add_0 7 rfl rfl)
theorem dX7_add_8 : decode cX7_add 8 = .ok (.iload_n 3, 1) := dk_29 (dk_at dksX7_add_0 8 rfl rfl)
theorem dX7_add_9 : decode cX7_add 9 = .ok (.invokevirtual 379, 3) := dk_182 1 123 (dk_at dksX7_add_0 9 rfl rfl)
theorem dX7_add_12 : decode cX7_add 12 = .ok (.ifCond .ne 9, 3) := dk_154 0 9 (dk_at dksX7_add_0 12 rfl rfl)
theorem dX7_add_15 : decode cX7_add 15 = .ok (.aload_n 0, 1) := dk_42 (dk_at dksX7_add_0 15 rfl rfl)
theorem dX7_add_16 : decode cX7_add 16 = .ok (.iconst 1, 1) := dk_4 (dk_at dksX7_add_0 16 rfl rfl)
theorem dX7_add_17 : decode cX7_add 17 = .ok (.invokevirtual 221, 3) := dk_182 0 221 (dk_at dksX7_add_0 17 rfl rfl)
theorem dX7_add_20 : decode cX7_add 20 = .ok (.ireturn, 1) := dk_172 (dk_at dksX7_add_0 20 rfl rfl)
theorem dX7_add_21 : decode cX7_add 21 = .ok (.aload_n 0, 1) := dk_42 (dk_at dksX7_add_0 21 rfl rfl)
theorem dX7_add_22 : decode cX7_add 22 = .ok (.invokevirtual 361, 3) := dk_182 1 105 (dk_at dksX7_add_1 0 rfl rfl)
theorem dX7_add_25 : decode cX7_add 25 = .ok (.aload_n 0, 1) := dk_42 (dk_at dksX7_add_1 3 rfl rfl)
theorem dX7_add_26 : decode cX7_add 26 = .ok (.iload_n 1, 1) := dk_27 (dk_at dksX7_add_1 4 rfl rfl)
theorem dX7_add_27 : decode cX7_add 27 = .ok (.iconst 1, 1) := dk_4 (dk_at dksX7_add_1 5 rfl rfl)
theorem dX7_add_28 : decode cX7_add 28 = .ok (.iconst 0, 1) := dk_3 (dk_at dksX7_add_1 6 rfl rfl)
theorem dX7_add_29 : decode cX7_add 29 = .ok (.invokevirtual 364, 3) := dk_182 1 108 (dk_at dksX7_add_1 7 rfl rfl)
theorem dX7_add_32 : decode cX7_add 32 = .ok (.aload_n 0, 1) := dk_42 (dk_at dksX7_add_1 10 rfl rfl)
theorem dX7_add_33 : decode cX7_add 33 = .ok (.iload_n 2, 1) := dk_28 (dk_at dksX7_add_1 11 rfl rfl)
theorem dX7_add_34 : decode cX7_add 34 = .ok (.iconst 1, 1) := dk_4 (dk_at dksX7_add_1 12 rfl rfl)
theorem dX7_add_35 : decode cX7_add 35 = .ok (.iconst 0, 1) := dk_3 (dk_at dksX7_add_1 13 rfl rfl)
theorem dX7_add_36 : decode cX7_add 36 = .ok (.invokevirtual 364, 3) := dk_182 1 108 (dk_at dksX7_add_1 14 rfl rfl)
theorem dX7_add_39 : decode cX7_add 39 = .ok (.aload_n 0, 1) := dk_42 (dk_at dksX7_add_1 17 rfl rfl)
theorem dX7_add_40 : decode cX7_add 40 = .ok (.iload_n 3, 1) := dk_29 (dk_at dksX7_add_1 18 rfl rfl)
theorem dX7_add_41 : decode cX7_add 41 = .ok (.invokevirtual 382, 3) := dk_182 1 126 (dk_at dksX7_add_1 19 rfl rfl)
theorem dX7_add_44 : decode cX7_add 44 = .ok (.ireturn, 1) := dk_172 (dk_at dksX7_add_1 22 rfl rfl)
abbrev cX7_areRegs : ByteArray := prog_10_method_76_code
def yX7_areRegs : MethodName := ⟨RX7, "areRegs", "(III)Z"⟩
def dkwX7_areRegs_1 : List UInt8 := [4, 167, 0, 4, 3, 172]
abbrev dktX7_areRegs_1 : List UInt8 := dkwX7_areRegs_1 ++ []
def dkwX7_areRegs_0 : List UInt8 := [42, 27, 182, 1, 20, 153, 0, 23, 42, 28, 182, 1, 20, 153, 0, 15, 42, 29, 182, 1, 20, 153, 0, 7]
abbrev dktX7_areRegs_0 : List UInt8 := dkwX7_areRegs_0 ++ dktX7_areRegs_1
theorem dksX7_areRegs_0 : cX7_areRegs.data.toList.drop 0 = dktX7_areRegs_0 := by decide +kernel
theorem dksX7_areRegs_1 : cX7_areRegs.data.toList.drop 24 = dktX7_areRegs_1 := dk_seg dksX7_areRegs_0 24 rfl rfl
theorem dX7_areRegs_0 : decode cX7_areRegs 0 = .ok (.aload_n 0, 1) := dk_42 (dk_at dksX7_areRegs_0 0 rfl rfl)
theorem dX7_areRegs_1 : decode cX7_areRegs 1 = .ok (.iload_n 1, 1) := dk_27 (dk_at dksX7_areRegs_0 1 rfl rfl)
theorem dX7_areRegs_2 : decode cX7_areRegs 2 = .ok (.invokevirtual 276, 3) := dk_182 1 20 (dk_at dksX7_areRegs_0 2 rfl rfl)
theorem dX7_areRegs_5 : decode cX7_areRegs 5 = .ok (.ifCond .eq 23, 3) := dk_153 0 23 (dk_at dksX7_areRegs_0 5 rfl rfl)
theorem dX7_areRegs_8 : decode cX7_areRegs 8 = .ok (.aload_n 0, 1) := dk_42 (dk_at dksX7_areRegs_0 8 rfl rfl)
theorem dX7_areRegs_9 : decode cX7_areRegs 9 = .ok (.iload_n 2, 1) := dk_28 (dk_at dksX7_areRegs_0 9 rfl rfl)
theorem dX7_areRegs_10 : decode cX7_areRegs 10 = .ok (.invokevirtual 276, 3) := dk_182 1 20 (dk_at dksX7_areRegs_0 10 rfl rfl)
theorem dX7_areRegs_13 : decode cX7_areRegs 13 = .ok (.ifCond .eq 15, 3) := dk_153 0 15 (dk_at dksX7_areRegs_0 13 rfl rfl)
theorem dX7_areRegs_16 : decode cX7_areRegs 16 = .ok (.aload_n 0, 1) := dk_42 (dk_at dksX7_areRegs_0 16 rfl rfl)
theorem dX7_areRegs_17 : decode cX7_areRegs 17 = .ok (.iload_n 3, 1) := dk_29 (dk_at dksX7_areRegs_0 17 rfl rfl)
theorem dX7_areRegs_18 : decode cX7_areRegs 18 = .ok (.invokevirtual 276, 3) := dk_182 1 20 (dk_at dksX7_areRegs_0 18 rfl rfl)
theorem dX7_areRegs_21 : decode cX7_areRegs 21 = .ok (.ifCond .eq 7, 3) := dk_153 0 7 (dk_at dksX7_areRegs_0 21 rfl rfl)
theorem dX7_areRegs_24 : decode cX7_areRegs 24 = .ok (.iconst 1, 1) := dk_4 (dk_at dksX7_areRegs_1 0 rfl rfl)
theorem dX7_areRegs_25 : decode cX7_areRegs 25 = .ok (.goto 4, 3) := dk_167 0 4 (dk_at dksX7_areRegs_1 1 rfl rfl)
theorem dX7_areRegs_28 : decode cX7_areRegs 28 = .ok (.iconst 0, 1) := dk_3 (dk_at dksX7_areRegs_1 4 rfl rfl)
theorem dX7_areRegs_29 : decode cX7_areRegs 29 = .ok (.ireturn, 1) := dk_172 (dk_at dksX7_areRegs_1 5 rfl rfl)
abbrev cX7_lays : ByteArray := prog_10_method_75_code
def yX7_lays : MethodName := ⟨RX7, "lays", "(I)I"⟩
def dkwX7_lays_2 : List UInt8 := [180, 0, 31, 28, 46, 79, 132, 2, 1, 167, 255, 228, 42, 42, 182, 1, 111, 182, 0, 248, 172]
abbrev dktX7_lays_2 : List UInt8 := dkwX7_lays_2 ++ []
def dkwX7_lays_1 : List UInt8 := [182, 1, 120, 3, 61, 28, 17, 16, 0, 162, 0, 27, 42, 180, 0, 14, 17, 16, 0, 27, 104, 28, 96, 42]
abbrev dktX7_lays_1 : List UInt8 := dkwX7_lays_1 ++ dktX7_lays_2
def dkwX7_lays_0 : List UInt8 := [42, 180, 1, 59, 153, 0, 12, 42, 182, 1, 111, 16, 60, 164, 0, 9, 42, 6, 182, 0, 221, 172, 42, 27]
abbrev dktX7_lays_0 : List UInt8 := dkwX7_lays_0 ++ dktX7_lays_1
theorem dksX7_lays_0 : cX7_lays.data.toList.drop 0 = dktX7_lays_0 := by decide +kernel
theorem dksX7_lays_1 : cX7_lays.data.toList.drop 24 = dktX7_lays_1 := dk_seg dksX7_lays_0 24 rfl rfl
theorem dksX7_lays_2 : cX7_lays.data.toList.drop 48 = dktX7_lays_2 := dk_seg dksX7_lays_1 24 rfl rfl
theorem dX7_lays_0 : decode cX7_lays 0 = .ok (.aload_n 0, 1) := dk_42 (dk_at dksX7_lays_0 0 rfl rfl)
theorem dX7_lays_1 : decode cX7_lays 1 = .ok (.getfield 315, 3) := dk_180 1 59 (dk_at dksX7_lays_0 1 rfl rfl)
theorem dX7_lays_4 : decode cX7_lays 4 = .ok (.ifCond .eq 12, 3) := dk_153 0 12 (dk_at dksX7_lays_0 4 rfl rfl)
theorem dX7_lays_7 : decode cX7_lays 7 = .ok (.aload_n 0, 1) := dk_42 (dk_at dksX7_lays_0 7 rfl rfl)
theorem dX7_lays_8 : decode cX7_lays 8 = .ok (.invokevirtual 367, 3) := dk_182 1 111 (dk_at dksX7_lays_0 8 rfl rfl)
theorem dX7_lays_11 : decode cX7_lays 11 = .ok (.bipush 60, 2) := dk_16 60 (dk_at dksX7_lays_0 11 rfl rfl)
theorem dX7_lays_13 : decode cX7_lays 13 = .ok (.if_icmp .le 9, 3) := dk_164 0 9 (dk_at dksX7_lays_0 13 rfl rfl)
theorem dX7_lays_16 : decode cX7_lays 16 = .ok (.aload_n 0, 1) := dk_42 (dk_at dksX7_lays_0 16 rfl rfl)
theorem dX7_lays_17 : decode cX7_lays 17 = .ok (.iconst 3, 1) := dk_6 (dk_at dksX7_lays_0 17 rfl rfl)
theorem dX7_lays_18 : decode cX7_lays 18 = .ok (.invokevirtual 221, 3) := dk_182 0 221 (dk_at dksX7_lays_0 18 rfl rfl)
theorem dX7_lays_21 : decode cX7_lays 21 = .ok (.ireturn, 1) := dk_172 (dk_at dksX7_lays_0 21 rfl rfl)
theorem dX7_lays_22 : decode cX7_lays 22 = .ok (.aload_n 0, 1) := dk_42 (dk_at dksX7_lays_0 22 rfl rfl)
theorem dX7_lays_23 : decode cX7_lays 23 = .ok (.iload_n 1, 1) := dk_27 (dk_at dksX7_lays_0 23 rfl rfl)
theorem dX7_lays_24 : decode cX7_lays 24 = .ok (.invokevirtual 376, 3) := dk_182 1 120 (dk_at dksX7_lays_1 0 rfl rfl)
theorem dX7_lays_27 : decode cX7_lays 27 = .ok (.iconst 0, 1) := dk_3 (dk_at dksX7_lays_1 3 rfl rfl)
theorem dX7_lays_28 : decode cX7_lays 28 = .ok (.istore_n 2, 1) := dk_61 (dk_at dksX7_lays_1 4 rfl rfl)
theorem dX7_lays_29 : decode cX7_lays 29 = .ok (.iload_n 2, 1) := dk_28 (dk_at dksX7_lays_1 5 rfl rfl)
theorem dX7_lays_30 : decode cX7_lays 30 = .ok (.sipush 4096, 3) := dk_17 16 0 (dk_at dksX7_lays_1 6 rfl rfl)
theorem dX7_lays_33 : decode cX7_lays 33 = .ok (.if_icmp .ge 27, 3) := dk_162 0 27 (dk_at dksX7_lays_1 9 rfl rfl)
theorem dX7_lays_36 : decode cX7_lays 36 = .ok (.aload_n 0, 1) := dk_42 (dk_at dksX7_lays_1 12 rfl rfl)
theorem dX7_lays_37 : decode cX7_lays 37 = .ok (.getfield 14, 3) := dk_180 0 14 (dk_at dksX7_lays_1 13 rfl rfl)
theorem dX7_lays_40 : decode cX7_lays 40 = .ok (.sipush 4096, 3) := dk_17 16 0 (dk_at dksX7_lays_1 16 rfl rfl)
theorem dX7_lays_43 : decode cX7_lays 43 = .ok (.iload_n 1, 1) := dk_27 (dk_at dksX7_lays_1 19 rfl rfl)
theorem dX7_lays_44 : decode cX7_lays 44 = .ok (.imul, 1) := dk_104 (dk_at dksX7_lays_1 20 rfl rfl)
theorem dX7_lays_45 : decode cX7_lays 45 = .ok (.iload_n 2, 1) := dk_28 (dk_at dksX7_lays_1 21 rfl rfl)
theorem dX7_lays_46 : decode cX7_lays 46 = .ok (.iadd, 1) := dk_96 (dk_at dksX7_lays_1 22 rfl rfl)
theorem dX7_lays_47 : decode cX7_lays 47 = .ok (.aload_n 0, 1) := dk_42 (dk_at dksX7_lays_1 23 rfl rfl)
theorem dX7_lays_48 : decode cX7_lays 48 = .ok (.getfield 31, 3) := dk_180 0 31 (dk_at dksX7_lays_2 0 rfl rfl)
theorem dX7_lays_51 : decode cX7_lays 51 = .ok (.iload_n 2, 1) := dk_28 (dk_at dksX7_lays_2 3 rfl rfl)
theorem dX7_lays_52 : decode cX7_lays 52 = .ok (.iaload, 1) := dk_46 (dk_at dksX7_lays_2 4 rfl rfl)
theorem dX7_lays_53 : decode cX7_lays 53 = .ok (.iastore, 1) := dk_79 (dk_at dksX7_lays_2 5 rfl rfl)
theorem dX7_lays_54 : decode cX7_lays 54 = .ok (.iinc 2 1, 3) := dk_132 2 1 (dk_at dksX7_lays_2 6 rfl rfl)
theorem dX7_lays_57 : decode cX7_lays 57 = .ok (.goto (-28), 3) := dk_167 255 228 (dk_at dksX7_lays_2 9 rfl rfl)
theorem dX7_lays_60 : decode cX7_lays 60 = .ok (.aload_n 0, 1) := dk_42 (dk_at dksX7_lays_2 12 rfl rfl)
theorem dX7_lays_61 : decode cX7_lays 61 = .ok (.aload_n 0, 1) := dk_42 (dk_at dksX7_lays_2 13 rfl rfl)
theorem dX7_lays_62 : decode cX7_lays 62 = .ok (.invokevirtual 367, 3) := dk_182 1 111 (dk_at dksX7_lays_2 14 rfl rfl)
theorem dX7_lays_65 : decode cX7_lays 65 = .ok (.invokevirtual 248, 3) := dk_182 0 248 (dk_at dksX7_lays_2 17 rfl rfl)
theorem dX7_lays_68 : decode cX7_lays 68 = .ok (.ireturn, 1) := dk_172 (dk_at dksX7_lays_2 20 rfl rfl)
abbrev cX7_remembers : ByteArray := prog_10_method_74_code
def yX7_remembers : MethodName := ⟨RX7, "remembers", "(I)V"⟩
def dkwX7_remembers_9 : List UInt8 := [180, 0, 242, 42, 180, 0, 239, 79, 42, 89, 180, 0, 242, 4, 96, 181, 0, 242, 177]
abbrev dktX7_remembers_9 : List UInt8 := dkwX7_remembers_9 ++ []
def dkwX7_remembers_8 : List UInt8 := [42, 180, 0, 233, 79, 42, 180, 0, 61, 42, 180, 0, 242, 42, 180, 0, 236, 79, 42, 180, 0, 64, 42]
abbrev dktX7_remembers_8 : List UInt8 := dkwX7_remembers_8 ++ dktX7_remembers_9
def dkwX7_remembers_7 : List UInt8 := [132, 2, 1, 167, 255, 216, 42, 180, 0, 55, 42, 180, 0, 242, 27, 79, 42, 180, 0, 58, 42, 180, 0, 242]
abbrev dktX7_remembers_7 : List UInt8 := dkwX7_remembers_7 ++ dktX7_remembers_8
def dkwX7_remembers_6 : List UInt8 := [180, 0, 242, 104, 28, 96, 27, 2, 160, 0, 7, 3, 167, 0, 9, 42, 27, 28, 182, 1, 8, 79]
abbrev dktX7_remembers_6 : List UInt8 := dkwX7_remembers_6 ++ dktX7_remembers_7
def dkwX7_remembers_5 : List UInt8 := [4, 100, 181, 0, 242, 3, 61, 28, 17, 16, 0, 162, 0, 39, 42, 180, 0, 52, 17, 16, 0, 42]
abbrev dktX7_remembers_5 : List UInt8 := dkwX7_remembers_5 ++ dktX7_remembers_6
def dkwX7_remembers_4 : List UInt8 := [180, 0, 64, 28, 4, 100, 42, 180, 0, 64, 28, 46, 79, 132, 2, 1, 167, 255, 191, 42, 89, 180, 0, 242]
abbrev dktX7_remembers_4 : List UInt8 := dkwX7_remembers_4 ++ dktX7_remembers_5
def dkwX7_remembers_3 : List UInt8 := [42, 180, 0, 58, 28, 46, 79, 42, 180, 0, 61, 28, 4, 100, 42, 180, 0, 61, 28, 46, 79, 42]
abbrev dktX7_remembers_3 : List UInt8 := dkwX7_remembers_3 ++ dktX7_remembers_4
def dkwX7_remembers_2 : List UInt8 := [162, 0, 65, 42, 180, 0, 55, 28, 4, 100, 42, 180, 0, 55, 28, 46, 79, 42, 180, 0, 58, 28, 4, 100]
abbrev dktX7_remembers_2 : List UInt8 := dkwX7_remembers_2 ++ dktX7_remembers_3
def dkwX7_remembers_1 : List UInt8 := [17, 16, 0, 100, 42, 180, 0, 52, 28, 46, 79, 132, 2, 1, 167, 255, 231, 4, 61, 28, 16, 8]
abbrev dktX7_remembers_1 : List UInt8 := dkwX7_remembers_1 ++ dktX7_remembers_2
def dkwX7_remembers_0 : List UInt8 := [42, 180, 0, 242, 16, 8, 160, 0, 115, 17, 16, 0, 61, 28, 18, 13, 162, 0, 25, 42, 180, 0, 52, 28]
abbrev dktX7_remembers_0 : List UInt8 := dkwX7_remembers_0 ++ dktX7_remembers_1
theorem dksX7_remembers_0 : cX7_remembers.data.toList.drop 0 = dktX7_remembers_0 := by decide +kernel
theorem dksX7_remembers_1 : cX7_remembers.data.toList.drop 24 = dktX7_remembers_1 := dk_seg dksX7_remembers_0 24 rfl rfl
theorem dksX7_remembers_2 : cX7_remembers.data.toList.drop 46 = dktX7_remembers_2 := dk_seg dksX7_remembers_1 22 rfl rfl
theorem dksX7_remembers_3 : cX7_remembers.data.toList.drop 70 = dktX7_remembers_3 := dk_seg dksX7_remembers_2 24 rfl rfl
theorem dksX7_remembers_4 : cX7_remembers.data.toList.drop 92 = dktX7_remembers_4 := dk_seg dksX7_remembers_3 22 rfl rfl
theorem dksX7_remembers_5 : cX7_remembers.data.toList.drop 116 = dktX7_remembers_5 := dk_seg dksX7_remembers_4 24 rfl rfl
theorem dksX7_remembers_6 : cX7_remembers.data.toList.drop 138 = dktX7_remembers_6 := dk_seg dksX7_remembers_5 22 rfl rfl
theorem dksX7_remembers_7 : cX7_remembers.data.toList.drop 160 = dktX7_remembers_7 := dk_seg dksX7_remembers_6 22 rfl rfl
theorem dksX7_remembers_8 : cX7_remembers.data.toList.drop 184 = dktX7_remembers_8 := dk_seg dksX7_remembers_7 24 rfl rfl
theorem dksX7_remembers_9 : cX7_remembers.data.toList.drop 207 = dktX7_remembers_9 := dk_seg dksX7_remembers_8 23 rfl rfl
theorem dX7_remembers_0 : decode cX7_remembers 0 = .ok (.aload_n 0, 1) := dk_42 (dk_at dksX7_remembers_0 0 rfl rfl)
theorem dX7_remembers_1 : decode cX7_remembers 1 = .ok (.getfield 242, 3) := dk_180 0 242 (dk_at dksX7_remembers_0 1 rfl rfl)
theorem dX7_remembers_4 : decode cX7_remembers 4 = .ok (.bipush 8, 2) := dk_16 8 (dk_at dksX7_remembers_0 4 rfl rfl)
theorem dX7_remembers_6 : decode cX7_remembers 6 = .ok (.if_icmp .ne 115, 3) := dk_160 0 115 (dk_at dksX7_remembers_0 6 rfl rfl)
theorem dX7_remembers_9 : decode cX7_remembers 9 = .ok (.sipush 4096, 3) := dk_17 16 0 (dk_at dksX7_remembers_0 9 rfl rfl)
theorem dX7_remembers_12 : decode cX7_remembers 12 = .ok (.istore_n 2, 1) := dk_61 (dk_at dksX7_remembers_0 12 rfl rfl)
theorem dX7_remembers_13 : decode cX7_remembers 13 = .ok (.iload_n 2, 1) := dk_28 (dk_at dksX7_remembers_0 13 rfl rfl)
theorem dX7_remembers_14 : decode cX7_remembers 14 = .ok (.ldc 13, 2) := dk_18 13 (dk_at dksX7_remembers_0 14 rfl rfl)
theorem dX7_remembers_16 : decode cX7_remembers 16 = .ok (.if_icmp .ge 25, 3) := dk_162 0 25 (dk_at dksX7_remembers_0 16 rfl rfl)
theorem dX7_remembers_19 : decode cX7_remembers 19 = .ok (.aload_n 0, 1) := dk_42 (dk_at dksX7_remembers_0 19 rfl rfl)
theorem dX7_remembers_20 : decode cX7_remembers 20 = .ok (.getfield 52, 3) := dk_180 0 52 (dk_at dksX7_remembers_0 20 rfl rfl)
theorem dX7_remembers_23 : decode cX7_remembers 23 = .ok (.iload_n 2, 1) := dk_28 (dk_at dksX7_remembers_0 23 rfl rfl)
theorem dX7_remembers_24 : decode cX7_remembers 24 = .ok (.sipush 4096, 3) := dk_17 16 0 (dk_at dksX7_remembers_1 0 rfl rfl)
theorem dX7_remembers_27 : decode cX7_remembers 27 = .ok (.isub, 1) := dk_100 (dk_at dksX7_remembers_1 3 rfl rfl)
theorem dX7_remembers_28 : decode cX7_remembers 28 = .ok (.aload_n 0, 1) := dk_42 (dk_at dksX7_remembers_1 4 rfl rfl)
theorem dX7_remembers_29 : decode cX7_remembers 29 = .ok (.getfield 52, 3) := dk_180 0 52 (dk_at dksX7_remembers_1 5 rfl rfl)
theorem dX7_remembers_32 : decode cX7_remembers 32 = .ok (.iload_n 2, 1) := dk_28 (dk_at dksX7_remembers_1 8 rfl rfl)
theorem dX7_remembers_33 : decode cX7_remembers 33 = .ok (.iaload, 1) := dk_46 (dk_at dksX7_remembers_1 9 rfl rfl)
theorem dX7_remembers_34 : decode cX7_remembers 34 = .ok (.iastore, 1) := dk_79 (dk_at dksX7_remembers_1 10 rfl rfl)
theorem dX7_remembers_35 : decode cX7_remembers 35 = .ok (.iinc 2 1, 3) := dk_132 2 1 (dk_at dksX7_remembers_1 11 rfl rfl)
theorem dX7_remembers_38 : decode cX7_remembers 38 = .ok (.goto (-25), 3) := dk_167 255 231 (dk_at dksX7_remembers_1 14 rfl rfl)
theorem dX7_remembers_41 : decode cX7_remembers 41 = .ok (.iconst 1, 1) := dk_4 (dk_at dksX7_remembers_1 17 rfl rfl)
theorem dX7_remembers_42 : decode cX7_remembers 42 = .ok (.istore_n 2, 1) := dk_61 (dk_at dksX7_remembers_1 18 rfl rfl)
theorem dX7_remembers_43 : decode cX7_remembers 43 = .ok (.iload_n 2, 1) := dk_28 (dk_at dksX7_remembers_1 19 rfl rfl)
theorem dX7_remembers_44 : decode cX7_remembers 44 = .ok (.bipush 8, 2) := dk_16 8 (dk_at dksX7_remembers_1 20 rfl rfl)
theorem dX7_remembers_46 : decode cX7_remembers 46 = .ok (.if_icmp .ge 65, 3) := dk_162 0 65 (dk_at dksX7_remembers_2 0 rfl rfl)
theorem dX7_remembers_49 : decode cX7_remembers 49 = .ok (.aload_n 0, 1) := dk_42 (dk_at dksX7_remembers_2 3 rfl rfl)
theorem dX7_remembers_50 : decode cX7_remembers 50 = .ok (.getfield 55, 3) := dk_180 0 55 (dk_at dksX7_remembers_2 4 rfl rfl)
theorem dX7_remembers_53 : decode cX7_remembers 53 = .ok (.iload_n 2, 1) := dk_28 (dk_at dksX7_remembers_2 7 rfl rfl)
theorem dX7_remembers_54 : decode cX7_remembers 54 = .ok (.iconst 1, 1) := dk_4 (dk_at dksX7_remembers_2 8 rfl rfl)
theorem dX7_remembers_55 : decode cX7_remembers 55 = .ok (.isub, 1) := dk_100 (dk_at dksX7_remembers_2 9 rfl rfl)
theorem dX7_remembers_56 : decode cX7_remembers 56 = .ok (.aload_n 0, 1) := dk_42 (dk_at dksX7_remembers_2 10 rfl rfl)
theorem dX7_remembers_57 : decode cX7_remembers 57 = .ok (.getfield 55, 3) := dk_180 0 55 (dk_at dksX7_remembers_2 11 rfl rfl)
theorem dX7_remembers_60 : decode cX7_remembers 60 = .ok (.iload_n 2, 1) := dk_28 (dk_at dksX7_remembers_2 14 rfl rfl)
theorem dX7_remembers_61 : decode cX7_remembers 61 = .ok (.iaload, 1) := dk_46 (dk_at dksX7_remembers_2 15 rfl rfl)
theorem dX7_remembers_62 : decode cX7_remembers 62 = .ok (.iastore, 1) := dk_79 (dk_at dksX7_remembers_2 16 rfl rfl)
theorem dX7_remembers_63 : decode cX7_remembers 63 = .ok (.aload_n 0, 1) := dk_42 (dk_at dksX7_remembers_2 17 rfl rfl)
theorem dX7_remembers_64 : decode cX7_remembers 64 = .ok (.getfield 58, 3) := dk_180 0 58 (dk_at dksX7_remembers_2 18 rfl rfl)
theorem dX7_remembers_67 : decode cX7_remembers 67 = .ok (.iload_n 2, 1) := dk_28 (dk_at dksX7_remembers_2 21 rfl rfl)
theorem dX7_remembers_68 : decode cX7_remembers 68 = .ok (.iconst 1, 1) := dk_4 (dk_at dksX7_remembers_2 22 rfl rfl)
theorem dX7_remembers_69 : decode cX7_remembers 69 = .ok (.isub, 1) := dk_100 (dk_at dksX7_remembers_2 23 rfl rfl)
theorem dX7_remembers_70 : decode cX7_remembers 70 = .ok (.aload_n 0, 1) := dk_42 (dk_at dksX7_remembers_3 0 rfl rfl)
theorem dX7_remembers_71 : decode cX7_remembers 71 = .ok (.getfield 58, 3) := dk_180 0 58 (dk_at dksX7_remembers_3 1 rfl rfl)
theorem dX7_remembers_74 : decode cX7_remembers 74 = .ok (.iload_n 2, 1) := dk_28 (dk_at dksX7_remembers_3 4 rfl rfl)
theorem dX7_remembers_75 : decode cX7_remembers 75 = .ok (.iaload, 1) := dk_46 (dk_at dksX7_remembers_3 5 rfl rfl)
theorem dX7_remembers_76 : decode cX7_remembers 76 = .ok (.iastore, 1) := dk_79 (dk_at dksX7_remembers_3 6 rfl rfl)
theorem dX7_remembers_77 : decode cX7_remembers 77 = .ok (.aload_n 0, 1) := dk_42 (dk_at dksX7_remembers_3 7 rfl rfl)
theorem dX7_remembers_78 : decode cX7_remembers 78 = .ok (.getfield 61, 3) := dk_180 0 61 (dk_at dksX7_remembers_3 8 rfl rfl)
theorem dX7_remembers_81 : decode cX7_remembers 81 = .ok (.iload_n 2, 1) := dk_28 (dk_at dksX7_remembers_3 11 rfl rfl)
theorem dX7_remembers_82 : decode cX7_remembers 82 = .ok (.iconst 1, 1) := dk_4 (dk_at dksX7_remembers_3 12 rfl rfl)
theorem dX7_remembers_83 : decode cX7_remembers 83 = .ok (.isub, 1) := dk_100 (dk_at dksX7_remembers_3 13 rfl rfl)
theorem dX7_remembers_84 : decode cX7_remembers 84 = .ok (.aload_n 0, 1) := dk_42 (dk_at dksX7_remembers_3 14 rfl rfl)
theorem dX7_remembers_85 : decode cX7_remembers 85 = .ok (.getfield 61, 3) := dk_180 0 61 (dk_at dksX7_remembers_3 15 rfl rfl)
theorem dX7_remembers_88 : decode cX7_remembers 88 = .ok (.iload_n 2, 1) := dk_28 (dk_at dksX7_remembers_3 18 rfl rfl)
theorem dX7_remembers_89 : decode cX7_remembers 89 = .ok (.iaload, 1) := dk_46 (dk_at dksX7_remembers_3 19 rfl rfl)
theorem dX7_remembers_90 : decode cX7_remembers 90 = .ok (.iastore, 1) := dk_79 (dk_at dksX7_remembers_3 20 rfl rfl)
theorem dX7_remembers_91 : decode cX7_remembers 91 = .ok (.aload_n 0, 1) := dk_42 (dk_at dksX7_remembers_3 21 rfl rfl)
theorem dX7_remembers_92 : decode cX7_remembers 92 = .ok (.getfield 64, 3) := dk_180 0 64 (dk_at dksX7_remembers_4 0 rfl rfl)
theorem dX7_remembers_95 : decode cX7_remembers 95 = .ok (.iload_n 2, 1) := dk_28 (dk_at dksX7_remembers_4 3 rfl rfl)
theorem dX7_remembers_96 : decode cX7_remembers 96 = .ok (.iconst 1, 1) := dk_4 (dk_at dksX7_remembers_4 4 rfl rfl)
theorem dX7_remembers_97 : decode cX7_remembers 97 = .ok (.isub, 1) := dk_100 (dk_at dksX7_remembers_4 5 rfl rfl)
theorem dX7_remembers_98 : decode cX7_remembers 98 = .ok (.aload_n 0, 1) := dk_42 (dk_at dksX7_remembers_4 6 rfl rfl)
theorem dX7_remembers_99 : decode cX7_remembers 99 = .ok (.getfield 64, 3) := dk_180 0 64 (dk_at dksX7_remembers_4 7 rfl rfl)
theorem dX7_remembers_102 : decode cX7_remembers 102 = .ok (.iload_n 2, 1) := dk_28 (dk_at dksX7_remembers_4 10 rfl rfl)
theorem dX7_remembers_103 : decode cX7_remembers 103 = .ok (.iaload, 1) := dk_46 (dk_at dksX7_remembers_4 11 rfl rfl)
theorem dX7_remembers_104 : decode cX7_remembers 104 = .ok (.iastore, 1) := dk_79 (dk_at dksX7_remembers_4 12 rfl rfl)
theorem dX7_remembers_105 : decode cX7_remembers 105 = .ok (.iinc 2 1, 3) := dk_132 2 1 (dk_at dksX7_remembers_4 13 rfl rfl)
theorem dX7_remembers_108 : decode cX7_remembers 108 = .ok (.goto (-65), 3) := dk_167 255 191 (dk_at dksX7_remembers_4 16 rfl rfl)
theorem dX7_remembers_111 : decode cX7_remembers 111 = .ok (.aload_n 0, 1) := dk_42 (dk_at dksX7_remembers_4 19 rfl rfl)
theorem dX7_remembers_112 : decode cX7_remembers 112 = .ok (.dup, 1) := dk_89 (dk_at dksX7_remembers_4 20 rfl rfl)
theorem dX7_remembers_113 : decode cX7_remembers 113 = .ok (.getfield 242, 3) := dk_180 0 242 (dk_at dksX7_remembers_4 21 rfl rfl)
theorem dX7_remembers_116 : decode cX7_remembers 116 = .ok (.iconst 1, 1) := dk_4 (dk_at dksX7_remembers_5 0 rfl rfl)
theorem dX7_remembers_117 : decode cX7_remembers 117 = .ok (.isub, 1) := dk_100 (dk_at dksX7_remembers_5 1 rfl rfl)
theorem dX7_remembers_118 : decode cX7_remembers 118 = .ok (.putfield 242, 3) := dk_181 0 242 (dk_at dksX7_remembers_5 2 rfl rfl)
theorem dX7_remembers_121 : decode cX7_remembers 121 = .ok (.iconst 0, 1) := dk_3 (dk_at dksX7_remembers_5 5 rfl rfl)
theorem dX7_remembers_122 : decode cX7_remembers 122 = .ok (.istore_n 2, 1) := dk_61 (dk_at dksX7_remembers_5 6 rfl rfl)
theorem dX7_remembers_123 : decode cX7_remembers 123 = .ok (.iload_n 2, 1) := dk_28 (dk_at dksX7_remembers_5 7 rfl rfl)
theorem dX7_remembers_124 : decode cX7_remembers 124 = .ok (.sipush 4096, 3) := dk_17 16 0 (dk_at dksX7_remembers_5 8 rfl rfl)
theorem dX7_remembers_127 : decode cX7_remembers 127 = .ok (.if_icmp .ge 39, 3) := dk_162 0 39 (dk_at dksX7_remembers_5 11 rfl rfl)
theorem dX7_remembers_130 : decode cX7_remembers 130 = .ok (.aload_n 0, 1) := dk_42 (dk_at dksX7_remembers_5 14 rfl rfl)
theorem dX7_remembers_131 : decode cX7_remembers 131 = .ok (.getfield 52, 3) := dk_180 0 52 (dk_at dksX7_remembers_5 15 rfl rfl)
theorem dX7_remembers_134 : decode cX7_remembers 134 = .ok (.sipush 4096, 3) := dk_17 16 0 (dk_at dksX7_remembers_5 18 rfl rfl)
theorem dX7_remembers_137 : decode cX7_remembers 137 = .ok (.aload_n 0, 1) := dk_42 (dk_at dksX7_remembers_5 21 rfl rfl)
theorem dX7_remembers_138 : decode cX7_remembers 138 = .ok (.getfield 242, 3) := dk_180 0 242 (dk_at dksX7_remembers_6 0 rfl rfl)
theorem dX7_remembers_141 : decode cX7_remembers 141 = .ok (.imul, 1) := dk_104 (dk_at dksX7_remembers_6 3 rfl rfl)
theorem dX7_remembers_142 : decode cX7_remembers 142 = .ok (.iload_n 2, 1) := dk_28 (dk_at dksX7_remembers_6 4 rfl rfl)
theorem dX7_remembers_143 : decode cX7_remembers 143 = .ok (.iadd, 1) := dk_96 (dk_at dksX7_remembers_6 5 rfl rfl)
theorem dX7_remembers_144 : decode cX7_remembers 144 = .ok (.iload_n 1, 1) := dk_27 (dk_at dksX7_remembers_6 6 rfl rfl)
theorem dX7_remembers_145 : decode cX7_remembers 145 = .ok (.iconst (-1), 1) := dk_2 (dk_at dksX7_remembers_6 7 rfl rfl)
theorem dX7_remembers_146 : decode cX7_remembers 146 = .ok (.if_icmp .ne 7, 3) := dk_160 0 7 (dk_at dksX7_remembers_6 8 rfl rfl)
theorem dX7_remembers_149 : decode cX7_remembers 149 = .ok (.iconst 0, 1) := dk_3 (dk_at dksX7_remembers_6 11 rfl rfl)
theorem dX7_remembers_150 : decode cX7_remembers 150 = .ok (.goto 9, 3) := dk_167 0 9 (dk_at dksX7_remembers_6 12 rfl rfl)
theorem dX7_remembers_153 : decode cX7_remembers 153 = .ok (.aload_n 0, 1) := dk_42 (dk_at dksX7_remembers_6 15 rfl rfl)
theorem dX7_remembers_154 : decode cX7_remembers 154 = .ok (.iload_n 1, 1) := dk_27 (dk_at dksX7_remembers_6 16 rfl rfl)
theorem dX7_remembers_155 : decode cX7_remembers 155 = .ok (.iload_n 2, 1) := dk_28 (dk_at dksX7_remembers_6 17 rfl rfl)
theorem dX7_remembers_156 : decode cX7_remembers 156 = .ok (.invokevirtual 264, 3) := dk_182 1 8 (dk_at dksX7_remembers_6 18 rfl rfl)
theorem dX7_remembers_159 : decode cX7_remembers 159 = .ok (.iastore, 1) := dk_79 (dk_at dksX7_remembers_6 21 rfl rfl)
theorem dX7_remembers_160 : decode cX7_remembers 160 = .ok (.iinc 2 1, 3) := dk_132 2 1 (dk_at dksX7_remembers_7 0 rfl rfl)
theorem dX7_remembers_163 : decode cX7_remembers 163 = .ok (.goto (-40), 3) := dk_167 255 216 (dk_at dksX7_remembers_7 3 rfl rfl)
theorem dX7_remembers_166 : decode cX7_remembers 166 = .ok (.aload_n 0, 1) := dk_42 (dk_at dksX7_remembers_7 6 rfl rfl)
theorem dX7_remembers_167 : decode cX7_remembers 167 = .ok (.getfield 55, 3) := dk_180 0 55 (dk_at dksX7_remembers_7 7 rfl rfl)
theorem dX7_remembers_170 : decode cX7_remembers 170 = .ok (.aload_n 0, 1) := dk_42 (dk_at dksX7_remembers_7 10 rfl rfl)
theorem dX7_remembers_171 : decode cX7_remembers 171 = .ok (.getfield 242, 3) := dk_180 0 242 (dk_at dksX7_remembers_7 11 rfl rfl)
theorem dX7_remembers_174 : decode cX7_remembers 174 = .ok (.iload_n 1, 1) := dk_27 (dk_at dksX7_remembers_7 14 rfl rfl)
theorem dX7_remembers_175 : decode cX7_remembers 175 = .ok (.iastore, 1) := dk_79 (dk_at dksX7_remembers_7 15 rfl rfl)
theorem dX7_remembers_176 : decode cX7_remembers 176 = .ok (.aload_n 0, 1) := dk_42 (dk_at dksX7_remembers_7 16 rfl rfl)
theorem dX7_remembers_177 : decode cX7_remembers 177 = .ok (.getfield 58, 3) := dk_180 0 58 (dk_at dksX7_remembers_7 17 rfl rfl)
theorem dX7_remembers_180 : decode cX7_remembers 180 = .ok (.aload_n 0, 1) := dk_42 (dk_at dksX7_remembers_7 20 rfl rfl)
theorem dX7_remembers_181 : decode cX7_remembers 181 = .ok (.getfield 242, 3) := dk_180 0 242 (dk_at dksX7_remembers_7 21 rfl rfl)
theorem dX7_remembers_184 : decode cX7_remembers 184 = .ok (.aload_n 0, 1) := dk_42 (dk_at dksX7_remembers_8 0 rfl rfl)
theorem dX7_remembers_185 : decode cX7_remembers 185 = .ok (.getfield 233, 3) := dk_180 0 233 (dk_at dksX7_remembers_8 1 rfl rfl)
theorem dX7_remembers_188 : decode cX7_remembers 188 = .ok (.iastore, 1) := dk_79 (dk_at dksX7_remembers_8 4 rfl rfl)
theorem dX7_remembers_189 : decode cX7_remembers 189 = .ok (.aload_n 0, 1) := dk_42 (dk_at dksX7_remembers_8 5 rfl rfl)
theorem dX7_remembers_190 : decode cX7_remembers 190 = .ok (.getfield 61, 3) := dk_180 0 61 (dk_at dksX7_remembers_8 6 rfl rfl)
theorem dX7_remembers_193 : decode cX7_remembers 193 = .ok (.aload_n 0, 1) := dk_42 (dk_at dksX7_remembers_8 9 rfl rfl)
theorem dX7_remembers_194 : decode cX7_remembers 194 = .ok (.getfield 242, 3) := dk_180 0 242 (dk_at dksX7_remembers_8 10 rfl rfl)
theorem dX7_remembers_197 : decode cX7_remembers 197 = .ok (.aload_n 0, 1) := dk_42 (dk_at dksX7_remembers_8 13 rfl rfl)
theorem dX7_remembers_198 : decode cX7_remembers 198 = .ok (.getfield 236, 3) := dk_180 0 236 (dk_at dksX7_remembers_8 14 rfl rfl)
theorem dX7_remembers_201 : decode cX7_remembers 201 = .ok (.iastore, 1) := dk_79 (dk_at dksX7_remembers_8 17 rfl rfl)
theorem dX7_remembers_202 : decode cX7_remembers 202 = .ok (.aload_n 0, 1) := dk_42 (dk_at dksX7_remembers_8 18 rfl rfl)
theorem dX7_remembers_203 : decode cX7_remembers 203 = .ok (.getfield 64, 3) := dk_180 0 64 (dk_at dksX7_remembers_8 19 rfl rfl)
theorem dX7_remembers_206 : decode cX7_remembers 206 = .ok (.aload_n 0, 1) := dk_42 (dk_at dksX7_remembers_8 22 rfl rfl)
theorem dX7_remembers_207 : decode cX7_remembers 207 = .ok (.getfield 242, 3) := dk_180 0 242 (dk_at dksX7_remembers_9 0 rfl rfl)
theorem dX7_remembers_210 : decode cX7_remembers 210 = .ok (.aload_n 0, 1) := dk_42 (dk_at dksX7_remembers_9 3 rfl rfl)
theorem dX7_remembers_211 : decode cX7_remembers 211 = .ok (.getfield 239, 3) := dk_180 0 239 (dk_at dksX7_remembers_9 4 rfl rfl)
theorem dX7_remembers_214 : decode cX7_remembers 214 = .ok (.iastore, 1) := dk_79 (dk_at dksX7_remembers_9 7 rfl rfl)
theorem dX7_remembers_215 : decode cX7_remembers 215 = .ok (.aload_n 0, 1) := dk_42 (dk_at dksX7_remembers_9 8 rfl rfl)
theorem dX7_remembers_216 : decode cX7_remembers 216 = .ok (.dup, 1) := dk_89 (dk_at dksX7_remembers_9 9 rfl rfl)
theorem dX7_remembers_217 : decode cX7_remembers 217 = .ok (.getfield 242, 3) := dk_180 0 242 (dk_at dksX7_remembers_9 10 rfl rfl)
theorem dX7_remembers_220 : decode cX7_remembers 220 = .ok (.iconst 1, 1) := dk_4 (dk_at dksX7_remembers_9 13 rfl rfl)
theorem dX7_remembers_221 : decode cX7_remembers 221 = .ok (.iadd, 1) := dk_96 (dk_at dksX7_remembers_9 14 rfl rfl)
theorem dX7_remembers_222 : decode cX7_remembers 222 = .ok (.putfield 242, 3) := dk_181 0 242 (dk_at dksX7_remembers_9 15 rfl rfl)
theorem dX7_remembers_225 : decode cX7_remembers 225 = .ok (.return_, 1) := dk_177 (dk_at dksX7_remembers_9 18 rfl rfl)
abbrev cX7_less : ByteArray := prog_10_method_78_code
def yX7_less : MethodName := ⟨RX7, "less", "(III)I"⟩
def dkwX7_less_2 : List UInt8 := [182, 1, 126, 172]
abbrev dktX7_less_2 : List UInt8 := dkwX7_less_2 ++ []
def dkwX7_less_1 : List UInt8 := [182, 1, 105, 42, 27, 4, 3, 182, 1, 108, 42, 28, 42, 180, 0, 231, 4, 100, 3, 182, 1, 108, 42, 29]
abbrev dktX7_less_1 : List UInt8 := dkwX7_less_1 ++ dktX7_less_2
def dkwX7_less_0 : List UInt8 := [42, 3, 181, 0, 89, 42, 27, 28, 29, 182, 1, 123, 154, 0, 9, 42, 4, 182, 0, 221, 172, 42]
abbrev dktX7_less_0 : List UInt8 := dkwX7_less_0 ++ dktX7_less_1
theorem dksX7_less_0 : cX7_less.data.toList.drop 0 = dktX7_less_0 := by decide +kernel
theorem dksX7_less_1 : cX7_less.data.toList.drop 22 = dktX7_less_1 := dk_seg dksX7_less_0 22 rfl rfl
theorem dksX7_less_2 : cX7_less.data.toList.drop 46 = dktX7_less_2 := dk_seg dksX7_less_1 24 rfl rfl
theorem dX7_less_0 : decode cX7_less 0 = .ok (.aload_n 0, 1) := dk_42 (dk_at dksX7_less_0 0 rfl rfl)
theorem dX7_less_1 : decode cX7_less 1 = .ok (.iconst 0, 1) := dk_3 (dk_at dksX7_less_0 1 rfl rfl)
theorem dX7_less_2 : decode cX7_less 2 = .ok (.putfield 89, 3) := dk_181 0 89 (dk_at dksX7_less_0 2 rfl rfl)
theorem dX7_less_5 : decode cX7_less 5 = .ok (.aload_n 0, 1) := dk_42 (dk_at dksX7_less_0 5 rfl rfl)
theorem dX7_less_6 : decode cX7_less 6 = .ok (.iload_n 1, 1) := dk_27 (dk_at dksX7_less_0 6 rfl rfl)
theorem dX7_less_7 : decode cX7_less 7 = .ok (.iload_n 2, 1) := dk_28 (dk_at dksX7_less_0 7 rfl rfl)
theorem dX7_less_8 : decode cX7_less 8 = .ok (.iload_n 3, 1) := dk_29 (dk_at dksX7_less_0 8 rfl rfl)
theorem dX7_less_9 : decode cX7_less 9 = .ok (.invokevirtual 379, 3) := dk_182 1 123 (dk_at dksX7_less_0 9 rfl rfl)
theorem dX7_less_12 : decode cX7_less 12 = .ok (.ifCond .ne 9, 3) := dk_154 0 9 (dk_at dksX7_less_0 12 rfl rfl)
theorem dX7_less_15 : decode cX7_less 15 = .ok (.aload_n 0, 1) := dk_42 (dk_at dksX7_less_0 15 rfl rfl)
theorem dX7_less_16 : decode cX7_less 16 = .ok (.iconst 1, 1) := dk_4 (dk_at dksX7_less_0 16 rfl rfl)
theorem dX7_less_17 : decode cX7_less 17 = .ok (.invokevirtual 221, 3) := dk_182 0 221 (dk_at dksX7_less_0 17 rfl rfl)
theorem dX7_less_20 : decode cX7_less 20 = .ok (.ireturn, 1) := dk_172 (dk_at dksX7_less_0 20 rfl rfl)
theorem dX7_less_21 : decode cX7_less 21 = .ok (.aload_n 0, 1) := dk_42 (dk_at dksX7_less_0 21 rfl rfl)
theorem dX7_less_22 : decode cX7_less 22 = .ok (.invokevirtual 361, 3) := dk_182 1 105 (dk_at dksX7_less_1 0 rfl rfl)
theorem dX7_less_25 : decode cX7_less 25 = .ok (.aload_n 0, 1) := dk_42 (dk_at dksX7_less_1 3 rfl rfl)
theorem dX7_less_26 : decode cX7_less 26 = .ok (.iload_n 1, 1) := dk_27 (dk_at dksX7_less_1 4 rfl rfl)
theorem dX7_less_27 : decode cX7_less 27 = .ok (.iconst 1, 1) := dk_4 (dk_at dksX7_less_1 5 rfl rfl)
theorem dX7_less_28 : decode cX7_less 28 = .ok (.iconst 0, 1) := dk_3 (dk_at dksX7_less_1 6 rfl rfl)
theorem dX7_less_29 : decode cX7_less 29 = .ok (.invokevirtual 364, 3) := dk_182 1 108 (dk_at dksX7_less_1 7 rfl rfl)
theorem dX7_less_32 : decode cX7_less 32 = .ok (.aload_n 0, 1) := dk_42 (dk_at dksX7_less_1 10 rfl rfl)
theorem dX7_less_33 : decode cX7_less 33 = .ok (.iload_n 2, 1) := dk_28 (dk_at dksX7_less_1 11 rfl rfl)
theorem dX7_less_34 : decode cX7_less 34 = .ok (.aload_n 0, 1) := dk_42 (dk_at dksX7_less_1 12 rfl rfl)
theorem dX7_less_35 : decode cX7_less 35 = .ok (.getfield 231, 3) := dk_180 0 231 (dk_at dksX7_less_1 13 rfl rfl)
theorem dX7_less_38 : decode cX7_less 38 = .ok (.iconst 1, 1) := dk_4 (dk_at dksX7_less_1 16 rfl rfl)
theorem dX7_less_39 : decode cX7_less 39 = .ok (.isub, 1) := dk_100 (dk_at dksX7_less_1 17 rfl rfl)
theorem dX7_less_40 : decode cX7_less 40 = .ok (.iconst 0, 1) := dk_3 (dk_at dksX7_less_1 18 rfl rfl)
theorem dX7_less_41 : decode cX7_less 41 = .ok (.invokevirtual 364, 3) := dk_182 1 108 (dk_at dksX7_less_1 19 rfl rfl)
theorem dX7_less_44 : decode cX7_less 44 = .ok (.aload_n 0, 1) := dk_42 (dk_at dksX7_less_1 22 rfl rfl)
theorem dX7_less_45 : decode cX7_less 45 = .ok (.iload_n 3, 1) := dk_29 (dk_at dksX7_less_1 23 rfl rfl)
theorem dX7_less_46 : decode cX7_less 46 = .ok (.invokevirtual 382, 3) := dk_182 1 126 (dk_at dksX7_less_2 0 rfl rfl)
theorem dX7_less_49 : decode cX7_less 49 = .ok (.ireturn, 1) := dk_172 (dk_at dksX7_less_2 3 rfl rfl)
abbrev cX7_times : ByteArray := prog_10_method_79_code
def yX7_times : MethodName := ⟨RX7, "times", "(III)I"⟩
def dkwX7_times_3 : List UInt8 := [182, 1, 126, 172]
abbrev dktX7_times_3 : List UInt8 := dkwX7_times_3 ++ []
def dkwX7_times_2 : List UInt8 := [42, 27, 42, 28, 21, 4, 182, 1, 8, 21, 4, 182, 1, 108, 132, 4, 1, 167, 255, 221, 42, 29]
abbrev dktX7_times_2 : List UInt8 := dkwX7_times_2 ++ dktX7_times_3
def dkwX7_times_1 : List UInt8 := [182, 1, 105, 3, 54, 4, 21, 4, 17, 16, 0, 162, 0, 33, 42, 28, 21, 4, 182, 1, 8, 153, 0, 17]
abbrev dktX7_times_1 : List UInt8 := dkwX7_times_1 ++ dktX7_times_2
def dkwX7_times_0 : List UInt8 := [42, 3, 181, 0, 89, 42, 27, 28, 29, 182, 1, 123, 154, 0, 9, 42, 4, 182, 0, 221, 172, 42]
abbrev dktX7_times_0 : List UInt8 := dkwX7_times_0 ++ dktX7_times_1
theorem dksX7_times_0 : cX7_times.data.toList.drop 0 = dktX7_times_0 := by decide +kernel
theorem dksX7_times_1 : cX7_times.data.toList.drop 22 = dktX7_times_1 := dk_seg dksX7_times_0 22 rfl rfl
theorem dksX7_times_2 : cX7_times.data.toList.drop 46 = dktX7_times_2 := dk_seg dksX7_times_1 24 rfl rfl
theorem dksX7_times_3 : cX7_times.data.toList.drop 68 = dktX7_times_3 := dk_seg dksX7_times_2 22 rfl rfl
theorem dX7_times_0 : decode cX7_times 0 = .ok (.aload_n 0, 1) := dk_42 (dk_at dksX7_times_0 0 rfl rfl)
theorem dX7_times_1 : decode cX7_times 1 = .ok (.iconst 0, 1) := dk_3 (dk_at dksX7_times_0 1 rfl rfl)
theorem dX7_times_2 : decode cX7_times 2 = .ok (.putfield 89, 3) := dk_181 0 89 (dk_at dksX7_times_0 2 rfl rfl)
theorem dX7_times_5 : decode cX7_times 5 = .ok (.aload_n 0, 1) := dk_42 (dk_at dksX7_times_0 5 rfl rfl)
theorem dX7_times_6 : decode cX7_times 6 = .ok (.iload_n 1, 1) := dk_27 (dk_at dksX7_times_0 6 rfl rfl)
theorem dX7_times_7 : decode cX7_times 7 = .ok (.iload_n 2, 1) := dk_28 (dk_at dksX7_times_0 7 rfl rfl)
theorem dX7_times_8 : decode cX7_times 8 = .ok (.iload_n 3, 1) := dk_29 (dk_at dksX7_times_0 8 rfl rfl)
theorem dX7_times_9 : decode cX7_times 9 = .ok (.invokevirtual 379, 3) := dk_182 1 123 (dk_at dksX7_times_0 9 rfl rfl)
theorem dX7_times_12 : decode cX7_times 12 = .ok (.ifCond .ne 9, 3) := dk_154 0 9 (dk_at dksX7_times_0 12 rfl rfl)
theorem dX7_times_15 : decode cX7_times 15 = .ok (.aload_n 0, 1) := dk_42 (dk_at dksX7_times_0 15 rfl rfl)
theorem dX7_times_16 : decode cX7_times 16 = .ok (.iconst 1, 1) := dk_4 (dk_at dksX7_times_0 16 rfl rfl)
theorem dX7_times_17 : decode cX7_times 17 = .ok (.invokevirtual 221, 3) := dk_182 0 221 (dk_at dksX7_times_0 17 rfl rfl)
theorem dX7_times_20 : decode cX7_times 20 = .ok (.ireturn, 1) := dk_172 (dk_at dksX7_times_0 20 rfl rfl)
theorem dX7_times_21 : decode cX7_times 21 = .ok (.aload_n 0, 1) := dk_42 (dk_at dksX7_times_0 21 rfl rfl)
theorem dX7_times_22 : decode cX7_times 22 = .ok (.invokevirtual 361, 3) := dk_182 1 105 (dk_at dksX7_times_1 0 rfl rfl)
theorem dX7_times_25 : decode cX7_times 25 = .ok (.iconst 0, 1) := dk_3 (dk_at dksX7_times_1 3 rfl rfl)
theorem dX7_times_26 : decode cX7_times 26 = .ok (.istore 4, 2) := dk_54 4 (dk_at dksX7_times_1 4 rfl rfl)
theorem dX7_times_28 : decode cX7_times 28 = .ok (.iload 4, 2) := dk_21 4 (dk_at dksX7_times_1 6 rfl rfl)
theorem dX7_times_30 : decode cX7_times 30 = .ok (.sipush 4096, 3) := dk_17 16 0 (dk_at dksX7_times_1 8 rfl rfl)
theorem dX7_times_33 : decode cX7_times 33 = .ok (.if_icmp .ge 33, 3) := dk_162 0 33 (dk_at dksX7_times_1 11 rfl rfl)
theorem dX7_times_36 : decode cX7_times 36 = .ok (.aload_n 0, 1) := dk_42 (dk_at dksX7_times_1 14 rfl rfl)
theorem dX7_times_37 : decode cX7_times 37 = .ok (.iload_n 2, 1) := dk_28 (dk_at dksX7_times_1 15 rfl rfl)
theorem dX7_times_38 : decode cX7_times 38 = .ok (.iload 4, 2) := dk_21 4 (dk_at dksX7_times_1 16 rfl rfl)
theorem dX7_times_40 : decode cX7_times 40 = .ok (.invokevirtual 264, 3) := dk_182 1 8 (dk_at dksX7_times_1 18 rfl rfl)
theorem dX7_times_43 : decode cX7_times 43 = .ok (.ifCond .eq 17, 3) := dk_153 0 17 (dk_at dksX7_times_1 21 rfl rfl)
theorem dX7_times_46 : decode cX7_times 46 = .ok (.aload_n 0, 1) := dk_42 (dk_at dksX7_times_2 0 rfl rfl)
theorem dX7_times_47 : decode cX7_times 47 = .ok (.iload_n 1, 1) := dk_27 (dk_at dksX7_times_2 1 rfl rfl)
theorem dX7_times_48 : decode cX7_times 48 = .ok (.aload_n 0, 1) := dk_42 (dk_at dksX7_times_2 2 rfl rfl)
theorem dX7_times_49 : decode cX7_times 49 = .ok (.iload_n 2, 1) := dk_28 (dk_at dksX7_times_2 3 rfl rfl)
theorem dX7_times_50 : decode cX7_times 50 = .ok (.iload 4, 2) := dk_21 4 (dk_at dksX7_times_2 4 rfl rfl)
theorem dX7_times_52 : decode cX7_times 52 = .ok (.invokevirtual 264, 3) := dk_182 1 8 (dk_at dksX7_times_2 6 rfl rfl)
theorem dX7_times_55 : decode cX7_times 55 = .ok (.iload 4, 2) := dk_21 4 (dk_at dksX7_times_2 9 rfl rfl)
theorem dX7_times_57 : decode cX7_times 57 = .ok (.invokevirtual 364, 3) := dk_182 1 108 (dk_at dksX7_times_2 11 rfl rfl)
theorem dX7_times_60 : decode cX7_times 60 = .ok (.iinc 4 1, 3) := dk_132 4 1 (dk_at dksX7_times_2 14 rfl rfl)
theorem dX7_times_63 : decode cX7_times 63 = .ok (.goto (-35), 3) := dk_167 255 221 (dk_at dksX7_times_2 17 rfl rfl)
theorem dX7_times_66 : decode cX7_times 66 = .ok (.aload_n 0, 1) := dk_42 (dk_at dksX7_times_2 20 rfl rfl)
theorem dX7_times_67 : decode cX7_times 67 = .ok (.iload_n 3, 1) := dk_29 (dk_at dksX7_times_2 21 rfl rfl)
theorem dX7_times_68 : decode cX7_times 68 = .ok (.invokevirtual 382, 3) := dk_182 1 126 (dk_at dksX7_times_3 0 rfl rfl)
theorem dX7_times_71 : decode cX7_times 71 = .ok (.ireturn, 1) := dk_172 (dk_at dksX7_times_3 3 rfl rfl)
abbrev cX7_scale : ByteArray := prog_10_method_80_code
def yX7_scale : MethodName := ⟨RX7, "scale", "(IIIIII)I"⟩
def dkwX7_scale_3 : List UInt8 := [29, 21, 4, 21, 5, 184, 1, 32, 182, 1, 108, 42, 21, 6, 182, 1, 126, 172]
abbrev dktX7_scale_3 : List UInt8 := dkwX7_scale_3 ++ []
def dkwX7_scale_2 : List UInt8 := [153, 0, 11, 21, 5, 184, 1, 29, 154, 0, 9, 42, 5, 182, 0, 221, 172, 42, 182, 1, 105, 42, 27, 28]
abbrev dktX7_scale_2 : List UInt8 := dkwX7_scale_2 ++ dktX7_scale_3
def dkwX7_scale_1 : List UInt8 := [182, 0, 221, 172, 42, 28, 182, 1, 42, 153, 0, 26, 29, 184, 1, 29, 153, 0, 19, 21, 4, 184, 1, 29]
abbrev dktX7_scale_1 : List UInt8 := dkwX7_scale_1 ++ dktX7_scale_2
def dkwX7_scale_0 : List UInt8 := [42, 3, 181, 0, 89, 42, 27, 182, 1, 20, 153, 0, 12, 42, 21, 6, 182, 1, 20, 154, 0, 9, 42, 4]
abbrev dktX7_scale_0 : List UInt8 := dkwX7_scale_0 ++ dktX7_scale_1
theorem dksX7_scale_0 : cX7_scale.data.toList.drop 0 = dktX7_scale_0 := by decide +kernel
theorem dksX7_scale_1 : cX7_scale.data.toList.drop 24 = dktX7_scale_1 := dk_seg dksX7_scale_0 24 rfl rfl
theorem dksX7_scale_2 : cX7_scale.data.toList.drop 48 = dktX7_scale_2 := dk_seg dksX7_scale_1 24 rfl rfl
theorem dksX7_scale_3 : cX7_scale.data.toList.drop 72 = dktX7_scale_3 := dk_seg dksX7_scale_2 24 rfl rfl
theorem dX7_scale_0 : decode cX7_scale 0 = .ok (.aload_n 0, 1) := dk_42 (dk_at dksX7_scale_0 0 rfl rfl)
theorem dX7_scale_1 : decode cX7_scale 1 = .ok (.iconst 0, 1) := dk_3 (dk_at dksX7_scale_0 1 rfl rfl)
theorem dX7_scale_2 : decode cX7_scale 2 = .ok (.putfield 89, 3) := dk_181 0 89 (dk_at dksX7_scale_0 2 rfl rfl)
theorem dX7_scale_5 : decode cX7_scale 5 = .ok (.aload_n 0, 1) := dk_42 (dk_at dksX7_scale_0 5 rfl rfl)
theorem dX7_scale_6 : decode cX7_scale 6 = .ok (.iload_n 1, 1) := dk_27 (dk_at dksX7_scale_0 6 rfl rfl)
theorem dX7_scale_7 : decode cX7_scale 7 = .ok (.invokevirtual 276, 3) := dk_182 1 20 (dk_at dksX7_scale_0 7 rfl rfl)
theorem dX7_scale_10 : decode cX7_scale 10 = .ok (.ifCond .eq 12, 3) := dk_153 0 12 (dk_at dksX7_scale_0 10 rfl rfl)
theorem dX7_scale_13 : decode cX7_scale 13 = .ok (.aload_n 0, 1) := dk_42 (dk_at dksX7_scale_0 13 rfl rfl)
theorem dX7_scale_14 : decode cX7_scale 14 = .ok (.iload 6, 2) := dk_21 6 (dk_at dksX7_scale_0 14 rfl rfl)
theorem dX7_scale_16 : decode cX7_scale 16 = .ok (.invokevirtual 276, 3) := dk_182 1 20 (dk_at dksX7_scale_0 16 rfl rfl)
theorem dX7_scale_19 : decode cX7_scale 19 = .ok (.ifCond .ne 9, 3) := dk_154 0 9 (dk_at dksX7_scale_0 19 rfl rfl)
theorem dX7_scale_22 : decode cX7_scale 22 = .ok (.aload_n 0, 1) := dk_42 (dk_at dksX7_scale_0 22 rfl rfl)
theorem dX7_scale_23 : decode cX7_scale 23 = .ok (.iconst 1, 1) := dk_4 (dk_at dksX7_scale_0 23 rfl rfl)
theorem dX7_scale_24 : decode cX7_scale 24 = .ok (.invokevirtual 221, 3) := dk_182 0 221 (dk_at dksX7_scale_1 0 rfl rfl)
theorem dX7_scale_27 : decode cX7_scale 27 = .ok (.ireturn, 1) := dk_172 (dk_at dksX7_scale_1 3 rfl rfl)
theorem dX7_scale_28 : decode cX7_scale 28 = .ok (.aload_n 0, 1) := dk_42 (dk_at dksX7_scale_1 4 rfl rfl)
theorem dX7_scale_29 : decode cX7_scale 29 = .ok (.iload_n 2, 1) := dk_28 (dk_at dksX7_scale_1 5 rfl rfl)
theorem dX7_scale_30 : decode cX7_scale 30 = .ok (.invokevirtual 298, 3) := dk_182 1 42 (dk_at dksX7_scale_1 6 rfl rfl)
theorem dX7_scale_33 : decode cX7_scale 33 = .ok (.ifCond .eq 26, 3) := dk_153 0 26 (dk_at dksX7_scale_1 9 rfl rfl)
theorem dX7_scale_36 : decode cX7_scale 36 = .ok (.iload_n 3, 1) := dk_29 (dk_at dksX7_scale_1 12 rfl rfl)
theorem dX7_scale_37 : decode cX7_scale 37 = .ok (.invokestatic 285, 3) := dk_184 1 29 (dk_at dksX7_scale_1 13 rfl rfl)
theorem dX7_scale_40 : decode cX7_scale 40 = .ok (.ifCond .eq 19, 3) := dk_153 0 19 (dk_at dksX7_scale_1 16 rfl rfl)
theorem dX7_scale_43 : decode cX7_scale 43 = .ok (.iload 4, 2) := dk_21 4 (dk_at dksX7_scale_1 19 rfl rfl)
theorem dX7_scale_45 : decode cX7_scale 45 = .ok (.invokestatic 285, 3) := dk_184 1 29 (dk_at dksX7_scale_1 21 rfl rfl)
theorem dX7_scale_48 : decode cX7_scale 48 = .ok (.ifCond .eq 11, 3) := dk_153 0 11 (dk_at dksX7_scale_2 0 rfl rfl)
theorem dX7_scale_51 : decode cX7_scale 51 = .ok (.iload 5, 2) := dk_21 5 (dk_at dksX7_scale_2 3 rfl rfl)
theorem dX7_scale_53 : decode cX7_scale 53 = .ok (.invokestatic 285, 3) := dk_184 1 29 (dk_at dksX7_scale_2 5 rfl rfl)
theorem dX7_scale_56 : decode cX7_scale 56 = .ok (.ifCond .ne 9, 3) := dk_154 0 9 (dk_at dksX7_scale_2 8 rfl rfl)
theorem dX7_scale_59 : decode cX7_scale 59 = .ok (.aload_n 0, 1) := dk_42 (dk_at dksX7_scale_2 11 rfl rfl)
theorem dX7_scale_60 : decode cX7_scale 60 = .ok (.iconst 2, 1) := dk_5 (dk_at dksX7_scale_2 12 rfl rfl)
theorem dX7_scale_61 : decode cX7_scale 61 = .ok (.invokevirtual 221, 3) := dk_182 0 221 (dk_at dksX7_scale_2 13 rfl rfl)
theorem dX7_scale_64 : decode cX7_scale 64 = .ok (.ireturn, 1) := dk_172 (dk_at dksX7_scale_2 16 rfl rfl)
theorem dX7_scale_65 : decode cX7_scale 65 = .ok (.aload_n 0, 1) := dk_42 (dk_at dksX7_scale_2 17 rfl rfl)
theorem dX7_scale_66 : decode cX7_scale 66 = .ok (.invokevirtual 361, 3) := dk_182 1 105 (dk_at dksX7_scale_2 18 rfl rfl)
theorem dX7_scale_69 : decode cX7_scale 69 = .ok (.aload_n 0, 1) := dk_42 (dk_at dksX7_scale_2 21 rfl rfl)
theorem dX7_scale_70 : decode cX7_scale 70 = .ok (.iload_n 1, 1) := dk_27 (dk_at dksX7_scale_2 22 rfl rfl)
theorem dX7_scale_71 : decode cX7_scale 71 = .ok (.iload_n 2, 1) := dk_28 (dk_at dksX7_scale_2 23 rfl rfl)
theorem dX7_scale_72 : decode cX7_scale 72 = .ok (.iload_n 3, 1) := dk_29 (dk_at dksX7_scale_3 0 rfl rfl)
theorem dX7_scale_73 : decode cX7_scale 73 = .ok (.iload 4, 2) := dk_21 4 (dk_at dksX7_scale_3 1 rfl rfl)
theorem dX7_scale_75 : decode cX7_scale 75 = .ok (.iload 5, 2) := dk_21 5 (dk_at dksX7_scale_3 3 rfl rfl)
theorem dX7_scale_77 : decode cX7_scale 77 = .ok (.invokestatic 288, 3) := dk_184 1 32 (dk_at dksX7_scale_3 5 rfl rfl)
theorem dX7_scale_80 : decode cX7_scale 80 = .ok (.invokevirtual 364, 3) := dk_182 1 108 (dk_at dksX7_scale_3 8 rfl rfl)
theorem dX7_scale_83 : decode cX7_scale 83 = .ok (.aload_n 0, 1) := dk_42 (dk_at dksX7_scale_3 11 rfl rfl)
theorem dX7_scale_84 : decode cX7_scale 84 = .ok (.iload 6, 2) := dk_21 6 (dk_at dksX7_scale_3 12 rfl rfl)
theorem dX7_scale_86 : decode cX7_scale 86 = .ok (.invokevirtual 382, 3) := dk_182 1 126 (dk_at dksX7_scale_3 14 rfl rfl)
theorem dX7_scale_89 : decode cX7_scale 89 = .ok (.ireturn, 1) := dk_172 (dk_at dksX7_scale_3 17 rfl rfl)
abbrev cX7_monic : ByteArray := prog_10_method_81_code
def yX7_monic : MethodName := ⟨RX7, "monic", "(II)I"⟩
def dkwX7_monic_2 : List UInt8 := [182, 1, 78, 182, 1, 8, 182, 1, 81, 3, 182, 1, 108, 42, 28, 182, 1, 126, 172]
abbrev dktX7_monic_2 : List UInt8 := dkwX7_monic_2 ++ []
def dkwX7_monic_1 : List UInt8 := [182, 0, 221, 172, 42, 182, 1, 105, 42, 27, 182, 1, 14, 154, 0, 23, 42, 27, 42, 42, 27, 42, 27]
abbrev dktX7_monic_1 : List UInt8 := dkwX7_monic_1 ++ dktX7_monic_2
def dkwX7_monic_0 : List UInt8 := [42, 3, 181, 0, 89, 42, 27, 182, 1, 20, 153, 0, 11, 42, 28, 182, 1, 20, 154, 0, 9, 42, 4]
abbrev dktX7_monic_0 : List UInt8 := dkwX7_monic_0 ++ dktX7_monic_1
theorem dksX7_monic_0 : cX7_monic.data.toList.drop 0 = dktX7_monic_0 := by decide +kernel
theorem dksX7_monic_1 : cX7_monic.data.toList.drop 23 = dktX7_monic_1 := dk_seg dksX7_monic_0 23 rfl rfl
theorem dksX7_monic_2 : cX7_monic.data.toList.drop 46 = dktX7_monic_2 := dk_seg dksX7_monic_1 23 rfl rfl
theorem dX7_monic_0 : decode cX7_monic 0 = .ok (.aload_n 0, 1) := dk_42 (dk_at dksX7_monic_0 0 rfl rfl)
theorem dX7_monic_1 : decode cX7_monic 1 = .ok (.iconst 0, 1) := dk_3 (dk_at dksX7_monic_0 1 rfl rfl)
theorem dX7_monic_2 : decode cX7_monic 2 = .ok (.putfield 89, 3) := dk_181 0 89 (dk_at dksX7_monic_0 2 rfl rfl)
theorem dX7_monic_5 : decode cX7_monic 5 = .ok (.aload_n 0, 1) := dk_42 (dk_at dksX7_monic_0 5 rfl rfl)
theorem dX7_monic_6 : decode cX7_monic 6 = .ok (.iload_n 1, 1) := dk_27 (dk_at dksX7_monic_0 6 rfl rfl)
theorem dX7_monic_7 : decode cX7_monic 7 = .ok (.invokevirtual 276, 3) := dk_182 1 20 (dk_at dksX7_monic_0 7 rfl rfl)
theorem dX7_monic_10 : decode cX7_monic 10 = .ok (.ifCond .eq 11, 3) := dk_153 0 11 (dk_at dksX7_monic_0 10 rfl rfl)
theorem dX7_monic_13 : decode cX7_monic 13 = .ok (.aload_n 0, 1) := dk_42 (dk_at dksX7_monic_0 13 rfl rfl)
theorem dX7_monic_14 : decode cX7_monic 14 = .ok (.iload_n 2, 1) := dk_28 (dk_at dksX7_monic_0 14 rfl rfl)
theorem dX7_monic_15 : decode cX7_monic 15 = .ok (.invokevirtual 276, 3) := dk_182 1 20 (dk_at dksX7_monic_0 15 rfl rfl)
theorem dX7_monic_18 : decode cX7_monic 18 = .ok (.ifCond .ne 9, 3) := dk_154 0 9 (dk_at dksX7_monic_0 18 rfl rfl)
theorem dX7_monic_21 : decode cX7_monic 21 = .ok (.aload_n 0, 1) := dk_42 (dk_at dksX7_monic_0 21 rfl rfl)
theorem dX7_monic_22 : decode cX7_monic 22 = .ok (.iconst 1, 1) := dk_4 (dk_at dksX7_monic_0 22 rfl rfl)
theorem dX7_monic_23 : decode cX7_monic 23 = .ok (.invokevirtual 221, 3) := dk_182 0 221 (dk_at dksX7_monic_1 0 rfl rfl)
theorem dX7_monic_26 : decode cX7_monic 26 = .ok (.ireturn, 1) := dk_172 (dk_at dksX7_monic_1 3 rfl rfl)
theorem dX7_monic_27 : decode cX7_monic 27 = .ok (.aload_n 0, 1) := dk_42 (dk_at dksX7_monic_1 4 rfl rfl)
theorem dX7_monic_28 : decode cX7_monic 28 = .ok (.invokevirtual 361, 3) := dk_182 1 105 (dk_at dksX7_monic_1 5 rfl rfl)
theorem dX7_monic_31 : decode cX7_monic 31 = .ok (.aload_n 0, 1) := dk_42 (dk_at dksX7_monic_1 8 rfl rfl)
theorem dX7_monic_32 : decode cX7_monic 32 = .ok (.iload_n 1, 1) := dk_27 (dk_at dksX7_monic_1 9 rfl rfl)
theorem dX7_monic_33 : decode cX7_monic 33 = .ok (.invokevirtual 270, 3) := dk_182 1 14 (dk_at dksX7_monic_1 10 rfl rfl)
theorem dX7_monic_36 : decode cX7_monic 36 = .ok (.ifCond .ne 23, 3) := dk_154 0 23 (dk_at dksX7_monic_1 13 rfl rfl)
theorem dX7_monic_39 : decode cX7_monic 39 = .ok (.aload_n 0, 1) := dk_42 (dk_at dksX7_monic_1 16 rfl rfl)
theorem dX7_monic_40 : decode cX7_monic 40 = .ok (.iload_n 1, 1) := dk_27 (dk_at dksX7_monic_1 17 rfl rfl)
theorem dX7_monic_41 : decode cX7_monic 41 = .ok (.aload_n 0, 1) := dk_42 (dk_at dksX7_monic_1 18 rfl rfl)
theorem dX7_monic_42 : decode cX7_monic 42 = .ok (.aload_n 0, 1) := dk_42 (dk_at dksX7_monic_1 19 rfl rfl)
theorem dX7_monic_43 : decode cX7_monic 43 = .ok (.iload_n 1, 1) := dk_27 (dk_at dksX7_monic_1 20 rfl rfl)
theorem dX7_monic_44 : decode cX7_monic 44 = .ok (.aload_n 0, 1) := dk_42 (dk_at dksX7_monic_1 21 rfl rfl)
theorem dX7_monic_45 : decode cX7_monic 45 = .ok (.iload_n 1, 1) := dk_27 (dk_at dksX7_monic_1 22 rfl rfl)
theorem dX7_monic_46 : decode cX7_monic 46 = .ok (.invokevirtual 334, 3) := dk_182 1 78 (dk_at dksX7_monic_2 0 rfl rfl)
theorem dX7_monic_49 : decode cX7_monic 49 = .ok (.invokevirtual 264, 3) := dk_182 1 8 (dk_at dksX7_monic_2 3 rfl rfl)
theorem dX7_monic_52 : decode cX7_monic 52 = .ok (.invokevirtual 337, 3) := dk_182 1 81 (dk_at dksX7_monic_2 6 rfl rfl)
theorem dX7_monic_55 : decode cX7_monic 55 = .ok (.iconst 0, 1) := dk_3 (dk_at dksX7_monic_2 9 rfl rfl)
theorem dX7_monic_56 : decode cX7_monic 56 = .ok (.invokevirtual 364, 3) := dk_182 1 108 (dk_at dksX7_monic_2 10 rfl rfl)
theorem dX7_monic_59 : decode cX7_monic 59 = .ok (.aload_n 0, 1) := dk_42 (dk_at dksX7_monic_2 13 rfl rfl)
theorem dX7_monic_60 : decode cX7_monic 60 = .ok (.iload_n 2, 1) := dk_28 (dk_at dksX7_monic_2 14 rfl rfl)
theorem dX7_monic_61 : decode cX7_monic 61 = .ok (.invokevirtual 382, 3) := dk_182 1 126 (dk_at dksX7_monic_2 15 rfl rfl)
theorem dX7_monic_64 : decode cX7_monic 64 = .ok (.ireturn, 1) := dk_172 (dk_at dksX7_monic_2 18 rfl rfl)
abbrev cX7_derive : ByteArray := prog_10_method_82_code
def yX7_derive : MethodName := ⟨RX7, "derive", "(III)I"⟩
def dkwX7_derive_4 : List UInt8 := [167, 255, 204, 42, 29, 182, 1, 126, 172]
abbrev dktX7_derive_4 : List UInt8 := dkwX7_derive_4 ++ []
def dkwX7_derive_3 : List UInt8 := [28, 104, 120, 100, 42, 27, 21, 4, 182, 1, 8, 21, 5, 104, 42, 180, 0, 231, 112, 79, 132, 4, 1]
abbrev dktX7_derive_3 : List UInt8 := dkwX7_derive_3 ++ dktX7_derive_4
def dkwX7_derive_2 : List UInt8 := [162, 0, 50, 21, 4, 28, 184, 0, 95, 54, 5, 21, 5, 158, 0, 31, 42, 180, 0, 31, 21, 4, 4, 7]
abbrev dktX7_derive_2 : List UInt8 := dkwX7_derive_2 ++ dktX7_derive_3
def dkwX7_derive_1 : List UInt8 := [182, 1, 20, 154, 0, 9, 42, 4, 182, 0, 221, 172, 42, 182, 1, 105, 3, 54, 4, 21, 4, 17, 16, 0]
abbrev dktX7_derive_1 : List UInt8 := dkwX7_derive_1 ++ dktX7_derive_2
def dkwX7_derive_0 : List UInt8 := [42, 3, 181, 0, 89, 42, 27, 182, 1, 20, 153, 0, 18, 28, 184, 1, 23, 153, 0, 11, 42, 29]
abbrev dktX7_derive_0 : List UInt8 := dkwX7_derive_0 ++ dktX7_derive_1
theorem dksX7_derive_0 : cX7_derive.data.toList.drop 0 = dktX7_derive_0 := by decide +kernel
theorem dksX7_derive_1 : cX7_derive.data.toList.drop 22 = dktX7_derive_1 := dk_seg dksX7_derive_0 22 rfl rfl
theorem dksX7_derive_2 : cX7_derive.data.toList.drop 46 = dktX7_derive_2 := dk_seg dksX7_derive_1 24 rfl rfl
theorem dksX7_derive_3 : cX7_derive.data.toList.drop 70 = dktX7_derive_3 := dk_seg dksX7_derive_2 24 rfl rfl
theorem dksX7_derive_4 : cX7_derive.data.toList.drop 93 = dktX7_derive_4 := dk_seg dksX7_derive_3 23 rfl rfl
theorem dX7_derive_0 : decode cX7_derive 0 = .ok (.aload_n 0, 1) := dk_42 (dk_at dksX7_derive_0 0 rfl rfl)
theorem dX7_derive_1 : decode cX7_derive 1 = .ok (.iconst 0, 1) := dk_3 (dk_at dksX7_derive_0 1 rfl rfl)
theorem dX7_derive_2 : decode cX7_derive 2 = .ok (.putfield 89, 3) := dk_181 0 89 (dk_at dksX7_derive_0 2 rfl rfl)
theorem dX7_derive_5 : decode cX7_derive 5 = .ok (.aload_n 0, 1) := dk_42 (dk_at dksX7_derive_0 5 rfl rfl)
theorem dX7_derive_6 : decode cX7_derive 6 = .ok (.iload_n 1, 1) := dk_27 (dk_at dksX7_derive_0 6 rfl rfl)
theorem dX7_derive_7 : decode cX7_derive 7 = .ok (.invokevirtual 276, 3) := dk_182 1 20 (dk_at dksX7_derive_0 7 rfl rfl)
theorem dX7_derive_10 : decode cX7_derive 10 = .ok (.ifCond .eq 18, 3) := dk_153 0 18 (dk_at dksX7_derive_0 10 rfl rfl)
theorem dX7_derive_13 : decode cX7_derive 13 = .ok (.iload_n 2, 1) := dk_28 (dk_at dksX7_derive_0 13 rfl rfl)
theorem dX7_derive_14 : decode cX7_derive 14 = .ok (.invokestatic 279, 3) := dk_184 1 23 (dk_at dksX7_derive_0 14 rfl rfl)
theorem dX7_derive_17 : decode cX7_derive 17 = .ok (.ifCond .eq 11, 3) := dk_153 0 11 (dk_at dksX7_derive_0 17 rfl rfl)
theorem dX7_derive_20 : decode cX7_derive 20 = .ok (.aload_n 0, 1) := dk_42 (dk_at dksX7_derive_0 20 rfl rfl)
theorem dX7_derive_21 : decode cX7_derive 21 = .ok (.iload_n 3, 1) := dk_29 (dk_at dksX7_derive_0 21 rfl rfl)
theorem dX7_derive_22 : decode cX7_derive 22 = .ok (.invokevirtual 276, 3) := dk_182 1 20 (dk_at dksX7_derive_1 0 rfl rfl)
theorem dX7_derive_25 : decode cX7_derive 25 = .ok (.ifCond .ne 9, 3) := dk_154 0 9 (dk_at dksX7_derive_1 3 rfl rfl)
theorem dX7_derive_28 : decode cX7_derive 28 = .ok (.aload_n 0, 1) := dk_42 (dk_at dksX7_derive_1 6 rfl rfl)
theorem dX7_derive_29 : decode cX7_derive 29 = .ok (.iconst 1, 1) := dk_4 (dk_at dksX7_derive_1 7 rfl rfl)
theorem dX7_derive_30 : decode cX7_derive 30 = .ok (.invokevirtual 221, 3) := dk_182 0 221 (dk_at dksX7_derive_1 8 rfl rfl)
theorem dX7_derive_33 : decode cX7_derive 33 = .ok (.ireturn, 1) := dk_172 (dk_at dksX7_derive_1 11 rfl rfl)
theorem dX7_derive_34 : decode cX7_derive 34 = .ok (.aload_n 0, 1) := dk_42 (dk_at dksX7_derive_1 12 rfl rfl)
theorem dX7_derive_35 : decode cX7_derive 35 = .ok (.invokevirtual 361, 3) := dk_182 1 105 (dk_at dksX7_derive_1 13 rfl rfl)
theorem dX7_derive_38 : decode cX7_derive 38 = .ok (.iconst 0, 1) := dk_3 (dk_at dksX7_derive_1 16 rfl rfl)
theorem dX7_derive_39 : decode cX7_derive 39 = .ok (.istore 4, 2) := dk_54 4 (dk_at dksX7_derive_1 17 rfl rfl)
theorem dX7_derive_41 : decode cX7_derive 41 = .ok (.iload 4, 2) := dk_21 4 (dk_at dksX7_derive_1 19 rfl rfl)
theorem dX7_derive_43 : decode cX7_derive 43 = .ok (.sipush 4096, 3) := dk_17 16 0 (dk_at dksX7_derive_1 21 rfl rfl)
theorem dX7_derive_46 : decode cX7_derive 46 = .ok (.if_icmp .ge 50, 3) := dk_162 0 50 (dk_at dksX7_derive_2 0 rfl rfl)
theorem dX7_derive_49 : decode cX7_derive 49 = .ok (.iload 4, 2) := dk_21 4 (dk_at dksX7_derive_2 3 rfl rfl)
theorem dX7_derive_51 : decode cX7_derive 51 = .ok (.iload_n 2, 1) := dk_28 (dk_at dksX7_derive_2 5 rfl rfl)
theorem dX7_derive_52 : decode cX7_derive 52 = .ok (.invokestatic 95, 3) := dk_184 0 95 (dk_at dksX7_derive_2 6 rfl rfl)
theorem dX7_derive_55 : decode cX7_derive 55 = .ok (.istore 5, 2) := dk_54 5 (dk_at dksX7_derive_2 9 rfl rfl)
theorem dX7_derive_57 : decode cX7_derive 57 = .ok (.iload 5, 2) := dk_21 5 (dk_at dksX7_derive_2 11 rfl rfl)
theorem dX7_derive_59 : decode cX7_derive 59 = .ok (.ifCond .le 31, 3) := dk_158 0 31 (dk_at dksX7_derive_2 13 rfl rfl)
theorem dX7_derive_62 : decode cX7_derive 62 = .ok (.aload_n 0, 1) := dk_42 (dk_at dksX7_derive_2 16 rfl rfl)
theorem dX7_derive_63 : decode cX7_derive 63 = .ok (.getfield 31, 3) := dk_180 0 31 (dk_at dksX7_derive_2 17 rfl rfl)
theorem dX7_derive_66 : decode cX7_derive 66 = .ok (.iload 4, 2) := dk_21 4 (dk_at dksX7_derive_2 20 rfl rfl)
theorem dX7_derive_68 : decode cX7_derive 68 = .ok (.iconst 1, 1) := dk_4 (dk_at dksX7_derive_2 22 rfl rfl)
theorem dX7_derive_69 : decode cX7_derive 69 = .ok (.iconst 4, 1) := dk_7 (dk_at dksX7_derive_2 23 rfl rfl)
theorem dX7_derive_70 : decode cX7_derive 70 = .ok (.iload_n 2, 1) := dk_28 (dk_at dksX7_derive_3 0 rfl rfl)
theorem dX7_derive_71 : decode cX7_derive 71 = .ok (.imul, 1) := dk_104 (dk_at dksX7_derive_3 1 rfl rfl)
theorem dX7_derive_72 : decode cX7_derive 72 = .ok (.ishl, 1) := dk_120 (dk_at dksX7_derive_3 2 rfl rfl)
theorem dX7_derive_73 : decode cX7_derive 73 = .ok (.isub, 1) := dk_100 (dk_at dksX7_derive_3 3 rfl rfl)
theorem dX7_derive_74 : decode cX7_derive 74 = .ok (.aload_n 0, 1) := dk_42 (dk_at dksX7_derive_3 4 rfl rfl)
theorem dX7_derive_75 : decode cX7_derive 75 = .ok (.iload_n 1, 1) := dk_27 (dk_at dksX7_derive_3 5 rfl rfl)
theorem dX7_derive_76 : decode cX7_derive 76 = .ok (.iload 4, 2) := dk_21 4 (dk_at dksX7_derive_3 6 rfl rfl)
theorem dX7_derive_78 : decode cX7_derive 78 = .ok (.invokevirtual 264, 3) := dk_182 1 8 (dk_at dksX7_derive_3 8 rfl rfl)
theorem dX7_derive_81 : decode cX7_derive 81 = .ok (.iload 5, 2) := dk_21 5 (dk_at dksX7_derive_3 11 rfl rfl)
theorem dX7_derive_83 : decode cX7_derive 83 = .ok (.imul, 1) := dk_104 (dk_at dksX7_derive_3 13 rfl rfl)
theorem dX7_derive_84 : decode cX7_derive 84 = .ok (.aload_n 0, 1) := dk_42 (dk_at dksX7_derive_3 14 rfl rfl)
theorem dX7_derive_85 : decode cX7_derive 85 = .ok (.getfield 231, 3) := dk_180 0 231 (dk_at dksX7_derive_3 15 rfl rfl)
theorem dX7_derive_88 : decode cX7_derive 88 = .ok (.irem, 1) := dk_112 (dk_at dksX7_derive_3 18 rfl rfl)
theorem dX7_derive_89 : decode cX7_derive 89 = .ok (.iastore, 1) := dk_79 (dk_at dksX7_derive_3 19 rfl rfl)
theorem dX7_derive_90 : decode cX7_derive 90 = .ok (.iinc 4 1, 3) := dk_132 4 1 (dk_at dksX7_derive_3 20 rfl rfl)
theorem dX7_derive_93 : decode cX7_derive 93 = .ok (.goto (-52), 3) := dk_167 255 204 (dk_at dksX7_derive_4 0 rfl rfl)
theorem dX7_derive_96 : decode cX7_derive 96 = .ok (.aload_n 0, 1) := dk_42 (dk_at dksX7_derive_4 3 rfl rfl)
theorem dX7_derive_97 : decode cX7_derive 97 = .ok (.iload_n 3, 1) := dk_29 (dk_at dksX7_derive_4 4 rfl rfl)
theorem dX7_derive_98 : decode cX7_derive 98 = .ok (.invokevirtual 382, 3) := dk_182 1 126 (dk_at dksX7_derive_4 5 rfl rfl)
theorem dX7_derive_101 : decode cX7_derive 101 = .ok (.ireturn, 1) := dk_172 (dk_at dksX7_derive_4 8 rfl rfl)
abbrev cX7_put : ByteArray := prog_10_method_83_code
def yX7_put : MethodName := ⟨RX7, "put", "(IIII)I"⟩
def dkwX7_put_5 : List UInt8 := [180, 0, 231, 112, 79, 132, 5, 1, 167, 255, 191, 42, 21, 4, 182, 1, 126, 172]
abbrev dktX7_put_5 : List UInt8 := dkwX7_put_5 ++ []
def dkwX7_put_4 : List UInt8 := [180, 0, 31, 21, 7, 46, 42, 27, 21, 5, 182, 1, 8, 42, 29, 21, 6, 182, 1, 39, 104, 96, 42]
abbrev dktX7_put_4 : List UInt8 := dkwX7_put_4 ++ dktX7_put_5
def dkwX7_put_3 : List UInt8 := [184, 0, 95, 54, 6, 21, 5, 21, 6, 7, 28, 104, 120, 100, 54, 7, 42, 180, 0, 31, 21, 7, 42]
abbrev dktX7_put_3 : List UInt8 := dkwX7_put_3 ++ dktX7_put_4
def dkwX7_put_2 : List UInt8 := [182, 0, 221, 172, 42, 182, 1, 105, 3, 54, 5, 21, 5, 17, 16, 0, 162, 0, 63, 21, 5, 28]
abbrev dktX7_put_2 : List UInt8 := dkwX7_put_2 ++ dktX7_put_3
def dkwX7_put_1 : List UInt8 := [182, 1, 20, 154, 0, 9, 42, 4, 182, 0, 221, 172, 42, 29, 182, 1, 42, 154, 0, 9, 42, 5]
abbrev dktX7_put_1 : List UInt8 := dkwX7_put_1 ++ dktX7_put_2
def dkwX7_put_0 : List UInt8 := [42, 3, 181, 0, 89, 42, 27, 182, 1, 20, 153, 0, 19, 28, 184, 1, 23, 153, 0, 12, 42, 21, 4]
abbrev dktX7_put_0 : List UInt8 := dkwX7_put_0 ++ dktX7_put_1
theorem dksX7_put_0 : cX7_put.data.toList.drop 0 = dktX7_put_0 := by decide +kernel
theorem dksX7_put_1 : cX7_put.data.toList.drop 23 = dktX7_put_1 := dk_seg dksX7_put_0 23 rfl rfl
theorem dksX7_put_2 : cX7_put.data.toList.drop 45 = dktX7_put_2 := dk_seg dksX7_put_1 22 rfl rfl
theorem dksX7_put_3 : cX7_put.data.toList.drop 67 = dktX7_put_3 := dk_seg dksX7_put_2 22 rfl rfl
theorem dksX7_put_4 : cX7_put.data.toList.drop 90 = dktX7_put_4 := dk_seg dksX7_put_3 23 rfl rfl
theorem dksX7_put_5 : cX7_put.data.toList.drop 113 = dktX7_put_5 := dk_seg dksX7_put_4 23 rfl rfl
theorem dX7_put_0 : decode cX7_put 0 = .ok (.aload_n 0, 1) := dk_42 (dk_at dksX7_put_0 0 rfl rfl)
theorem dX7_put_1 : decode cX7_put 1 = .ok (.iconst 0, 1) := dk_3 (dk_at dksX7_put_0 1 rfl rfl)
theorem dX7_put_2 : decode cX7_put 2 = .ok (.putfield 89, 3) := dk_181 0 89 (dk_at dksX7_put_0 2 rfl rfl)
theorem dX7_put_5 : decode cX7_put 5 = .ok (.aload_n 0, 1) := dk_42 (dk_at dksX7_put_0 5 rfl rfl)
theorem dX7_put_6 : decode cX7_put 6 = .ok (.iload_n 1, 1) := dk_27 (dk_at dksX7_put_0 6 rfl rfl)
theorem dX7_put_7 : decode cX7_put 7 = .ok (.invokevirtual 276, 3) := dk_182 1 20 (dk_at dksX7_put_0 7 rfl rfl)
theorem dX7_put_10 : decode cX7_put 10 = .ok (.ifCond .eq 19, 3) := dk_153 0 19 (dk_at dksX7_put_0 10 rfl rfl)
theorem dX7_put_13 : decode cX7_put 13 = .ok (.iload_n 2, 1) := dk_28 (dk_at dksX7_put_0 13 rfl rfl)
theorem dX7_put_14 : decode cX7_put 14 = .ok (.invokestatic 279, 3) := dk_184 1 23 (dk_at dksX7_put_0 14 rfl rfl)
theorem dX7_put_17 : decode cX7_put 17 = .ok (.ifCond .eq 12, 3) := dk_153 0 12 (dk_at dksX7_put_0 17 rfl rfl)
theorem dX7_put_20 : decode cX7_put 20 = .ok (.aload_n 0, 1) := dk_42 (dk_at dksX7_put_0 20 rfl rfl)
theorem dX7_put_21 : decode cX7_put 21 = .ok (.iload 4, 2) := dk_21 4 (dk_at dksX7_put_0 21 rfl rfl)
theorem dX7_put_23 : decode cX7_put 23 = .ok (.invokevirtual 276, 3) := dk_182 1 20 (dk_at dksX7_put_1 0 rfl rfl)
theorem dX7_put_26 : decode cX7_put 26 = .ok (.ifCond .ne 9, 3) := dk_154 0 9 (dk_at dksX7_put_1 3 rfl rfl)
theorem dX7_put_29 : decode cX7_put 29 = .ok (.aload_n 0, 1) := dk_42 (dk_at dksX7_put_1 6 rfl rfl)
theorem dX7_put_30 : decode cX7_put 30 = .ok (.iconst 1, 1) := dk_4 (dk_at dksX7_put_1 7 rfl rfl)
theorem dX7_put_31 : decode cX7_put 31 = .ok (.invokevirtual 221, 3) := dk_182 0 221 (dk_at dksX7_put_1 8 rfl rfl)
theorem dX7_put_34 : decode cX7_put 34 = .ok (.ireturn, 1) := dk_172 (dk_at dksX7_put_1 11 rfl rfl)
theorem dX7_put_35 : decode cX7_put 35 = .ok (.aload_n 0, 1) := dk_42 (dk_at dksX7_put_1 12 rfl rfl)
theorem dX7_put_36 : decode cX7_put 36 = .ok (.iload_n 3, 1) := dk_29 (dk_at dksX7_put_1 13 rfl rfl)
theorem dX7_put_37 : decode cX7_put 37 = .ok (.invokevirtual 298, 3) := dk_182 1 42 (dk_at dksX7_put_1 14 rfl rfl)
theorem dX7_put_40 : decode cX7_put 40 = .ok (.ifCond .ne 9, 3) := dk_154 0 9 (dk_at dksX7_put_1 17 rfl rfl)
theorem dX7_put_43 : decode cX7_put 43 = .ok (.aload_n 0, 1) := dk_42 (dk_at dksX7_put_1 20 rfl rfl)
theorem dX7_put_44 : decode cX7_put 44 = .ok (.iconst 2, 1) := dk_5 (dk_at dksX7_put_1 21 rfl rfl)
theorem dX7_put_45 : decode cX7_put 45 = .ok (.invokevirtual 221, 3) := dk_182 0 221 (dk_at dksX7_put_2 0 rfl rfl)
theorem dX7_put_48 : decode cX7_put 48 = .ok (.ireturn, 1) := dk_172 (dk_at dksX7_put_2 3 rfl rfl)
theorem dX7_put_49 : decode cX7_put 49 = .ok (.aload_n 0, 1) := dk_42 (dk_at dksX7_put_2 4 rfl rfl)
theorem dX7_put_50 : decode cX7_put 50 = .ok (.invokevirtual 361, 3) := dk_182 1 105 (dk_at dksX7_put_2 5 rfl rfl)
theorem dX7_put_53 : decode cX7_put 53 = .ok (.iconst 0, 1) := dk_3 (dk_at dksX7_put_2 8 rfl rfl)
theorem dX7_put_54 : decode cX7_put 54 = .ok (.istore 5, 2) := dk_54 5 (dk_at dksX7_put_2 9 rfl rfl)
theorem dX7_put_56 : decode cX7_put 56 = .ok (.iload 5, 2) := dk_21 5 (dk_at dksX7_put_2 11 rfl rfl)
theorem dX7_put_58 : decode cX7_put 58 = .ok (.sipush 4096, 3) := dk_17 16 0 (dk_at dksX7_put_2 13 rfl rfl)
theorem dX7_put_61 : decode cX7_put 61 = .ok (.if_icmp .ge 63, 3) := dk_162 0 63 (dk_at dksX7_put_2 16 rfl rfl)
theorem dX7_put_64 : decode cX7_put 64 = .ok (.iload 5, 2) := dk_21 5 (dk_at dksX7_put_2 19 rfl rfl)
theorem dX7_put_66 : decode cX7_put 66 = .ok (.iload_n 2, 1) := dk_28 (dk_at dksX7_put_2 21 rfl rfl)
theorem dX7_put_67 : decode cX7_put 67 = .ok (.invokestatic 95, 3) := dk_184 0 95 (dk_at dksX7_put_3 0 rfl rfl)
theorem dX7_put_70 : decode cX7_put 70 = .ok (.istore 6, 2) := dk_54 6 (dk_at dksX7_put_3 3 rfl rfl)
theorem dX7_put_72 : decode cX7_put 72 = .ok (.iload 5, 2) := dk_21 5 (dk_at dksX7_put_3 5 rfl rfl)
theorem dX7_put_74 : decode cX7_put 74 = .ok (.iload 6, 2) := dk_21 6 (dk_at dksX7_put_3 7 rfl rfl)
theorem dX7_put_76 : decode cX7_put 76 = .ok (.iconst 4, 1) := dk_7 (dk_at dksX7_put_3 9 rfl rfl)
theorem dX7_put_77 : decode cX7_put 77 = .ok (.iload_n 2, 1) := dk_28 (dk_at dksX7_put_3 10 rfl rfl)
theorem dX7_put_78 : decode cX7_put 78 = .ok (.imul, 1) := dk_104 (dk_at dksX7_put_3 11 rfl rfl)
theorem dX7_put_79 : decode cX7_put 79 = .ok (.ishl, 1) := dk_120 (dk_at dksX7_put_3 12 rfl rfl)
theorem dX7_put_80 : decode cX7_put 80 = .ok (.isub, 1) := dk_100 (dk_at dksX7_put_3 13 rfl rfl)
theorem dX7_put_81 : decode cX7_put 81 = .ok (.istore 7, 2) := dk_54 7 (dk_at dksX7_put_3 14 rfl rfl)
theorem dX7_put_83 : decode cX7_put 83 = .ok (.aload_n 0, 1) := dk_42 (dk_at dksX7_put_3 16 rfl rfl)
theorem dX7_put_84 : decode cX7_put 84 = .ok (.getfield 31, 3) := dk_180 0 31 (dk_at dksX7_put_3 17 rfl rfl)
theorem dX7_put_87 : decode cX7_put 87 = .ok (.iload 7, 2) := dk_21 7 (dk_at dksX7_put_3 20 rfl rfl)
theorem dX7_put_89 : decode cX7_put 89 = .ok (.aload_n 0, 1) := dk_42 (dk_at dksX7_put_3 22 rfl rfl)
theorem dX7_put_90 : decode cX7_put 90 = .ok (.getfield 31, 3) := dk_180 0 31 (dk_at dksX7_put_4 0 rfl rfl)
theorem dX7_put_93 : decode cX7_put 93 = .ok (.iload 7, 2) := dk_21 7 (dk_at dksX7_put_4 3 rfl rfl)
theorem dX7_put_95 : decode cX7_put 95 = .ok (.iaload, 1) := dk_46 (dk_at dksX7_put_4 5 rfl rfl)
theorem dX7_put_96 : decode cX7_put 96 = .ok (.aload_n 0, 1) := dk_42 (dk_at dksX7_put_4 6 rfl rfl)
theorem dX7_put_97 : decode cX7_put 97 = .ok (.iload_n 1, 1) := dk_27 (dk_at dksX7_put_4 7 rfl rfl)
theorem dX7_put_98 : decode cX7_put 98 = .ok (.iload 5, 2) := dk_21 5 (dk_at dksX7_put_4 8 rfl rfl)
theorem dX7_put_100 : decode cX7_put 100 = .ok (.invokevirtual 264, 3) := dk_182 1 8 (dk_at dksX7_put_4 10 rfl rfl)
theorem dX7_put_103 : decode cX7_put 103 = .ok (.aload_n 0, 1) := dk_42 (dk_at dksX7_put_4 13 rfl rfl)
theorem dX7_put_104 : decode cX7_put 104 = .ok (.iload_n 3, 1) := dk_29 (dk_at dksX7_put_4 14 rfl rfl)
theorem dX7_put_105 : decode cX7_put 105 = .ok (.iload 6, 2) := dk_21 6 (dk_at dksX7_put_4 15 rfl rfl)
theorem dX7_put_107 : decode cX7_put 107 = .ok (.invokevirtual 295, 3) := dk_182 1 39 (dk_at dksX7_put_4 17 rfl rfl)
theorem dX7_put_110 : decode cX7_put 110 = .ok (.imul, 1) := dk_104 (dk_at dksX7_put_4 20 rfl rfl)
theorem dX7_put_111 : decode cX7_put 111 = .ok (.iadd, 1) := dk_96 (dk_at dksX7_put_4 21 rfl rfl)
theorem dX7_put_112 : decode cX7_put 112 = .ok (.aload_n 0, 1) := dk_42 (dk_at dksX7_put_4 22 rfl rfl)
theorem dX7_put_113 : decode cX7_put 113 = .ok (.getfield 231, 3) := dk_180 0 231 (dk_at dksX7_put_5 0 rfl rfl)
theorem dX7_put_116 : decode cX7_put 116 = .ok (.irem, 1) := dk_112 (dk_at dksX7_put_5 3 rfl rfl)
theorem dX7_put_117 : decode cX7_put 117 = .ok (.iastore, 1) := dk_79 (dk_at dksX7_put_5 4 rfl rfl)
theorem dX7_put_118 : decode cX7_put 118 = .ok (.iinc 5 1, 3) := dk_132 5 1 (dk_at dksX7_put_5 5 rfl rfl)
theorem dX7_put_121 : decode cX7_put 121 = .ok (.goto (-65), 3) := dk_167 255 191 (dk_at dksX7_put_5 8 rfl rfl)
theorem dX7_put_124 : decode cX7_put 124 = .ok (.aload_n 0, 1) := dk_42 (dk_at dksX7_put_5 11 rfl rfl)
theorem dX7_put_125 : decode cX7_put 125 = .ok (.iload 4, 2) := dk_21 4 (dk_at dksX7_put_5 12 rfl rfl)
theorem dX7_put_127 : decode cX7_put 127 = .ok (.invokevirtual 382, 3) := dk_182 1 126 (dk_at dksX7_put_5 14 rfl rfl)
theorem dX7_put_130 : decode cX7_put 130 = .ok (.ireturn, 1) := dk_172 (dk_at dksX7_put_5 17 rfl rfl)
abbrev cX7_swap : ByteArray := prog_10_method_84_code
def yX7_swap : MethodName := ⟨RX7, "swap", "(IIII)I"⟩
def dkwX7_swap_5 : List UInt8 := [27, 21, 5, 182, 1, 8, 79, 132, 5, 1, 167, 255, 176, 42, 21, 4, 182, 1, 126, 172]
abbrev dktX7_swap_5 : List UInt8 := dkwX7_swap_5 ++ []
def dkwX7_swap_4 : List UInt8 := [184, 0, 95, 7, 21, 7, 104, 120, 128, 54, 6, 132, 7, 1, 167, 255, 210, 42, 180, 0, 31, 21, 6, 42]
abbrev dktX7_swap_4 : List UInt8 := dkwX7_swap_4 ++ dktX7_swap_5
def dkwX7_swap_3 : List UInt8 := [21, 5, 21, 7, 28, 160, 0, 7, 29, 167, 0, 15, 21, 7, 29, 160, 0, 7, 28, 167, 0, 5, 21, 7]
abbrev dktX7_swap_3 : List UInt8 := dkwX7_swap_3 ++ dktX7_swap_4
def dkwX7_swap_2 : List UInt8 := [54, 5, 21, 5, 17, 16, 0, 162, 0, 78, 3, 54, 6, 3, 54, 7, 21, 7, 6, 162, 0, 46, 21, 6]
abbrev dktX7_swap_2 : List UInt8 := dkwX7_swap_2 ++ dktX7_swap_3
def dkwX7_swap_1 : List UInt8 := [153, 0, 12, 42, 21, 4, 182, 1, 20, 154, 0, 9, 42, 4, 182, 0, 221, 172, 42, 182, 1, 105, 3]
abbrev dktX7_swap_1 : List UInt8 := dkwX7_swap_1 ++ dktX7_swap_2
def dkwX7_swap_0 : List UInt8 := [42, 3, 181, 0, 89, 42, 27, 182, 1, 20, 153, 0, 26, 28, 184, 1, 23, 153, 0, 19, 29, 184, 1, 23]
abbrev dktX7_swap_0 : List UInt8 := dkwX7_swap_0 ++ dktX7_swap_1
theorem dksX7_swap_0 : cX7_swap.data.toList.drop 0 = dktX7_swap_0 := by decide +kernel
theorem dksX7_swap_1 : cX7_swap.data.toList.drop 24 = dktX7_swap_1 := dk_seg dksX7_swap_0 24 rfl rfl
theorem dksX7_swap_2 : cX7_swap.data.toList.drop 47 = dktX7_swap_2 := dk_seg dksX7_swap_1 23 rfl rfl
theorem dksX7_swap_3 : cX7_swap.data.toList.drop 71 = dktX7_swap_3 := dk_seg dksX7_swap_2 24 rfl rfl
theorem dksX7_swap_4 : cX7_swap.data.toList.drop 95 = dktX7_swap_4 := dk_seg dksX7_swap_3 24 rfl rfl
theorem dksX7_swap_5 : cX7_swap.data.toList.drop 119 = dktX7_swap_5 := dk_seg dksX7_swap_4 24 rfl rfl
theorem dX7_swap_0 : decode cX7_swap 0 = .ok (.aload_n 0, 1) := dk_42 (dk_at dksX7_swap_0 0 rfl rfl)
theorem dX7_swap_1 : decode cX7_swap 1 = .ok (.iconst 0, 1) := dk_3 (dk_at dksX7_swap_0 1 rfl rfl)
theorem dX7_swap_2 : decode cX7_swap 2 = .ok (.putfield 89, 3) := dk_181 0 89 (dk_at dksX7_swap_0 2 rfl rfl)
theorem dX7_swap_5 : decode cX7_swap 5 = .ok (.aload_n 0, 1) := dk_42 (dk_at dksX7_swap_0 5 rfl rfl)
theorem dX7_swap_6 : decode cX7_swap 6 = .ok (.iload_n 1, 1) := dk_27 (dk_at dksX7_swap_0 6 rfl rfl)
theorem dX7_swap_7 : decode cX7_swap 7 = .ok (.invokevirtual 276, 3) := dk_182 1 20 (dk_at dksX7_swap_0 7 rfl rfl)
theorem dX7_swap_10 : decode cX7_swap 10 = .ok (.ifCond .eq 26, 3) := dk_153 0 26 (dk_at dksX7_swap_0 10 rfl rfl)
theorem dX7_swap_13 : decode cX7_swap 13 = .ok (.iload_n 2, 1) := dk_28 (dk_at dksX7_swap_0 13 rfl rfl)
theorem dX7_swap_14 : decode cX7_swap 14 = .ok (.invokestatic 279, 3) := dk_184 1 23 (dk_at dksX7_swap_0 14 rfl rfl)
theorem dX7_swap_17 : decode cX7_swap 17 = .ok (.ifCond .eq 19, 3) := dk_153 0 19 (dk_at dksX7_swap_0 17 rfl rfl)
theorem dX7_swap_20 : decode cX7_swap 20 = .ok (.iload_n 3, 1) := dk_29 (dk_at dksX7_swap_0 20 rfl rfl)
theorem dX7_swap_21 : decode cX7_swap 21 = .ok (.invokestatic 279, 3) := dk_184 1 23 (dk_at dksX7_swap_0 21 rfl rfl)
theorem dX7_swap_24 : decode cX7_swap 24 = .ok (.ifCond .eq 12, 3) := dk_153 0 12 (dk_at dksX7_swap_1 0 rfl rfl)
theorem dX7_swap_27 : decode cX7_swap 27 = .ok (.aload_n 0, 1) := dk_42 (dk_at dksX7_swap_1 3 rfl rfl)
theorem dX7_swap_28 : decode cX7_swap 28 = .ok (.iload 4, 2) := dk_21 4 (dk_at dksX7_swap_1 4 rfl rfl)
theorem dX7_swap_30 : decode cX7_swap 30 = .ok (.invokevirtual 276, 3) := dk_182 1 20 (dk_at dksX7_swap_1 6 rfl rfl)
theorem dX7_swap_33 : decode cX7_swap 33 = .ok (.ifCond .ne 9, 3) := dk_154 0 9 (dk_at dksX7_swap_1 9 rfl rfl)
theorem dX7_swap_36 : decode cX7_swap 36 = .ok (.aload_n 0, 1) := dk_42 (dk_at dksX7_swap_1 12 rfl rfl)
theorem dX7_swap_37 : decode cX7_swap 37 = .ok (.iconst 1, 1) := dk_4 (dk_at dksX7_swap_1 13 rfl rfl)
theorem dX7_swap_38 : decode cX7_swap 38 = .ok (.invokevirtual 221, 3) := dk_182 0 221 (dk_at dksX7_swap_1 14 rfl rfl)
theorem dX7_swap_41 : decode cX7_swap 41 = .ok (.ireturn, 1) := dk_172 (dk_at dksX7_swap_1 17 rfl rfl)
theorem dX7_swap_42 : decode cX7_swap 42 = .ok (.aload_n 0, 1) := dk_42 (dk_at dksX7_swap_1 18 rfl rfl)
theorem dX7_swap_43 : decode cX7_swap 43 = .ok (.invokevirtual 361, 3) := dk_182 1 105 (dk_at dksX7_swap_1 19 rfl rfl)
theorem dX7_swap_46 : decode cX7_swap 46 = .ok (.iconst 0, 1) := dk_3 (dk_at dksX7_swap_1 22 rfl rfl)
theorem dX7_swap_47 : decode cX7_swap 47 = .ok (.istore 5, 2) := dk_54 5 (dk_at dksX7_swap_2 0 rfl rfl)
theorem dX7_swap_49 : decode cX7_swap 49 = .ok (.iload 5, 2) := dk_21 5 (dk_at dksX7_swap_2 2 rfl rfl)
theorem dX7_swap_51 : decode cX7_swap 51 = .ok (.sipush 4096, 3) := dk_17 16 0 (dk_at dksX7_swap_2 4 rfl rfl)
theorem dX7_swap_54 : decode cX7_swap 54 = .ok (.if_icmp .ge 78, 3) := dk_162 0 78 (dk_at dksX7_swap_2 7 rfl rfl)
theorem dX7_swap_57 : decode cX7_swap 57 = .ok (.iconst 0, 1) := dk_3 (dk_at dksX7_swap_2 10 rfl rfl)
theorem dX7_swap_58 : decode cX7_swap 58 = .ok (.istore 6, 2) := dk_54 6 (dk_at dksX7_swap_2 11 rfl rfl)
theorem dX7_swap_60 : decode cX7_swap 60 = .ok (.iconst 0, 1) := dk_3 (dk_at dksX7_swap_2 13 rfl rfl)
theorem dX7_swap_61 : decode cX7_swap 61 = .ok (.istore 7, 2) := dk_54 7 (dk_at dksX7_swap_2 14 rfl rfl)
theorem dX7_swap_63 : decode cX7_swap 63 = .ok (.iload 7, 2) := dk_21 7 (dk_at dksX7_swap_2 16 rfl rfl)
theorem dX7_swap_65 : decode cX7_swap 65 = .ok (.iconst 3, 1) := dk_6 (dk_at dksX7_swap_2 18 rfl rfl)
theorem dX7_swap_66 : decode cX7_swap 66 = .ok (.if_icmp .ge 46, 3) := dk_162 0 46 (dk_at dksX7_swap_2 19 rfl rfl)
theorem dX7_swap_69 : decode cX7_swap 69 = .ok (.iload 6, 2) := dk_21 6 (dk_at dksX7_swap_2 22 rfl rfl)
theorem dX7_swap_71 : decode cX7_swap 71 = .ok (.iload 5, 2) := dk_21 5 (dk_at dksX7_swap_3 0 rfl rfl)
theorem dX7_swap_73 : decode cX7_swap 73 = .ok (.iload 7, 2) := dk_21 7 (dk_at dksX7_swap_3 2 rfl rfl)
theorem dX7_swap_75 : decode cX7_swap 75 = .ok (.iload_n 2, 1) := dk_28 (dk_at dksX7_swap_3 4 rfl rfl)
theorem dX7_swap_76 : decode cX7_swap 76 = .ok (.if_icmp .ne 7, 3) := dk_160 0 7 (dk_at dksX7_swap_3 5 rfl rfl)
theorem dX7_swap_79 : decode cX7_swap 79 = .ok (.iload_n 3, 1) := dk_29 (dk_at dksX7_swap_3 8 rfl rfl)
theorem dX7_swap_80 : decode cX7_swap 80 = .ok (.goto 15, 3) := dk_167 0 15 (dk_at dksX7_swap_3 9 rfl rfl)
theorem dX7_swap_83 : decode cX7_swap 83 = .ok (.iload 7, 2) := dk_21 7 (dk_at dksX7_swap_3 12 rfl rfl)
theorem dX7_swap_85 : decode cX7_swap 85 = .ok (.iload_n 3, 1) := dk_29 (dk_at dksX7_swap_3 14 rfl rfl)
theorem dX7_swap_86 : decode cX7_swap 86 = .ok (.if_icmp .ne 7, 3) := dk_160 0 7 (dk_at dksX7_swap_3 15 rfl rfl)
theorem dX7_swap_89 : decode cX7_swap 89 = .ok (.iload_n 2, 1) := dk_28 (dk_at dksX7_swap_3 18 rfl rfl)
theorem dX7_swap_90 : decode cX7_swap 90 = .ok (.goto 5, 3) := dk_167 0 5 (dk_at dksX7_swap_3 19 rfl rfl)
theorem dX7_swap_93 : decode cX7_swap 93 = .ok (.iload 7, 2) := dk_21 7 (dk_at dksX7_swap_3 22 rfl rfl)
theorem dX7_swap_95 : decode cX7_swap 95 = .ok (.invokestatic 95, 3) := dk_184 0 95 (dk_at dksX7_swap_4 0 rfl rfl)
theorem dX7_swap_98 : decode cX7_swap 98 = .ok (.iconst 4, 1) := dk_7 (dk_at dksX7_swap_4 3 rfl rfl)
theorem dX7_swap_99 : decode cX7_swap 99 = .ok (.iload 7, 2) := dk_21 7 (dk_at dksX7_swap_4 4 rfl rfl)
theorem dX7_swap_101 : decode cX7_swap 101 = .ok (.imul, 1) := dk_104 (dk_at dksX7_swap_4 6 rfl rfl)
theorem dX7_swap_102 : decode cX7_swap 102 = .ok (.ishl, 1) := dk_120 (dk_at dksX7_swap_4 7 rfl rfl)
theorem dX7_swap_103 : decode cX7_swap 103 = .ok (.ior, 1) := dk_128 (dk_at dksX7_swap_4 8 rfl rfl)
theorem dX7_swap_104 : decode cX7_swap 104 = .ok (.istore 6, 2) := dk_54 6 (dk_at dksX7_swap_4 9 rfl rfl)
theorem dX7_swap_106 : decode cX7_swap 106 = .ok (.iinc 7 1, 3) := dk_132 7 1 (dk_at dksX7_swap_4 11 rfl rfl)
theorem dX7_swap_109 : decode cX7_swap 109 = .ok (.goto (-46), 3) := dk_167 255 210 (dk_at dksX7_swap_4 14 rfl rfl)
theorem dX7_swap_112 : decode cX7_swap 112 = .ok (.aload_n 0, 1) := dk_42 (dk_at dksX7_swap_4 17 rfl rfl)
theorem dX7_swap_113 : decode cX7_swap 113 = .ok (.getfield 31, 3) := dk_180 0 31 (dk_at dksX7_swap_4 18 rfl rfl)
theorem dX7_swap_116 : decode cX7_swap 116 = .ok (.iload 6, 2) := dk_21 6 (dk_at dksX7_swap_4 21 rfl rfl)
theorem dX7_swap_118 : decode cX7_swap 118 = .ok (.aload_n 0, 1) := dk_42 (dk_at dksX7_swap_4 23 rfl rfl)
theorem dX7_swap_119 : decode cX7_swap 119 = .ok (.iload_n 1, 1) := dk_27 (dk_at dksX7_swap_5 0 rfl rfl)
theorem dX7_swap_120 : decode cX7_swap 120 = .ok (.iload 5, 2) := dk_21 5 (dk_at dksX7_swap_5 1 rfl rfl)
theorem dX7_swap_122 : decode cX7_swap 122 = .ok (.invokevirtual 264, 3) := dk_182 1 8 (dk_at dksX7_swap_5 3 rfl rfl)
theorem dX7_swap_125 : decode cX7_swap 125 = .ok (.iastore, 1) := dk_79 (dk_at dksX7_swap_5 6 rfl rfl)
theorem dX7_swap_126 : decode cX7_swap 126 = .ok (.iinc 5 1, 3) := dk_132 5 1 (dk_at dksX7_swap_5 7 rfl rfl)
theorem dX7_swap_129 : decode cX7_swap 129 = .ok (.goto (-80), 3) := dk_167 255 176 (dk_at dksX7_swap_5 10 rfl rfl)
theorem dX7_swap_132 : decode cX7_swap 132 = .ok (.aload_n 0, 1) := dk_42 (dk_at dksX7_swap_5 13 rfl rfl)
theorem dX7_swap_133 : decode cX7_swap 133 = .ok (.iload 4, 2) := dk_21 4 (dk_at dksX7_swap_5 14 rfl rfl)
theorem dX7_swap_135 : decode cX7_swap 135 = .ok (.invokevirtual 382, 3) := dk_182 1 126 (dk_at dksX7_swap_5 16 rfl rfl)
theorem dX7_swap_138 : decode cX7_swap 138 = .ok (.ireturn, 1) := dk_172 (dk_at dksX7_swap_5 19 rfl rfl)
abbrev cX7_rest : ByteArray := prog_10_method_85_code
def yX7_rest : MethodName := ⟨RX7, "rest", "(III)I"⟩
def dkwX7_rest_3 : List UInt8 := [21, 5, 42, 180, 0, 37, 21, 5, 46, 79, 132, 5, 1, 167, 255, 231, 42, 29, 182, 1, 126, 172]
abbrev dktX7_rest_3 : List UInt8 := dkwX7_rest_3 ++ []
def dkwX7_rest_2 : List UInt8 := [154, 0, 9, 42, 6, 182, 0, 221, 172, 3, 54, 5, 21, 5, 17, 16, 0, 162, 0, 23, 42, 180, 0, 31]
abbrev dktX7_rest_2 : List UInt8 := dkwX7_rest_2 ++ dktX7_rest_3
def dkwX7_rest_1 : List UInt8 := [54, 4, 21, 4, 158, 0, 10, 42, 21, 4, 182, 0, 221, 172, 42, 27, 182, 1, 99, 42, 28, 182, 1, 102]
abbrev dktX7_rest_1 : List UInt8 := dkwX7_rest_1 ++ dktX7_rest_2
def dkwX7_rest_0 : List UInt8 := [42, 3, 181, 0, 89, 42, 29, 182, 1, 20, 154, 0, 7, 4, 167, 0, 9, 42, 27, 28, 182, 1, 96]
abbrev dktX7_rest_0 : List UInt8 := dkwX7_rest_0 ++ dktX7_rest_1
theorem dksX7_rest_0 : cX7_rest.data.toList.drop 0 = dktX7_rest_0 := by decide +kernel
theorem dksX7_rest_1 : cX7_rest.data.toList.drop 23 = dktX7_rest_1 := dk_seg dksX7_rest_0 23 rfl rfl
theorem dksX7_rest_2 : cX7_rest.data.toList.drop 47 = dktX7_rest_2 := dk_seg dksX7_rest_1 24 rfl rfl
theorem dksX7_rest_3 : cX7_rest.data.toList.drop 71 = dktX7_rest_3 := dk_seg dksX7_rest_2 24 rfl rfl
theorem dX7_rest_0 : decode cX7_rest 0 = .ok (.aload_n 0, 1) := dk_42 (dk_at dksX7_rest_0 0 rfl rfl)
theorem dX7_rest_1 : decode cX7_rest 1 = .ok (.iconst 0, 1) := dk_3 (dk_at dksX7_rest_0 1 rfl rfl)
theorem dX7_rest_2 : decode cX7_rest 2 = .ok (.putfield 89, 3) := dk_181 0 89 (dk_at dksX7_rest_0 2 rfl rfl)
theorem dX7_rest_5 : decode cX7_rest 5 = .ok (.aload_n 0, 1) := dk_42 (dk_at dksX7_rest_0 5 rfl rfl)
theorem dX7_rest_6 : decode cX7_rest 6 = .ok (.iload_n 3, 1) := dk_29 (dk_at dksX7_rest_0 6 rfl rfl)
theorem dX7_rest_7 : decode cX7_rest 7 = .ok (.invokevirtual 276, 3) := dk_182 1 20 (dk_at dksX7_rest_0 7 rfl rfl)
theorem dX7_rest_10 : decode cX7_rest 10 = .ok (.ifCond .ne 7, 3) := dk_154 0 7 (dk_at dksX7_rest_0 10 rfl rfl)
theorem dX7_rest_13 : decode cX7_rest 13 = .ok (.iconst 1, 1) := dk_4 (dk_at dksX7_rest_0 13 rfl rfl)
theorem dX7_rest_14 : decode cX7_rest 14 = .ok (.goto 9, 3) := dk_167 0 9 (dk_at dksX7_rest_0 14 rfl rfl)
theorem dX7_rest_17 : decode cX7_rest 17 = .ok (.aload_n 0, 1) := dk_42 (dk_at dksX7_rest_0 17 rfl rfl)
theorem dX7_rest_18 : decode cX7_rest 18 = .ok (.iload_n 1, 1) := dk_27 (dk_at dksX7_rest_0 18 rfl rfl)
theorem dX7_rest_19 : decode cX7_rest 19 = .ok (.iload_n 2, 1) := dk_28 (dk_at dksX7_rest_0 19 rfl rfl)
theorem dX7_rest_20 : decode cX7_rest 20 = .ok (.invokevirtual 352, 3) := dk_182 1 96 (dk_at dksX7_rest_0 20 rfl rfl)
theorem dX7_rest_23 : decode cX7_rest 23 = .ok (.istore 4, 2) := dk_54 4 (dk_at dksX7_rest_1 0 rfl rfl)
theorem dX7_rest_25 : decode cX7_rest 25 = .ok (.iload 4, 2) := dk_21 4 (dk_at dksX7_rest_1 2 rfl rfl)
theorem dX7_rest_27 : decode cX7_rest 27 = .ok (.ifCond .le 10, 3) := dk_158 0 10 (dk_at dksX7_rest_1 4 rfl rfl)
theorem dX7_rest_30 : decode cX7_rest 30 = .ok (.aload_n 0, 1) := dk_42 (dk_at dksX7_rest_1 7 rfl rfl)
theorem dX7_rest_31 : decode cX7_rest 31 = .ok (.iload 4, 2) := dk_21 4 (dk_at dksX7_rest_1 8 rfl rfl)
theorem dX7_rest_33 : decode cX7_rest 33 = .ok (.invokevirtual 221, 3) := dk_182 0 221 (dk_at dksX7_rest_1 10 rfl rfl)
theorem dX7_rest_36 : decode cX7_rest 36 = .ok (.ireturn, 1) := dk_172 (dk_at dksX7_rest_1 13 rfl rfl)
theorem dX7_rest_37 : decode cX7_rest 37 = .ok (.aload_n 0, 1) := dk_42 (dk_at dksX7_rest_1 14 rfl rfl)
theorem dX7_rest_38 : decode cX7_rest 38 = .ok (.iload_n 1, 1) := dk_27 (dk_at dksX7_rest_1 15 rfl rfl)
theorem dX7_rest_39 : decode cX7_rest 39 = .ok (.invokevirtual 355, 3) := dk_182 1 99 (dk_at dksX7_rest_1 16 rfl rfl)
theorem dX7_rest_42 : decode cX7_rest 42 = .ok (.aload_n 0, 1) := dk_42 (dk_at dksX7_rest_1 19 rfl rfl)
theorem dX7_rest_43 : decode cX7_rest 43 = .ok (.iload_n 2, 1) := dk_28 (dk_at dksX7_rest_1 20 rfl rfl)
theorem dX7_rest_44 : decode cX7_rest 44 = .ok (.invokevirtual 358, 3) := dk_182 1 102 (dk_at dksX7_rest_1 21 rfl rfl)
theorem dX7_rest_47 : decode cX7_rest 47 = .ok (.ifCond .ne 9, 3) := dk_154 0 9 (dk_at dksX7_rest_2 0 rfl rfl)
theorem dX7_rest_50 : decode cX7_rest 50 = .ok (.aload_n 0, 1) := dk_42 (dk_at dksX7_rest_2 3 rfl rfl)
theorem dX7_rest_51 : decode cX7_rest 51 = .ok (.iconst 3, 1) := dk_6 (dk_at dksX7_rest_2 4 rfl rfl)
theorem dX7_rest_52 : decode cX7_rest 52 = .ok (.invokevirtual 221, 3) := dk_182 0 221 (dk_at dksX7_rest_2 5 rfl rfl)
theorem dX7_rest_55 : decode cX7_rest 55 = .ok (.ireturn, 1) := dk_172 (dk_at dksX7_rest_2 8 rfl rfl)
theorem dX7_rest_56 : decode cX7_rest 56 = .ok (.iconst 0, 1) := dk_3 (dk_at dksX7_rest_2 9 rfl rfl)
theorem dX7_rest_57 : decode cX7_rest 57 = .ok (.istore 5, 2) := dk_54 5 (dk_at dksX7_rest_2 10 rfl rfl)
theorem dX7_rest_59 : decode cX7_rest 59 = .ok (.iload 5, 2) := dk_21 5 (dk_at dksX7_rest_2 12 rfl rfl)
theorem dX7_rest_61 : decode cX7_rest 61 = .ok (.sipush 4096, 3) := dk_17 16 0 (dk_at dksX7_rest_2 14 rfl rfl)
theorem dX7_rest_64 : decode cX7_rest 64 = .ok (.if_icmp .ge 23, 3) := dk_162 0 23 (dk_at dksX7_rest_2 17 rfl rfl)
theorem dX7_rest_67 : decode cX7_rest 67 = .ok (.aload_n 0, 1) := dk_42 (dk_at dksX7_rest_2 20 rfl rfl)
theorem dX7_rest_68 : decode cX7_rest 68 = .ok (.getfield 31, 3) := dk_180 0 31 (dk_at dksX7_rest_2 21 rfl rfl)
theorem dX7_rest_71 : decode cX7_rest 71 = .ok (.iload 5, 2) := dk_21 5 (dk_at dksX7_rest_3 0 rfl rfl)
theorem dX7_rest_73 : decode cX7_rest 73 = .ok (.aload_n 0, 1) := dk_42 (dk_at dksX7_rest_3 2 rfl rfl)
theorem dX7_rest_74 : decode cX7_rest 74 = .ok (.getfield 37, 3) := dk_180 0 37 (dk_at dksX7_rest_3 3 rfl rfl)
theorem dX7_rest_77 : decode cX7_rest 77 = .ok (.iload 5, 2) := dk_21 5 (dk_at dksX7_rest_3 6 rfl rfl)
theorem dX7_rest_79 : decode cX7_rest 79 = .ok (.iaload, 1) := dk_46 (dk_at dksX7_rest_3 8 rfl rfl)
theorem dX7_rest_80 : decode cX7_rest 80 = .ok (.iastore, 1) := dk_79 (dk_at dksX7_rest_3 9 rfl rfl)
theorem dX7_rest_81 : decode cX7_rest 81 = .ok (.iinc 5 1, 3) := dk_132 5 1 (dk_at dksX7_rest_3 10 rfl rfl)
theorem dX7_rest_84 : decode cX7_rest 84 = .ok (.goto (-25), 3) := dk_167 255 231 (dk_at dksX7_rest_3 13 rfl rfl)
theorem dX7_rest_87 : decode cX7_rest 87 = .ok (.aload_n 0, 1) := dk_42 (dk_at dksX7_rest_3 16 rfl rfl)
theorem dX7_rest_88 : decode cX7_rest 88 = .ok (.iload_n 3, 1) := dk_29 (dk_at dksX7_rest_3 17 rfl rfl)
theorem dX7_rest_89 : decode cX7_rest 89 = .ok (.invokevirtual 382, 3) := dk_182 1 126 (dk_at dksX7_rest_3 18 rfl rfl)
theorem dX7_rest_92 : decode cX7_rest 92 = .ok (.ireturn, 1) := dk_172 (dk_at dksX7_rest_3 21 rfl rfl)
abbrev cX7_quotient : ByteArray := prog_10_method_86_code
def yX7_quotient : MethodName := ⟨RX7, "quotient", "(IIII)I"⟩
def dkwX7_quotient_6 : List UInt8 := [182, 1, 126, 172]
abbrev dktX7_quotient_6 : List UInt8 := dkwX7_quotient_6 ++ []
def dkwX7_quotient_5 : List UInt8 := [180, 0, 40, 17, 16, 0, 29, 104, 21, 6, 96, 46, 79, 132, 6, 1, 167, 255, 225, 42, 21, 4]
abbrev dktX7_quotient_5 : List UInt8 := dkwX7_quotient_5 ++ dktX7_quotient_6
def dkwX7_quotient_4 : List UInt8 := [6, 182, 0, 221, 172, 3, 54, 6, 21, 6, 17, 16, 0, 162, 0, 29, 42, 180, 0, 31, 21, 6, 42]
abbrev dktX7_quotient_4 : List UInt8 := dkwX7_quotient_4 ++ dktX7_quotient_5
def dkwX7_quotient_3 : List UInt8 := [158, 0, 10, 42, 21, 5, 182, 0, 221, 172, 42, 27, 182, 1, 99, 42, 28, 182, 1, 102, 154, 0, 9, 42]
abbrev dktX7_quotient_3 : List UInt8 := dkwX7_quotient_3 ++ dktX7_quotient_4
def dkwX7_quotient_2 : List UInt8 := [29, 122, 4, 126, 154, 0, 9, 42, 5, 182, 0, 221, 172, 42, 28, 182, 1, 93, 54, 5, 21, 5]
abbrev dktX7_quotient_2 : List UInt8 := dkwX7_quotient_2 ++ dktX7_quotient_3
def dkwX7_quotient_1 : List UInt8 := [182, 1, 20, 154, 0, 9, 42, 4, 182, 0, 221, 172, 28, 4, 17, 0, 255, 184, 0, 118, 153, 0, 11, 28]
abbrev dktX7_quotient_1 : List UInt8 := dkwX7_quotient_1 ++ dktX7_quotient_2
def dkwX7_quotient_0 : List UInt8 := [42, 3, 181, 0, 89, 42, 27, 182, 1, 20, 153, 0, 20, 42, 29, 182, 1, 20, 153, 0, 12, 42, 21, 4]
abbrev dktX7_quotient_0 : List UInt8 := dkwX7_quotient_0 ++ dktX7_quotient_1
theorem dksX7_quotient_0 : cX7_quotient.data.toList.drop 0 = dktX7_quotient_0 := by decide +kernel
theorem dksX7_quotient_1 : cX7_quotient.data.toList.drop 24 = dktX7_quotient_1 := dk_seg dksX7_quotient_0 24 rfl rfl
theorem dksX7_quotient_2 : cX7_quotient.data.toList.drop 48 = dktX7_quotient_2 := dk_seg dksX7_quotient_1 24 rfl rfl
theorem dksX7_quotient_3 : cX7_quotient.data.toList.drop 70 = dktX7_quotient_3 := dk_seg dksX7_quotient_2 22 rfl rfl
theorem dksX7_quotient_4 : cX7_quotient.data.toList.drop 94 = dktX7_quotient_4 := dk_seg dksX7_quotient_3 24 rfl rfl
theorem dksX7_quotient_5 : cX7_quotient.data.toList.drop 117 = dktX7_quotient_5 := dk_seg dksX7_quotient_4 23 rfl rfl
theorem dksX7_quotient_6 : cX7_quotient.data.toList.drop 139 = dktX7_quotient_6 := dk_seg dksX7_quotient_5 22 rfl rfl
theorem dX7_quotient_0 : decode cX7_quotient 0 = .ok (.aload_n 0, 1) := dk_42 (dk_at dksX7_quotient_0 0 rfl rfl)
theorem dX7_quotient_1 : decode cX7_quotient 1 = .ok (.iconst 0, 1) := dk_3 (dk_at dksX7_quotient_0 1 rfl rfl)
theorem dX7_quotient_2 : decode cX7_quotient 2 = .ok (.putfield 89, 3) := dk_181 0 89 (dk_at dksX7_quotient_0 2 rfl rfl)
theorem dX7_quotient_5 : decode cX7_quotient 5 = .ok (.aload_n 0, 1) := dk_42 (dk_at dksX7_quotient_0 5 rfl rfl)
theorem dX7_quotient_6 : decode cX7_quotient 6 = .ok (.iload_n 1, 1) := dk_27 (dk_at dksX7_quotient_0 6 rfl rfl)
theorem dX7_quotient_7 : decode cX7_quotient 7 = .ok (.invokevirtual 276, 3) := dk_182 1 20 (dk_at dksX7_quotient_0 7 rfl rfl)
theorem dX7_quotient_10 : decode cX7_quotient 10 = .ok (.ifCond .eq 20, 3) := dk_153 0 20 (dk_at dksX7_quotient_0 10 rfl rfl)
theorem dX7_quotient_13 : decode cX7_quotient 13 = .ok (.aload_n 0, 1) := dk_42 (dk_at dksX7_quotient_0 13 rfl rfl)
theorem dX7_quotient_14 : decode cX7_quotient 14 = .ok (.iload_n 3, 1) := dk_29 (dk_at dksX7_quotient_0 14 rfl rfl)
theorem dX7_quotient_15 : decode cX7_quotient 15 = .ok (.invokevirtual 276, 3) := dk_182 1 20 (dk_at dksX7_quotient_0 15 rfl rfl)
theorem dX7_quotient_18 : decode cX7_quotient 18 = .ok (.ifCond .eq 12, 3) := dk_153 0 12 (dk_at dksX7_quotient_0 18 rfl rfl)
theorem dX7_quotient_21 : decode cX7_quotient 21 = .ok (.aload_n 0, 1) := dk_42 (dk_at dksX7_quotient_0 21 rfl rfl)
theorem dX7_quotient_22 : decode cX7_quotient 22 = .ok (.iload 4, 2) := dk_21 4 (dk_at dksX7_quotient_0 22 rfl rfl)
theorem dX7_quotient_24 : decode cX7_quotient 24 = .ok (.invokevirtual 276, 3) := dk_182 1 20 (dk_at dksX7_quotient_1 0 rfl rfl)
theorem dX7_quotient_27 : decode cX7_quotient 27 = .ok (.ifCond .ne 9, 3) := dk_154 0 9 (dk_at dksX7_quotient_1 3 rfl rfl)
theorem dX7_quotient_30 : decode cX7_quotient 30 = .ok (.aload_n 0, 1) := dk_42 (dk_at dksX7_quotient_1 6 rfl rfl)
theorem dX7_quotient_31 : decode cX7_quotient 31 = .ok (.iconst 1, 1) := dk_4 (dk_at dksX7_quotient_1 7 rfl rfl)
theorem dX7_quotient_32 : decode cX7_quotient 32 = .ok (.invokevirtual 221, 3) := dk_182 0 221 (dk_at dksX7_quotient_1 8 rfl rfl)
theorem dX7_quotient_35 : decode cX7_quotient 35 = .ok (.ireturn, 1) := dk_172 (dk_at dksX7_quotient_1 11 rfl rfl)
theorem dX7_quotient_36 : decode cX7_quotient 36 = .ok (.iload_n 2, 1) := dk_28 (dk_at dksX7_quotient_1 12 rfl rfl)
theorem dX7_quotient_37 : decode cX7_quotient 37 = .ok (.iconst 1, 1) := dk_4 (dk_at dksX7_quotient_1 13 rfl rfl)
theorem dX7_quotient_38 : decode cX7_quotient 38 = .ok (.sipush 255, 3) := dk_17 0 255 (dk_at dksX7_quotient_1 14 rfl rfl)
theorem dX7_quotient_41 : decode cX7_quotient 41 = .ok (.invokestatic 118, 3) := dk_184 0 118 (dk_at dksX7_quotient_1 17 rfl rfl)
theorem dX7_quotient_44 : decode cX7_quotient 44 = .ok (.ifCond .eq 11, 3) := dk_153 0 11 (dk_at dksX7_quotient_1 20 rfl rfl)
theorem dX7_quotient_47 : decode cX7_quotient 47 = .ok (.iload_n 2, 1) := dk_28 (dk_at dksX7_quotient_1 23 rfl rfl)
theorem dX7_quotient_48 : decode cX7_quotient 48 = .ok (.iload_n 3, 1) := dk_29 (dk_at dksX7_quotient_2 0 rfl rfl)
theorem dX7_quotient_49 : decode cX7_quotient 49 = .ok (.ishr, 1) := dk_122 (dk_at dksX7_quotient_2 1 rfl rfl)
theorem dX7_quotient_50 : decode cX7_quotient 50 = .ok (.iconst 1, 1) := dk_4 (dk_at dksX7_quotient_2 2 rfl rfl)
theorem dX7_quotient_51 : decode cX7_quotient 51 = .ok (.iand, 1) := dk_126 (dk_at dksX7_quotient_2 3 rfl rfl)
theorem dX7_quotient_52 : decode cX7_quotient 52 = .ok (.ifCond .ne 9, 3) := dk_154 0 9 (dk_at dksX7_quotient_2 4 rfl rfl)
theorem dX7_quotient_55 : decode cX7_quotient 55 = .ok (.aload_n 0, 1) := dk_42 (dk_at dksX7_quotient_2 7 rfl rfl)
theorem dX7_quotient_56 : decode cX7_quotient 56 = .ok (.iconst 2, 1) := dk_5 (dk_at dksX7_quotient_2 8 rfl rfl)
theorem dX7_quotient_57 : decode cX7_quotient 57 = .ok (.invokevirtual 221, 3) := dk_182 0 221 (dk_at dksX7_quotient_2 9 rfl rfl)
theorem dX7_quotient_60 : decode cX7_quotient 60 = .ok (.ireturn, 1) := dk_172 (dk_at dksX7_quotient_2 12 rfl rfl)
theorem dX7_quotient_61 : decode cX7_quotient 61 = .ok (.aload_n 0, 1) := dk_42 (dk_at dksX7_quotient_2 13 rfl rfl)
theorem dX7_quotient_62 : decode cX7_quotient 62 = .ok (.iload_n 2, 1) := dk_28 (dk_at dksX7_quotient_2 14 rfl rfl)
theorem dX7_quotient_63 : decode cX7_quotient 63 = .ok (.invokevirtual 349, 3) := dk_182 1 93 (dk_at dksX7_quotient_2 15 rfl rfl)
theorem dX7_quotient_66 : decode cX7_quotient 66 = .ok (.istore 5, 2) := dk_54 5 (dk_at dksX7_quotient_2 18 rfl rfl)
theorem dX7_quotient_68 : decode cX7_quotient 68 = .ok (.iload 5, 2) := dk_21 5 (dk_at dksX7_quotient_2 20 rfl rfl)
theorem dX7_quotient_70 : decode cX7_quotient 70 = .ok (.ifCond .le 10, 3) := dk_158 0 10 (dk_at dksX7_quotient_3 0 rfl rfl)
theorem dX7_quotient_73 : decode cX7_quotient 73 = .ok (.aload_n 0, 1) := dk_42 (dk_at dksX7_quotient_3 3 rfl rfl)
theorem dX7_quotient_74 : decode cX7_quotient 74 = .ok (.iload 5, 2) := dk_21 5 (dk_at dksX7_quotient_3 4 rfl rfl)
theorem dX7_quotient_76 : decode cX7_quotient 76 = .ok (.invokevirtual 221, 3) := dk_182 0 221 (dk_at dksX7_quotient_3 6 rfl rfl)
theorem dX7_quotient_79 : decode cX7_quotient 79 = .ok (.ireturn, 1) := dk_172 (dk_at dksX7_quotient_3 9 rfl rfl)
theorem dX7_quotient_80 : decode cX7_quotient 80 = .ok (.aload_n 0, 1) := dk_42 (dk_at dksX7_quotient_3 10 rfl rfl)
theorem dX7_quotient_81 : decode cX7_quotient 81 = .ok (.iload_n 1, 1) := dk_27 (dk_at dksX7_quotient_3 11 rfl rfl)
theorem dX7_quotient_82 : decode cX7_quotient 82 = .ok (.invokevirtual 355, 3) := dk_182 1 99 (dk_at dksX7_quotient_3 12 rfl rfl)
theorem dX7_quotient_85 : decode cX7_quotient 85 = .ok (.aload_n 0, 1) := dk_42 (dk_at dksX7_quotient_3 15 rfl rfl)
theorem dX7_quotient_86 : decode cX7_quotient 86 = .ok (.iload_n 2, 1) := dk_28 (dk_at dksX7_quotient_3 16 rfl rfl)
theorem dX7_quotient_87 : decode cX7_quotient 87 = .ok (.invokevirtual 358, 3) := dk_182 1 102 (dk_at dksX7_quotient_3 17 rfl rfl)
theorem dX7_quotient_90 : decode cX7_quotient 90 = .ok (.ifCond .ne 9, 3) := dk_154 0 9 (dk_at dksX7_quotient_3 20 rfl rfl)
theorem dX7_quotient_93 : decode cX7_quotient 93 = .ok (.aload_n 0, 1) := dk_42 (dk_at dksX7_quotient_3 23 rfl rfl)
theorem dX7_quotient_94 : decode cX7_quotient 94 = .ok (.iconst 3, 1) := dk_6 (dk_at dksX7_quotient_4 0 rfl rfl)
theorem dX7_quotient_95 : decode cX7_quotient 95 = .ok (.invokevirtual 221, 3) := dk_182 0 221 (dk_at dksX7_quotient_4 1 rfl rfl)
theorem dX7_quotient_98 : decode cX7_quotient 98 = .ok (.ireturn, 1) := dk_172 (dk_at dksX7_quotient_4 4 rfl rfl)
theorem dX7_quotient_99 : decode cX7_quotient 99 = .ok (.iconst 0, 1) := dk_3 (dk_at dksX7_quotient_4 5 rfl rfl)
theorem dX7_quotient_100 : decode cX7_quotient 100 = .ok (.istore 6, 2) := dk_54 6 (dk_at dksX7_quotient_4 6 rfl rfl)
theorem dX7_quotient_102 : decode cX7_quotient 102 = .ok (.iload 6, 2) := dk_21 6 (dk_at dksX7_quotient_4 8 rfl rfl)
theorem dX7_quotient_104 : decode cX7_quotient 104 = .ok (.sipush 4096, 3) := dk_17 16 0 (dk_at dksX7_quotient_4 10 rfl rfl)
theorem dX7_quotient_107 : decode cX7_quotient 107 = .ok (.if_icmp .ge 29, 3) := dk_162 0 29 (dk_at dksX7_quotient_4 13 rfl rfl)
theorem dX7_quotient_110 : decode cX7_quotient 110 = .ok (.aload_n 0, 1) := dk_42 (dk_at dksX7_quotient_4 16 rfl rfl)
theorem dX7_quotient_111 : decode cX7_quotient 111 = .ok (.getfield 31, 3) := dk_180 0 31 (dk_at dksX7_quotient_4 17 rfl rfl)
theorem dX7_quotient_114 : decode cX7_quotient 114 = .ok (.iload 6, 2) := dk_21 6 (dk_at dksX7_quotient_4 20 rfl rfl)
theorem dX7_quotient_116 : decode cX7_quotient 116 = .ok (.aload_n 0, 1) := dk_42 (dk_at dksX7_quotient_4 22 rfl rfl)
theorem dX7_quotient_117 : decode cX7_quotient 117 = .ok (.getfield 40, 3) := dk_180 0 40 (dk_at dksX7_quotient_5 0 rfl rfl)
theorem dX7_quotient_120 : decode cX7_quotient 120 = .ok (.sipush 4096, 3) := dk_17 16 0 (dk_at dksX7_quotient_5 3 rfl rfl)
theorem dX7_quotient_123 : decode cX7_quotient 123 = .ok (.iload_n 3, 1) := dk_29 (dk_at dksX7_quotient_5 6 rfl rfl)
theorem dX7_quotient_124 : decode cX7_quotient 124 = .ok (.imul, 1) := dk_104 (dk_at dksX7_quotient_5 7 rfl rfl)
theorem dX7_quotient_125 : decode cX7_quotient 125 = .ok (.iload 6, 2) := dk_21 6 (dk_at dksX7_quotient_5 8 rfl rfl)
theorem dX7_quotient_127 : decode cX7_quotient 127 = .ok (.iadd, 1) := dk_96 (dk_at dksX7_quotient_5 10 rfl rfl)
theorem dX7_quotient_128 : decode cX7_quotient 128 = .ok (.iaload, 1) := dk_46 (dk_at dksX7_quotient_5 11 rfl rfl)
theorem dX7_quotient_129 : decode cX7_quotient 129 = .ok (.iastore, 1) := dk_79 (dk_at dksX7_quotient_5 12 rfl rfl)
theorem dX7_quotient_130 : decode cX7_quotient 130 = .ok (.iinc 6 1, 3) := dk_132 6 1 (dk_at dksX7_quotient_5 13 rfl rfl)
theorem dX7_quotient_133 : decode cX7_quotient 133 = .ok (.goto (-31), 3) := dk_167 255 225 (dk_at dksX7_quotient_5 16 rfl rfl)
theorem dX7_quotient_136 : decode cX7_quotient 136 = .ok (.aload_n 0, 1) := dk_42 (dk_at dksX7_quotient_5 19 rfl rfl)
theorem dX7_quotient_137 : decode cX7_quotient 137 = .ok (.iload 4, 2) := dk_21 4 (dk_at dksX7_quotient_5 20 rfl rfl)
theorem dX7_quotient_139 : decode cX7_quotient 139 = .ok (.invokevirtual 382, 3) := dk_182 1 126 (dk_at dksX7_quotient_6 0 rfl rfl)
theorem dX7_quotient_142 : decode cX7_quotient 142 = .ok (.ireturn, 1) := dk_172 (dk_at dksX7_quotient_6 3 rfl rfl)
abbrev cX7_pair : ByteArray := prog_10_method_87_code
def yX7_pair : MethodName := ⟨RX7, "pair", "(III)I"⟩
def dkwX7_pair_3 : List UInt8 := [182, 0, 221, 172]
abbrev dktX7_pair_3 : List UInt8 := dkwX7_pair_3 ++ []
def dkwX7_pair_2 : List UInt8 := [182, 0, 221, 172, 42, 27, 28, 182, 1, 114, 153, 0, 11, 42, 29, 182, 1, 126, 167, 0, 8, 42, 6]
abbrev dktX7_pair_2 : List UInt8 := dkwX7_pair_2 ++ dktX7_pair_3
def dkwX7_pair_1 : List UInt8 := [182, 0, 221, 172, 42, 27, 182, 1, 14, 154, 0, 11, 42, 28, 182, 1, 14, 153, 0, 9, 42, 8]
abbrev dktX7_pair_1 : List UInt8 := dkwX7_pair_1 ++ dktX7_pair_2
def dkwX7_pair_0 : List UInt8 := [42, 3, 181, 0, 89, 42, 27, 28, 29, 182, 1, 123, 153, 0, 8, 27, 28, 160, 0, 9, 42, 4]
abbrev dktX7_pair_0 : List UInt8 := dkwX7_pair_0 ++ dktX7_pair_1
theorem dksX7_pair_0 : cX7_pair.data.toList.drop 0 = dktX7_pair_0 := by decide +kernel
theorem dksX7_pair_1 : cX7_pair.data.toList.drop 22 = dktX7_pair_1 := dk_seg dksX7_pair_0 22 rfl rfl
theorem dksX7_pair_2 : cX7_pair.data.toList.drop 44 = dktX7_pair_2 := dk_seg dksX7_pair_1 22 rfl rfl
theorem dksX7_pair_3 : cX7_pair.data.toList.drop 67 = dktX7_pair_3 := dk_seg dksX7_pair_2 23 rfl rfl
theorem dX7_pair_0 : decode cX7_pair 0 = .ok (.aload_n 0, 1) := dk_42 (dk_at dksX7_pair_0 0 rfl rfl)
theorem dX7_pair_1 : decode cX7_pair 1 = .ok (.iconst 0, 1) := dk_3 (dk_at dksX7_pair_0 1 rfl rfl)
theorem dX7_pair_2 : decode cX7_pair 2 = .ok (.putfield 89, 3) := dk_181 0 89 (dk_at dksX7_pair_0 2 rfl rfl)
theorem dX7_pair_5 : decode cX7_pair 5 = .ok (.aload_n 0, 1) := dk_42 (dk_at dksX7_pair_0 5 rfl rfl)
theorem dX7_pair_6 : decode cX7_pair 6 = .ok (.iload_n 1, 1) := dk_27 (dk_at dksX7_pair_0 6 rfl rfl)
theorem dX7_pair_7 : decode cX7_pair 7 = .ok (.iload_n 2, 1) := dk_28 (dk_at dksX7_pair_0 7 rfl rfl)
theorem dX7_pair_8 : decode cX7_pair 8 = .ok (.iload_n 3, 1) := dk_29 (dk_at dksX7_pair_0 8 rfl rfl)
theorem dX7_pair_9 : decode cX7_pair 9 = .ok (.invokevirtual 379, 3) := dk_182 1 123 (dk_at dksX7_pair_0 9 rfl rfl)
theorem dX7_pair_12 : decode cX7_pair 12 = .ok (.ifCond .eq 8, 3) := dk_153 0 8 (dk_at dksX7_pair_0 12 rfl rfl)
theorem dX7_pair_15 : decode cX7_pair 15 = .ok (.iload_n 1, 1) := dk_27 (dk_at dksX7_pair_0 15 rfl rfl)
theorem dX7_pair_16 : decode cX7_pair 16 = .ok (.iload_n 2, 1) := dk_28 (dk_at dksX7_pair_0 16 rfl rfl)
theorem dX7_pair_17 : decode cX7_pair 17 = .ok (.if_icmp .ne 9, 3) := dk_160 0 9 (dk_at dksX7_pair_0 17 rfl rfl)
theorem dX7_pair_20 : decode cX7_pair 20 = .ok (.aload_n 0, 1) := dk_42 (dk_at dksX7_pair_0 20 rfl rfl)
theorem dX7_pair_21 : decode cX7_pair 21 = .ok (.iconst 1, 1) := dk_4 (dk_at dksX7_pair_0 21 rfl rfl)
theorem dX7_pair_22 : decode cX7_pair 22 = .ok (.invokevirtual 221, 3) := dk_182 0 221 (dk_at dksX7_pair_1 0 rfl rfl)
theorem dX7_pair_25 : decode cX7_pair 25 = .ok (.ireturn, 1) := dk_172 (dk_at dksX7_pair_1 3 rfl rfl)
theorem dX7_pair_26 : decode cX7_pair 26 = .ok (.aload_n 0, 1) := dk_42 (dk_at dksX7_pair_1 4 rfl rfl)
theorem dX7_pair_27 : decode cX7_pair 27 = .ok (.iload_n 1, 1) := dk_27 (dk_at dksX7_pair_1 5 rfl rfl)
theorem dX7_pair_28 : decode cX7_pair 28 = .ok (.invokevirtual 270, 3) := dk_182 1 14 (dk_at dksX7_pair_1 6 rfl rfl)
theorem dX7_pair_31 : decode cX7_pair 31 = .ok (.ifCond .ne 11, 3) := dk_154 0 11 (dk_at dksX7_pair_1 9 rfl rfl)
theorem dX7_pair_34 : decode cX7_pair 34 = .ok (.aload_n 0, 1) := dk_42 (dk_at dksX7_pair_1 12 rfl rfl)
theorem dX7_pair_35 : decode cX7_pair 35 = .ok (.iload_n 2, 1) := dk_28 (dk_at dksX7_pair_1 13 rfl rfl)
theorem dX7_pair_36 : decode cX7_pair 36 = .ok (.invokevirtual 270, 3) := dk_182 1 14 (dk_at dksX7_pair_1 14 rfl rfl)
theorem dX7_pair_39 : decode cX7_pair 39 = .ok (.ifCond .eq 9, 3) := dk_153 0 9 (dk_at dksX7_pair_1 17 rfl rfl)
theorem dX7_pair_42 : decode cX7_pair 42 = .ok (.aload_n 0, 1) := dk_42 (dk_at dksX7_pair_1 20 rfl rfl)
theorem dX7_pair_43 : decode cX7_pair 43 = .ok (.iconst 5, 1) := dk_8 (dk_at dksX7_pair_1 21 rfl rfl)
theorem dX7_pair_44 : decode cX7_pair 44 = .ok (.invokevirtual 221, 3) := dk_182 0 221 (dk_at dksX7_pair_2 0 rfl rfl)
theorem dX7_pair_47 : decode cX7_pair 47 = .ok (.ireturn, 1) := dk_172 (dk_at dksX7_pair_2 3 rfl rfl)
theorem dX7_pair_48 : decode cX7_pair 48 = .ok (.aload_n 0, 1) := dk_42 (dk_at dksX7_pair_2 4 rfl rfl)
theorem dX7_pair_49 : decode cX7_pair 49 = .ok (.iload_n 1, 1) := dk_27 (dk_at dksX7_pair_2 5 rfl rfl)
theorem dX7_pair_50 : decode cX7_pair 50 = .ok (.iload_n 2, 1) := dk_28 (dk_at dksX7_pair_2 6 rfl rfl)
theorem dX7_pair_51 : decode cX7_pair 51 = .ok (.invokevirtual 370, 3) := dk_182 1 114 (dk_at dksX7_pair_2 7 rfl rfl)
theorem dX7_pair_54 : decode cX7_pair 54 = .ok (.ifCond .eq 11, 3) := dk_153 0 11 (dk_at dksX7_pair_2 10 rfl rfl)
theorem dX7_pair_57 : decode cX7_pair 57 = .ok (.aload_n 0, 1) := dk_42 (dk_at dksX7_pair_2 13 rfl rfl)
theorem dX7_pair_58 : decode cX7_pair 58 = .ok (.iload_n 3, 1) := dk_29 (dk_at dksX7_pair_2 14 rfl rfl)
theorem dX7_pair_59 : decode cX7_pair 59 = .ok (.invokevirtual 382, 3) := dk_182 1 126 (dk_at dksX7_pair_2 15 rfl rfl)
theorem dX7_pair_62 : decode cX7_pair 62 = .ok (.goto 8, 3) := dk_167 0 8 (dk_at dksX7_pair_2 18 rfl rfl)
theorem dX7_pair_65 : decode cX7_pair 65 = .ok (.aload_n 0, 1) := dk_42 (dk_at dksX7_pair_2 21 rfl rfl)
theorem dX7_pair_66 : decode cX7_pair 66 = .ok (.iconst 3, 1) := dk_6 (dk_at dksX7_pair_2 22 rfl rfl)
theorem dX7_pair_67 : decode cX7_pair 67 = .ok (.invokevirtual 221, 3) := dk_182 0 221 (dk_at dksX7_pair_3 0 rfl rfl)
theorem dX7_pair_70 : decode cX7_pair 70 = .ok (.ireturn, 1) := dk_172 (dk_at dksX7_pair_3 3 rfl rfl)
abbrev cX7_common : ByteArray := prog_10_method_103_code
def yX7_common : MethodName := ⟨RX7, "common", "(III)I"⟩
def dkwX7_common_3 : List UInt8 := [182, 1, 176, 42, 182, 1, 179, 42, 29, 182, 1, 126, 172]
abbrev dktX7_common_3 : List UInt8 := dkwX7_common_3 ++ []
def dkwX7_common_2 : List UInt8 := [180, 0, 68, 182, 1, 169, 42, 28, 42, 180, 0, 71, 182, 1, 169, 42, 182, 1, 173, 42, 42, 180, 0, 68]
abbrev dktX7_common_2 : List UInt8 := dkwX7_common_2 ++ dktX7_common_3
def dkwX7_common_1 : List UInt8 := [182, 1, 166, 154, 0, 11, 42, 28, 182, 1, 166, 153, 0, 9, 42, 8, 182, 0, 221, 172, 42, 27, 42]
abbrev dktX7_common_1 : List UInt8 := dkwX7_common_1 ++ dktX7_common_2
def dkwX7_common_0 : List UInt8 := [42, 3, 181, 0, 89, 42, 27, 28, 29, 182, 1, 123, 154, 0, 9, 42, 4, 182, 0, 221, 172, 42, 27]
abbrev dktX7_common_0 : List UInt8 := dkwX7_common_0 ++ dktX7_common_1
theorem dksX7_common_0 : cX7_common.data.toList.drop 0 = dktX7_common_0 := by decide +kernel
theorem dksX7_common_1 : cX7_common.data.toList.drop 23 = dktX7_common_1 := dk_seg dksX7_common_0 23 rfl rfl
theorem dksX7_common_2 : cX7_common.data.toList.drop 46 = dktX7_common_2 := dk_seg dksX7_common_1 23 rfl rfl
theorem dksX7_common_3 : cX7_common.data.toList.drop 70 = dktX7_common_3 := dk_seg dksX7_common_2 24 rfl rfl
theorem dX7_common_0 : decode cX7_common 0 = .ok (.aload_n 0, 1) := dk_42 (dk_at dksX7_common_0 0 rfl rfl)
theorem dX7_common_1 : decode cX7_common 1 = .ok (.iconst 0, 1) := dk_3 (dk_at dksX7_common_0 1 rfl rfl)
theorem dX7_common_2 : decode cX7_common 2 = .ok (.putfield 89, 3) := dk_181 0 89 (dk_at dksX7_common_0 2 rfl rfl)
theorem dX7_common_5 : decode cX7_common 5 = .ok (.aload_n 0, 1) := dk_42 (dk_at dksX7_common_0 5 rfl rfl)
theorem dX7_common_6 : decode cX7_common 6 = .ok (.iload_n 1, 1) := dk_27 (dk_at dksX7_common_0 6 rfl rfl)
theorem dX7_common_7 : decode cX7_common 7 = .ok (.iload_n 2, 1) := dk_28 (dk_at dksX7_common_0 7 rfl rfl)
theorem dX7_common_8 : decode cX7_common 8 = .ok (.iload_n 3, 1) := dk_29 (dk_at dksX7_common_0 8 rfl rfl)
theorem dX7_common_9 : decode cX7_common 9 = .ok (.invokevirtual 379, 3) := dk_182 1 123 (dk_at dksX7_common_0 9 rfl rfl)
theorem dX7_common_12 : decode cX7_common 12 = .ok (.ifCond .ne 9, 3) := dk_154 0 9 (dk_at dksX7_common_0 12 rfl rfl)
theorem dX7_common_15 : decode cX7_common 15 = .ok (.aload_n 0, 1) := dk_42 (dk_at dksX7_common_0 15 rfl rfl)
theorem dX7_common_16 : decode cX7_common 16 = .ok (.iconst 1, 1) := dk_4 (dk_at dksX7_common_0 16 rfl rfl)
theorem dX7_common_17 : decode cX7_common 17 = .ok (.invokevirtual 221, 3) := dk_182 0 221 (dk_at dksX7_common_0 17 rfl rfl)
theorem dX7_common_20 : decode cX7_common 20 = .ok (.ireturn, 1) := dk_172 (dk_at dksX7_common_0 20 rfl rfl)
theorem dX7_common_21 : decode cX7_common 21 = .ok (.aload_n 0, 1) := dk_42 (dk_at dksX7_common_0 21 rfl rfl)
theorem dX7_common_22 : decode cX7_common 22 = .ok (.iload_n 1, 1) := dk_27 (dk_at dksX7_common_0 22 rfl rfl)
theorem dX7_common_23 : decode cX7_common 23 = .ok (.invokevirtual 422, 3) := dk_182 1 166 (dk_at dksX7_common_1 0 rfl rfl)
theorem dX7_common_26 : decode cX7_common 26 = .ok (.ifCond .ne 11, 3) := dk_154 0 11 (dk_at dksX7_common_1 3 rfl rfl)
theorem dX7_common_29 : decode cX7_common 29 = .ok (.aload_n 0, 1) := dk_42 (dk_at dksX7_common_1 6 rfl rfl)
theorem dX7_common_30 : decode cX7_common 30 = .ok (.iload_n 2, 1) := dk_28 (dk_at dksX7_common_1 7 rfl rfl)
theorem dX7_common_31 : decode cX7_common 31 = .ok (.invokevirtual 422, 3) := dk_182 1 166 (dk_at dksX7_common_1 8 rfl rfl)
theorem dX7_common_34 : decode cX7_common 34 = .ok (.ifCond .eq 9, 3) := dk_153 0 9 (dk_at dksX7_common_1 11 rfl rfl)
theorem dX7_common_37 : decode cX7_common 37 = .ok (.aload_n 0, 1) := dk_42 (dk_at dksX7_common_1 14 rfl rfl)
theorem dX7_common_38 : decode cX7_common 38 = .ok (.iconst 5, 1) := dk_8 (dk_at dksX7_common_1 15 rfl rfl)
theorem dX7_common_39 : decode cX7_common 39 = .ok (.invokevirtual 221, 3) := dk_182 0 221 (dk_at dksX7_common_1 16 rfl rfl)
theorem dX7_common_42 : decode cX7_common 42 = .ok (.ireturn, 1) := dk_172 (dk_at dksX7_common_1 19 rfl rfl)
theorem dX7_common_43 : decode cX7_common 43 = .ok (.aload_n 0, 1) := dk_42 (dk_at dksX7_common_1 20 rfl rfl)
theorem dX7_common_44 : decode cX7_common 44 = .ok (.iload_n 1, 1) := dk_27 (dk_at dksX7_common_1 21 rfl rfl)
theorem dX7_common_45 : decode cX7_common 45 = .ok (.aload_n 0, 1) := dk_42 (dk_at dksX7_common_1 22 rfl rfl)
theorem dX7_common_46 : decode cX7_common 46 = .ok (.getfield 68, 3) := dk_180 0 68 (dk_at dksX7_common_2 0 rfl rfl)
theorem dX7_common_49 : decode cX7_common 49 = .ok (.invokevirtual 425, 3) := dk_182 1 169 (dk_at dksX7_common_2 3 rfl rfl)
theorem dX7_common_52 : decode cX7_common 52 = .ok (.aload_n 0, 1) := dk_42 (dk_at dksX7_common_2 6 rfl rfl)
theorem dX7_common_53 : decode cX7_common 53 = .ok (.iload_n 2, 1) := dk_28 (dk_at dksX7_common_2 7 rfl rfl)
theorem dX7_common_54 : decode cX7_common 54 = .ok (.aload_n 0, 1) := dk_42 (dk_at dksX7_common_2 8 rfl rfl)
theorem dX7_common_55 : decode cX7_common 55 = .ok (.getfield 71, 3) := dk_180 0 71 (dk_at dksX7_common_2 9 rfl rfl)
theorem dX7_common_58 : decode cX7_common 58 = .ok (.invokevirtual 425, 3) := dk_182 1 169 (dk_at dksX7_common_2 12 rfl rfl)
theorem dX7_common_61 : decode cX7_common 61 = .ok (.aload_n 0, 1) := dk_42 (dk_at dksX7_common_2 15 rfl rfl)
theorem dX7_common_62 : decode cX7_common 62 = .ok (.invokevirtual 429, 3) := dk_182 1 173 (dk_at dksX7_common_2 16 rfl rfl)
theorem dX7_common_65 : decode cX7_common 65 = .ok (.aload_n 0, 1) := dk_42 (dk_at dksX7_common_2 19 rfl rfl)
theorem dX7_common_66 : decode cX7_common 66 = .ok (.aload_n 0, 1) := dk_42 (dk_at dksX7_common_2 20 rfl rfl)
theorem dX7_common_67 : decode cX7_common 67 = .ok (.getfield 68, 3) := dk_180 0 68 (dk_at dksX7_common_2 21 rfl rfl)
theorem dX7_common_70 : decode cX7_common 70 = .ok (.invokevirtual 432, 3) := dk_182 1 176 (dk_at dksX7_common_3 0 rfl rfl)
theorem dX7_common_73 : decode cX7_common 73 = .ok (.aload_n 0, 1) := dk_42 (dk_at dksX7_common_3 3 rfl rfl)
theorem dX7_common_74 : decode cX7_common 74 = .ok (.invokevirtual 435, 3) := dk_182 1 179 (dk_at dksX7_common_3 4 rfl rfl)
theorem dX7_common_77 : decode cX7_common 77 = .ok (.aload_n 0, 1) := dk_42 (dk_at dksX7_common_3 7 rfl rfl)
theorem dX7_common_78 : decode cX7_common 78 = .ok (.iload_n 3, 1) := dk_29 (dk_at dksX7_common_3 8 rfl rfl)
theorem dX7_common_79 : decode cX7_common 79 = .ok (.invokevirtual 382, 3) := dk_182 1 126 (dk_at dksX7_common_3 9 rfl rfl)
theorem dX7_common_82 : decode cX7_common 82 = .ok (.ireturn, 1) := dk_172 (dk_at dksX7_common_3 12 rfl rfl)
abbrev cX7_hasThird : ByteArray := prog_10_method_102_code
def yX7_hasThird : MethodName := ⟨RX7, "hasThird", "(I)Z"⟩
def dkwX7_hasThird_0 : List UInt8 := [42, 27, 5, 182, 1, 26, 158, 0, 7, 4, 167, 0, 4, 3, 172]
abbrev dktX7_hasThird_0 : List UInt8 := dkwX7_hasThird_0 ++ []
theorem dksX7_hasThird_0 : cX7_hasThird.data.toList.drop 0 = dktX7_hasThird_0 := by decide +kernel
theorem dX7_hasThird_0 : decode cX7_hasThird 0 = .ok (.aload_n 0, 1) := dk_42 (dk_at dksX7_hasThird_0 0 rfl rfl)
theorem dX7_hasThird_1 : decode cX7_hasThird 1 = .ok (.iload_n 1, 1) := dk_27 (dk_at dksX7_hasThird_0 1 rfl rfl)
theorem dX7_hasThird_2 : decode cX7_hasThird 2 = .ok (.iconst 2, 1) := dk_5 (dk_at dksX7_hasThird_0 2 rfl rfl)
theorem dX7_hasThird_3 : decode cX7_hasThird 3 = .ok (.invokevirtual 282, 3) := dk_182 1 26 (dk_at dksX7_hasThird_0 3 rfl rfl)
theorem dX7_hasThird_6 : decode cX7_hasThird 6 = .ok (.ifCond .le 7, 3) := dk_158 0 7 (dk_at dksX7_hasThird_0 6 rfl rfl)
theorem dX7_hasThird_9 : decode cX7_hasThird 9 = .ok (.iconst 1, 1) := dk_4 (dk_at dksX7_hasThird_0 9 rfl rfl)
theorem dX7_hasThird_10 : decode cX7_hasThird 10 = .ok (.goto 4, 3) := dk_167 0 4 (dk_at dksX7_hasThird_0 10 rfl rfl)
theorem dX7_hasThird_13 : decode cX7_hasThird 13 = .ok (.iconst 0, 1) := dk_3 (dk_at dksX7_hasThird_0 13 rfl rfl)
theorem dX7_hasThird_14 : decode cX7_hasThird 14 = .ok (.ireturn, 1) := dk_172 (dk_at dksX7_hasThird_0 14 rfl rfl)
abbrev cX7_laysRows : ByteArray := prog_10_method_90_code
def yX7_laysRows : MethodName := ⟨RX7, "laysRows", "(I[I)V"⟩
def dkwX7_laysRows_2 : List UInt8 := [29, 21, 4, 3, 184, 1, 32, 182, 1, 8, 79, 132, 4, 1, 167, 255, 224, 132, 3, 1, 167, 255, 209, 177]
abbrev dktX7_laysRows_2 : List UInt8 := dkwX7_laysRows_2 ++ []
def dkwX7_laysRows_1 : List UInt8 := [162, 0, 47, 3, 54, 4, 21, 4, 16, 16, 162, 0, 31, 44, 17, 9, 0, 29, 104, 21, 4, 96, 42, 27]
abbrev dktX7_laysRows_1 : List UInt8 := dkwX7_laysRows_1 ++ dktX7_laysRows_2
def dkwX7_laysRows_0 : List UInt8 := [3, 62, 29, 18, 67, 162, 0, 13, 44, 29, 3, 79, 132, 3, 1, 167, 255, 243, 3, 62, 29, 16, 16]
abbrev dktX7_laysRows_0 : List UInt8 := dkwX7_laysRows_0 ++ dktX7_laysRows_1
theorem dksX7_laysRows_0 : cX7_laysRows.data.toList.drop 0 = dktX7_laysRows_0 := by decide +kernel
theorem dksX7_laysRows_1 : cX7_laysRows.data.toList.drop 23 = dktX7_laysRows_1 := dk_seg dksX7_laysRows_0 23 rfl rfl
theorem dksX7_laysRows_2 : cX7_laysRows.data.toList.drop 47 = dktX7_laysRows_2 := dk_seg dksX7_laysRows_1 24 rfl rfl
theorem dX7_laysRows_0 : decode cX7_laysRows 0 = .ok (.iconst 0, 1) := dk_3 (dk_at dksX7_laysRows_0 0 rfl rfl)
theorem dX7_laysRows_1 : decode cX7_laysRows 1 = .ok (.istore_n 3, 1) := dk_62 (dk_at dksX7_laysRows_0 1 rfl rfl)
theorem dX7_laysRows_2 : decode cX7_laysRows 2 = .ok (.iload_n 3, 1) := dk_29 (dk_at dksX7_laysRows_0 2 rfl rfl)
theorem dX7_laysRows_3 : decode cX7_laysRows 3 = .ok (.ldc 67, 2) := dk_18 67 (dk_at dksX7_laysRows_0 3 rfl rfl)
theorem dX7_laysRows_5 : decode cX7_laysRows 5 = .ok (.if_icmp .ge 13, 3) := dk_162 0 13 (dk_at dksX7_laysRows_0 5 rfl rfl)
theorem dX7_laysRows_8 : decode cX7_laysRows 8 = .ok (.aload_n 2, 1) := dk_44 (dk_at dksX7_laysRows_0 8 rfl rfl)
theorem dX7_laysRows_9 : decode cX7_laysRows 9 = .ok (.iload_n 3, 1) := dk_29 (dk_at dksX7_laysRows_0 9 rfl rfl)
theorem dX7_laysRows_10 : decode cX7_laysRows 10 = .ok (.iconst 0, 1) := dk_3 (dk_at dksX7_laysRows_0 10 rfl rfl)
theorem dX7_laysRows_11 : decode cX7_laysRows 11 = .ok (.iastore, 1) := dk_79 (dk_at dksX7_laysRows_0 11 rfl rfl)
theorem dX7_laysRows_12 : decode cX7_laysRows 12 = .ok (.iinc 3 1, 3) := dk_132 3 1 (dk_at dksX7_laysRows_0 12 rfl rfl)
theorem dX7_laysRows_15 : decode cX7_laysRows 15 = .ok (.goto (-13), 3) := dk_167 255 243 (dk_at dksX7_laysRows_0 15 rfl rfl)
theorem dX7_laysRows_18 : decode cX7_laysRows 18 = .ok (.iconst 0, 1) := dk_3 (dk_at dksX7_laysRows_0 18 rfl rfl)
theorem dX7_laysRows_19 : decode cX7_laysRows 19 = .ok (.istore_n 3, 1) := dk_62 (dk_at dksX7_laysRows_0 19 rfl rfl)
theorem dX7_laysRows_20 : decode cX7_laysRows 20 = .ok (.iload_n 3, 1) := dk_29 (dk_at dksX7_laysRows_0 20 rfl rfl)
theorem dX7_laysRows_21 : decode cX7_laysRows 21 = .ok (.bipush 16, 2) := dk_16 16 (dk_at dksX7_laysRows_0 21 rfl rfl)
theorem dX7_laysRows_23 : decode cX7_laysRows 23 = .ok (.if_icmp .ge 47, 3) := dk_162 0 47 (dk_at dksX7_laysRows_1 0 rfl rfl)
theorem dX7_laysRows_26 : decode cX7_laysRows 26 = .ok (.iconst 0, 1) := dk_3 (dk_at dksX7_laysRows_1 3 rfl rfl)
theorem dX7_laysRows_27 : decode cX7_laysRows 27 = .ok (.istore 4, 2) := dk_54 4 (dk_at dksX7_laysRows_1 4 rfl rfl)
theorem dX7_laysRows_29 : decode cX7_laysRows 29 = .ok (.iload 4, 2) := dk_21 4 (dk_at dksX7_laysRows_1 6 rfl rfl)
theorem dX7_laysRows_31 : decode cX7_laysRows 31 = .ok (.bipush 16, 2) := dk_16 16 (dk_at dksX7_laysRows_1 8 rfl rfl)
theorem dX7_laysRows_33 : decode cX7_laysRows 33 = .ok (.if_icmp .ge 31, 3) := dk_162 0 31 (dk_at dksX7_laysRows_1 10 rfl rfl)
theorem dX7_laysRows_36 : decode cX7_laysRows 36 = .ok (.aload_n 2, 1) := dk_44 (dk_at dksX7_laysRows_1 13 rfl rfl)
theorem dX7_laysRows_37 : decode cX7_laysRows 37 = .ok (.sipush 2304, 3) := dk_17 9 0 (dk_at dksX7_laysRows_1 14 rfl rfl)
theorem dX7_laysRows_40 : decode cX7_laysRows 40 = .ok (.iload_n 3, 1) := dk_29 (dk_at dksX7_laysRows_1 17 rfl rfl)
theorem dX7_laysRows_41 : decode cX7_laysRows 41 = .ok (.imul, 1) := dk_104 (dk_at dksX7_laysRows_1 18 rfl rfl)
theorem dX7_laysRows_42 : decode cX7_laysRows 42 = .ok (.iload 4, 2) := dk_21 4 (dk_at dksX7_laysRows_1 19 rfl rfl)
theorem dX7_laysRows_44 : decode cX7_laysRows 44 = .ok (.iadd, 1) := dk_96 (dk_at dksX7_laysRows_1 21 rfl rfl)
theorem dX7_laysRows_45 : decode cX7_laysRows 45 = .ok (.aload_n 0, 1) := dk_42 (dk_at dksX7_laysRows_1 22 rfl rfl)
theorem dX7_laysRows_46 : decode cX7_laysRows 46 = .ok (.iload_n 1, 1) := dk_27 (dk_at dksX7_laysRows_1 23 rfl rfl)
theorem dX7_laysRows_47 : decode cX7_laysRows 47 = .ok (.iload_n 3, 1) := dk_29 (dk_at dksX7_laysRows_2 0 rfl rfl)
theorem dX7_laysRows_48 : decode cX7_laysRows 48 = .ok (.iload 4, 2) := dk_21 4 (dk_at dksX7_laysRows_2 1 rfl rfl)
theorem dX7_laysRows_50 : decode cX7_laysRows 50 = .ok (.iconst 0, 1) := dk_3 (dk_at dksX7_laysRows_2 3 rfl rfl)
theorem dX7_laysRows_51 : decode cX7_laysRows 51 = .ok (.invokestatic 288, 3) := dk_184 1 32 (dk_at dksX7_laysRows_2 4 rfl rfl)
theorem dX7_laysRows_54 : decode cX7_laysRows 54 = .ok (.invokevirtual 264, 3) := dk_182 1 8 (dk_at dksX7_laysRows_2 7 rfl rfl)
theorem dX7_laysRows_57 : decode cX7_laysRows 57 = .ok (.iastore, 1) := dk_79 (dk_at dksX7_laysRows_2 10 rfl rfl)
theorem dX7_laysRows_58 : decode cX7_laysRows 58 = .ok (.iinc 4 1, 3) := dk_132 4 1 (dk_at dksX7_laysRows_2 11 rfl rfl)
theorem dX7_laysRows_61 : decode cX7_laysRows 61 = .ok (.goto (-32), 3) := dk_167 255 224 (dk_at dksX7_laysRows_2 14 rfl rfl)
theorem dX7_laysRows_64 : decode cX7_laysRows 64 = .ok (.iinc 3 1, 3) := dk_132 3 1 (dk_at dksX7_laysRows_2 17 rfl rfl)
theorem dX7_laysRows_67 : decode cX7_laysRows 67 = .ok (.goto (-47), 3) := dk_167 255 209 (dk_at dksX7_laysRows_2 20 rfl rfl)
theorem dX7_laysRows_70 : decode cX7_laysRows 70 = .ok (.return_, 1) := dk_177 (dk_at dksX7_laysRows_2 23 rfl rfl)
abbrev cX7_meetsRows : ByteArray := prog_10_method_99_code
def yX7_meetsRows : MethodName := ⟨RX7, "meetsRows", "()V"⟩
def dkwX7_meetsRows_15 : List UInt8 := [46, 79, 132, 4, 1, 167, 255, 225, 132, 2, 1, 167, 255, 98, 177]
abbrev dktX7_meetsRows_15 : List UInt8 := dkwX7_meetsRows_15 ++ []
def dkwX7_meetsRows_14 : List UInt8 := [17, 9, 0, 162, 0, 29, 42, 180, 0, 68, 17, 9, 0, 28, 104, 21, 4, 96, 42, 180, 0, 83, 21, 4]
abbrev dktX7_meetsRows_14 : List UInt8 := dkwX7_meetsRows_14 ++ dktX7_meetsRows_15
def dkwX7_meetsRows_13 : List UInt8 := [180, 0, 231, 112, 79, 132, 5, 1, 167, 255, 200, 132, 4, 1, 167, 255, 185, 3, 54, 4, 21, 4]
abbrev dktX7_meetsRows_13 : List UInt8 := dkwX7_meetsRows_13 ++ dktX7_meetsRows_14
def dkwX7_meetsRows_12 : List UInt8 := [46, 42, 180, 0, 86, 21, 4, 46, 42, 180, 0, 68, 17, 9, 0, 28, 104, 21, 5, 96, 46, 104, 96, 42]
abbrev dktX7_meetsRows_12 : List UInt8 := dkwX7_meetsRows_12 ++ dktX7_meetsRows_13
def dkwX7_meetsRows_11 : List UInt8 := [21, 5, 29, 163, 0, 56, 42, 180, 0, 83, 21, 4, 21, 5, 96, 42, 180, 0, 83, 21, 4, 21, 5, 96]
abbrev dktX7_meetsRows_11 : List UInt8 := dkwX7_meetsRows_11 ++ dktX7_meetsRows_12
def dkwX7_meetsRows_10 : List UInt8 := [180, 0, 68, 17, 9, 0, 28, 104, 184, 1, 129, 62, 3, 54, 4, 21, 4, 27, 163, 0, 71, 3, 54, 5]
abbrev dktX7_meetsRows_10 : List UInt8 := dkwX7_meetsRows_10 ++ dktX7_meetsRows_11
def dkwX7_meetsRows_9 : List UInt8 := [62, 29, 17, 9, 0, 162, 0, 16, 42, 180, 0, 83, 29, 3, 79, 132, 3, 1, 167, 255, 239, 42]
abbrev dktX7_meetsRows_9 : List UInt8 := dkwX7_meetsRows_9 ++ dktX7_meetsRows_10
def dkwX7_meetsRows_8 : List UInt8 := [167, 255, 221, 167, 255, 173, 42, 180, 0, 86, 3, 184, 1, 129, 60, 3, 61, 28, 16, 16, 162, 0, 158, 3]
abbrev dktX7_meetsRows_8 : List UInt8 := dkwX7_meetsRows_8 ++ dktX7_meetsRows_9
def dkwX7_meetsRows_7 : List UInt8 := [42, 180, 0, 68, 27, 42, 180, 0, 71, 27, 46, 79, 42, 180, 0, 71, 27, 28, 79, 132, 1, 1]
abbrev dktX7_meetsRows_7 : List UInt8 := dkwX7_meetsRows_7 ++ dktX7_meetsRows_8
def dkwX7_meetsRows_6 : List UInt8 := [180, 0, 71, 182, 1, 163, 167, 255, 227, 3, 60, 27, 18, 67, 162, 0, 35, 42, 180, 0, 68, 27, 46, 61]
abbrev dktX7_meetsRows_6 : List UInt8 := dkwX7_meetsRows_6 ++ dktX7_meetsRows_7
def dkwX7_meetsRows_5 : List UInt8 := [180, 0, 68, 184, 1, 156, 42, 180, 0, 71, 184, 1, 156, 161, 0, 18, 42, 42, 180, 0, 68, 42]
abbrev dktX7_meetsRows_5 : List UInt8 := dkwX7_meetsRows_5 ++ dktX7_meetsRows_6
def dkwX7_meetsRows_4 : List UInt8 := [182, 1, 160, 42, 42, 180, 0, 71, 182, 1, 160, 42, 180, 0, 71, 184, 1, 156, 2, 159, 0, 78, 42]
abbrev dktX7_meetsRows_4 : List UInt8 := dkwX7_meetsRows_4 ++ dktX7_meetsRows_5
def dkwX7_meetsRows_3 : List UInt8 := [180, 0, 74, 182, 1, 149, 42, 42, 180, 0, 86, 42, 180, 0, 74, 182, 1, 145, 42, 42, 180, 0, 68]
abbrev dktX7_meetsRows_3 : List UInt8 := dkwX7_meetsRows_3 ++ dktX7_meetsRows_4
def dkwX7_meetsRows_2 : List UInt8 := [167, 255, 235, 177, 42, 42, 180, 0, 68, 42, 180, 0, 86, 182, 1, 149, 42, 42, 180, 0, 71, 42]
abbrev dktX7_meetsRows_2 : List UInt8 := dkwX7_meetsRows_2 ++ dktX7_meetsRows_3
def dkwX7_meetsRows_1 : List UInt8 := [60, 27, 18, 67, 162, 0, 21, 42, 180, 0, 68, 27, 42, 180, 0, 71, 27, 46, 79, 132, 1, 1]
abbrev dktX7_meetsRows_1 : List UInt8 := dkwX7_meetsRows_1 ++ dktX7_meetsRows_2
def dkwX7_meetsRows_0 : List UInt8 := [42, 180, 0, 71, 184, 1, 156, 2, 160, 0, 4, 177, 42, 180, 0, 68, 184, 1, 156, 2, 160, 0, 30, 3]
abbrev dktX7_meetsRows_0 : List UInt8 := dkwX7_meetsRows_0 ++ dktX7_meetsRows_1
theorem dksX7_meetsRows_0 : cX7_meetsRows.data.toList.drop 0 = dktX7_meetsRows_0 := by decide +kernel
theorem dksX7_meetsRows_1 : cX7_meetsRows.data.toList.drop 24 = dktX7_meetsRows_1 := dk_seg dksX7_meetsRows_0 24 rfl rfl
theorem dksX7_meetsRows_2 : cX7_meetsRows.data.toList.drop 46 = dktX7_meetsRows_2 := dk_seg dksX7_meetsRows_1 22 rfl rfl
theorem dksX7_meetsRows_3 : cX7_meetsRows.data.toList.drop 68 = dktX7_meetsRows_3 := dk_seg dksX7_meetsRows_2 22 rfl rfl
theorem dksX7_meetsRows_4 : cX7_meetsRows.data.toList.drop 91 = dktX7_meetsRows_4 := dk_seg dksX7_meetsRows_3 23 rfl rfl
theorem dksX7_meetsRows_5 : cX7_meetsRows.data.toList.drop 114 = dktX7_meetsRows_5 := dk_seg dksX7_meetsRows_4 23 rfl rfl
theorem dksX7_meetsRows_6 : cX7_meetsRows.data.toList.drop 136 = dktX7_meetsRows_6 := dk_seg dksX7_meetsRows_5 22 rfl rfl
theorem dksX7_meetsRows_7 : cX7_meetsRows.data.toList.drop 160 = dktX7_meetsRows_7 := dk_seg dksX7_meetsRows_6 24 rfl rfl
theorem dksX7_meetsRows_8 : cX7_meetsRows.data.toList.drop 182 = dktX7_meetsRows_8 := dk_seg dksX7_meetsRows_7 22 rfl rfl
theorem dksX7_meetsRows_9 : cX7_meetsRows.data.toList.drop 206 = dktX7_meetsRows_9 := dk_seg dksX7_meetsRows_8 24 rfl rfl
theorem dksX7_meetsRows_10 : cX7_meetsRows.data.toList.drop 228 = dktX7_meetsRows_10 := dk_seg dksX7_meetsRows_9 22 rfl rfl
theorem dksX7_meetsRows_11 : cX7_meetsRows.data.toList.drop 252 = dktX7_meetsRows_11 := dk_seg dksX7_meetsRows_10 24 rfl rfl
theorem dksX7_meetsRows_12 : cX7_meetsRows.data.toList.drop 276 = dktX7_meetsRows_12 := dk_seg dksX7_meetsRows_11 24 rfl rfl
theorem dksX7_meetsRows_13 : cX7_meetsRows.data.toList.drop 300 = dktX7_meetsRows_13 := dk_seg dksX7_meetsRows_12 24 rfl rfl
theorem dksX7_meetsRows_14 : cX7_meetsRows.data.toList.drop 322 = dktX7_meetsRows_14 := dk_seg dksX7_meetsRows_13 22 rfl rfl
theorem dksX7_meetsRows_15 : cX7_meetsRows.data.toList.drop 346 = dktX7_meetsRows_15 := dk_seg dksX7_meetsRows_14 24 rfl rfl
theorem dX7_meetsRows_0 : decode cX7_meetsRows 0 = .ok (.aload_n 0, 1) := dk_42 (dk_at dksX7_meetsRows_0 0 rfl rfl)
theorem dX7_meetsRows_1 : decode cX7_meetsRows 1 = .ok (.getfield 71, 3) := dk_180 0 71 (dk_at dksX7_meetsRows_0 1 rfl rfl)
theorem dX7_meetsRows_4 : decode cX7_meetsRows 4 = .ok (.invokestatic 412, 3) := dk_184 1 156 (dk_at dksX7_meetsRows_0 4 rfl rfl)
theorem dX7_meetsRows_7 : decode cX7_meetsRows 7 = .ok (.iconst (-1), 1) := dk_2 (dk_at dksX7_meetsRows_0 7 rfl rfl)
theorem dX7_meetsRows_8 : decode cX7_meetsRows 8 = .ok (.if_icmp .ne 4, 3) := dk_160 0 4 (dk_at dksX7_meetsRows_0 8 rfl rfl)
theorem dX7_meetsRows_11 : decode cX7_meetsRows 11 = .ok (.return_, 1) := dk_177 (dk_at dksX7_meetsRows_0 11 rfl rfl)
theorem dX7_meetsRows_12 : decode cX7_meetsRows 12 = .ok (.aload_n 0, 1) := dk_42 (dk_at dksX7_meetsRows_0 12 rfl rfl)
theorem dX7_meetsRows_13 : decode cX7_meetsRows 13 = .ok (.getfield 68, 3) := dk_180 0 68 (dk_at dksX7_meetsRows_0 13 rfl rfl)
theorem dX7_meetsRows_16 : decode cX7_meetsRows 16 = .ok (.invokestatic 412, 3) := dk_184 1 156 (dk_at dksX7_meetsRows_0 16 rfl rfl)
theorem dX7_meetsRows_19 : decode cX7_meetsRows 19 = .ok (.iconst (-1), 1) := dk_2 (dk_at dksX7_meetsRows_0 19 rfl rfl)
theorem dX7_meetsRows_20 : decode cX7_meetsRows 20 = .ok (.if_icmp .ne 30, 3) := dk_160 0 30 (dk_at dksX7_meetsRows_0 20 rfl rfl)
theorem dX7_meetsRows_23 : decode cX7_meetsRows 23 = .ok (.iconst 0, 1) := dk_3 (dk_at dksX7_meetsRows_0 23 rfl rfl)
theorem dX7_meetsRows_24 : decode cX7_meetsRows 24 = .ok (.istore_n 1, 1) := dk_60 (dk_at dksX7_meetsRows_1 0 rfl rfl)
theorem dX7_meetsRows_25 : decode cX7_meetsRows 25 = .ok (.iload_n 1, 1) := dk_27 (dk_at dksX7_meetsRows_1 1 rfl rfl)
theorem dX7_meetsRows_26 : decode cX7_meetsRows 26 = .ok (.ldc 67, 2) := dk_18 67 (dk_at dksX7_meetsRows_1 2 rfl rfl)
theorem dX7_meetsRows_28 : decode cX7_meetsRows 28 = .ok (.if_icmp .ge 21, 3) := dk_162 0 21 (dk_at dksX7_meetsRows_1 4 rfl rfl)
theorem dX7_meetsRows_31 : decode cX7_meetsRows 31 = .ok (.aload_n 0, 1) := dk_42 (dk_at dksX7_meetsRows_1 7 rfl rfl)
theorem dX7_meetsRows_32 : decode cX7_meetsRows 32 = .ok (.getfield 68, 3) := dk_180 0 68 (dk_at dksX7_meetsRows_1 8 rfl rfl)
theorem dX7_meetsRows_35 : decode cX7_meetsRows 35 = .ok (.iload_n 1, 1) := dk_27 (dk_at dksX7_meetsRows_1 11 rfl rfl)
theorem dX7_meetsRows_36 : decode cX7_meetsRows 36 = .ok (.aload_n 0, 1) := dk_42 (dk_at dksX7_meetsRows_1 12 rfl rfl)
theorem dX7_meetsRows_37 : decode cX7_meetsRows 37 = .ok (.getfield 71, 3) := dk_180 0 71 (dk_at dksX7_meetsRows_1 13 rfl rfl)
theorem dX7_meetsRows_40 : decode cX7_meetsRows 40 = .ok (.iload_n 1, 1) := dk_27 (dk_at dksX7_meetsRows_1 16 rfl rfl)
theorem dX7_meetsRows_41 : decode cX7_meetsRows 41 = .ok (.iaload, 1) := dk_46 (dk_at dksX7_meetsRows_1 17 rfl rfl)
theorem dX7_meetsRows_42 : decode cX7_meetsRows 42 = .ok (.iastore, 1) := dk_79 (dk_at dksX7_meetsRows_1 18 rfl rfl)
theorem dX7_meetsRows_43 : decode cX7_meetsRows 43 = .ok (.iinc 1 1, 3) := dk_132 1 1 (dk_at dksX7_meetsRows_1 19 rfl rfl)
theorem dX7_meetsRows_46 : decode cX7_meetsRows 46 = .ok (.goto (-21), 3) := dk_167 255 235 (dk_at dksX7_meetsRows_2 0 rfl rfl)
theorem dX7_meetsRows_49 : decode cX7_meetsRows 49 = .ok (.return_, 1) := dk_177 (dk_at dksX7_meetsRows_2 3 rfl rfl)
theorem dX7_meetsRows_50 : decode cX7_meetsRows 50 = .ok (.aload_n 0, 1) := dk_42 (dk_at dksX7_meetsRows_2 4 rfl rfl)
theorem dX7_meetsRows_51 : decode cX7_meetsRows 51 = .ok (.aload_n 0, 1) := dk_42 (dk_at dksX7_meetsRows_2 5 rfl rfl)
theorem dX7_meetsRows_52 : decode cX7_meetsRows 52 = .ok (.getfield 68, 3) := dk_180 0 68 (dk_at dksX7_meetsRows_2 6 rfl rfl)
theorem dX7_meetsRows_55 : decode cX7_meetsRows 55 = .ok (.aload_n 0, 1) := dk_42 (dk_at dksX7_meetsRows_2 9 rfl rfl)
theorem dX7_meetsRows_56 : decode cX7_meetsRows 56 = .ok (.getfield 86, 3) := dk_180 0 86 (dk_at dksX7_meetsRows_2 10 rfl rfl)
theorem dX7_meetsRows_59 : decode cX7_meetsRows 59 = .ok (.invokevirtual 405, 3) := dk_182 1 149 (dk_at dksX7_meetsRows_2 13 rfl rfl)
theorem dX7_meetsRows_62 : decode cX7_meetsRows 62 = .ok (.aload_n 0, 1) := dk_42 (dk_at dksX7_meetsRows_2 16 rfl rfl)
theorem dX7_meetsRows_63 : decode cX7_meetsRows 63 = .ok (.aload_n 0, 1) := dk_42 (dk_at dksX7_meetsRows_2 17 rfl rfl)
theorem dX7_meetsRows_64 : decode cX7_meetsRows 64 = .ok (.getfield 71, 3) := dk_180 0 71 (dk_at dksX7_meetsRows_2 18 rfl rfl)
theorem dX7_meetsRows_67 : decode cX7_meetsRows 67 = .ok (.aload_n 0, 1) := dk_42 (dk_at dksX7_meetsRows_2 21 rfl rfl)
theorem dX7_meetsRows_68 : decode cX7_meetsRows 68 = .ok (.getfield 74, 3) := dk_180 0 74 (dk_at dksX7_meetsRows_3 0 rfl rfl)
theorem dX7_meetsRows_71 : decode cX7_meetsRows 71 = .ok (.invokevirtual 405, 3) := dk_182 1 149 (dk_at dksX7_meetsRows_3 3 rfl rfl)
theorem dX7_meetsRows_74 : decode cX7_meetsRows 74 = .ok (.aload_n 0, 1) := dk_42 (dk_at dksX7_meetsRows_3 6 rfl rfl)
theorem dX7_meetsRows_75 : decode cX7_meetsRows 75 = .ok (.aload_n 0, 1) := dk_42 (dk_at dksX7_meetsRows_3 7 rfl rfl)
theorem dX7_meetsRows_76 : decode cX7_meetsRows 76 = .ok (.getfield 86, 3) := dk_180 0 86 (dk_at dksX7_meetsRows_3 8 rfl rfl)
theorem dX7_meetsRows_79 : decode cX7_meetsRows 79 = .ok (.aload_n 0, 1) := dk_42 (dk_at dksX7_meetsRows_3 11 rfl rfl)
theorem dX7_meetsRows_80 : decode cX7_meetsRows 80 = .ok (.getfield 74, 3) := dk_180 0 74 (dk_at dksX7_meetsRows_3 12 rfl rfl)
theorem dX7_meetsRows_83 : decode cX7_meetsRows 83 = .ok (.invokevirtual 401, 3) := dk_182 1 145 (dk_at dksX7_meetsRows_3 15 rfl rfl)
theorem dX7_meetsRows_86 : decode cX7_meetsRows 86 = .ok (.aload_n 0, 1) := dk_42 (dk_at dksX7_meetsRows_3 18 rfl rfl)
theorem dX7_meetsRows_87 : decode cX7_meetsRows 87 = .ok (.aload_n 0, 1) := dk_42 (dk_at dksX7_meetsRows_3 19 rfl rfl)
theorem dX7_meetsRows_88 : decode cX7_meetsRows 88 = .ok (.getfield 68, 3) := dk_180 0 68 (dk_at dksX7_meetsRows_3 20 rfl rfl)
theorem dX7_meetsRows_91 : decode cX7_meetsRows 91 = .ok (.invokevirtual 416, 3) := dk_182 1 160 (dk_at dksX7_meetsRows_4 0 rfl rfl)
theorem dX7_meetsRows_94 : decode cX7_meetsRows 94 = .ok (.aload_n 0, 1) := dk_42 (dk_at dksX7_meetsRows_4 3 rfl rfl)
theorem dX7_meetsRows_95 : decode cX7_meetsRows 95 = .ok (.aload_n 0, 1) := dk_42 (dk_at dksX7_meetsRows_4 4 rfl rfl)
theorem dX7_meetsRows_96 : decode cX7_meetsRows 96 = .ok (.getfield 71, 3) := dk_180 0 71 (dk_at dksX7_meetsRows_4 5 rfl rfl)
theorem dX7_meetsRows_99 : decode cX7_meetsRows 99 = .ok (.invokevirtual 416, 3) := dk_182 1 160 (dk_at dksX7_meetsRows_4 8 rfl rfl)
theorem dX7_meetsRows_102 : decode cX7_meetsRows 102 = .ok (.aload_n 0, 1) := dk_42 (dk_at dksX7_meetsRows_4 11 rfl rfl)
theorem dX7_meetsRows_103 : decode cX7_meetsRows 103 = .ok (.getfield 71, 3) := dk_180 0 71 (dk_at dksX7_meetsRows_4 12 rfl rfl)
theorem dX7_meetsRows_106 : decode cX7_meetsRows 106 = .ok (.invokestatic 412, 3) := dk_184 1 156 (dk_at dksX7_meetsRows_4 15 rfl rfl)
theorem dX7_meetsRows_109 : decode cX7_meetsRows 109 = .ok (.iconst (-1), 1) := dk_2 (dk_at dksX7_meetsRows_4 18 rfl rfl)
theorem dX7_meetsRows_110 : decode cX7_meetsRows 110 = .ok (.if_icmp .eq 78, 3) := dk_159 0 78 (dk_at dksX7_meetsRows_4 19 rfl rfl)
theorem dX7_meetsRows_113 : decode cX7_meetsRows 113 = .ok (.aload_n 0, 1) := dk_42 (dk_at dksX7_meetsRows_4 22 rfl rfl)
theorem dX7_meetsRows_114 : decode cX7_meetsRows 114 = .ok (.getfield 68, 3) := dk_180 0 68 (dk_at dksX7_meetsRows_5 0 rfl rfl)
theorem dX7_meetsRows_117 : decode cX7_meetsRows 117 = .ok (.invokestatic 412, 3) := dk_184 1 156 (dk_at dksX7_meetsRows_5 3 rfl rfl)
theorem dX7_meetsRows_120 : decode cX7_meetsRows 120 = .ok (.aload_n 0, 1) := dk_42 (dk_at dksX7_meetsRows_5 6 rfl rfl)
theorem dX7_meetsRows_121 : decode cX7_meetsRows 121 = .ok (.getfield 71, 3) := dk_180 0 71 (dk_at dksX7_meetsRows_5 7 rfl rfl)
theorem dX7_meetsRows_124 : decode cX7_meetsRows 124 = .ok (.invokestatic 412, 3) := dk_184 1 156 (dk_at dksX7_meetsRows_5 10 rfl rfl)
theorem dX7_meetsRows_127 : decode cX7_meetsRows 127 = .ok (.if_icmp .lt 18, 3) := dk_161 0 18 (dk_at dksX7_meetsRows_5 13 rfl rfl)
theorem dX7_meetsRows_130 : decode cX7_meetsRows 130 = .ok (.aload_n 0, 1) := dk_42 (dk_at dksX7_meetsRows_5 16 rfl rfl)
theorem dX7_meetsRows_131 : decode cX7_meetsRows 131 = .ok (.aload_n 0, 1) := dk_42 (dk_at dksX7_meetsRows_5 17 rfl rfl)
theorem dX7_meetsRows_132 : decode cX7_meetsRows 132 = .ok (.getfield 68, 3) := dk_180 0 68 (dk_at dksX7_meetsRows_5 18 rfl rfl)
theorem dX7_meetsRows_135 : decode cX7_meetsRows 135 = .ok (.aload_n 0, 1) := dk_42 (dk_at dksX7_meetsRows_5 21 rfl rfl)
theorem dX7_meetsRows_136 : decode cX7_meetsRows 136 = .ok (.getfield 71, 3) := dk_180 0 71 (dk_at dksX7_meetsRows_6 0 rfl rfl)
theorem dX7_meetsRows_139 : decode cX7_meetsRows 139 = .ok (.invokevirtual 419, 3) := dk_182 1 163 (dk_at dksX7_meetsRows_6 3 rfl rfl)
theorem dX7_meetsRows_142 : decode cX7_meetsRows 142 = .ok (.goto (-29), 3) := dk_167 255 227 (dk_at dksX7_meetsRows_6 6 rfl rfl)
theorem dX7_meetsRows_145 : decode cX7_meetsRows 145 = .ok (.iconst 0, 1) := dk_3 (dk_at dksX7_meetsRows_6 9 rfl rfl)
theorem dX7_meetsRows_146 : decode cX7_meetsRows 146 = .ok (.istore_n 1, 1) := dk_60 (dk_at dksX7_meetsRows_6 10 rfl rfl)
theorem dX7_meetsRows_147 : decode cX7_meetsRows 147 = .ok (.iload_n 1, 1) := dk_27 (dk_at dksX7_meetsRows_6 11 rfl rfl)
theorem dX7_meetsRows_148 : decode cX7_meetsRows 148 = .ok (.ldc 67, 2) := dk_18 67 (dk_at dksX7_meetsRows_6 12 rfl rfl)
theorem dX7_meetsRows_150 : decode cX7_meetsRows 150 = .ok (.if_icmp .ge 35, 3) := dk_162 0 35 (dk_at dksX7_meetsRows_6 14 rfl rfl)
theorem dX7_meetsRows_153 : decode cX7_meetsRows 153 = .ok (.aload_n 0, 1) := dk_42 (dk_at dksX7_meetsRows_6 17 rfl rfl)
theorem dX7_meetsRows_154 : decode cX7_meetsRows 154 = .ok (.getfield 68, 3) := dk_180 0 68 (dk_at dksX7_meetsRows_6 18 rfl rfl)
theorem dX7_meetsRows_157 : decode cX7_meetsRows 157 = .ok (.iload_n 1, 1) := dk_27 (dk_at dksX7_meetsRows_6 21 rfl rfl)
theorem dX7_meetsRows_158 : decode cX7_meetsRows 158 = .ok (.iaload, 1) := dk_46 (dk_at dksX7_meetsRows_6 22 rfl rfl)
theorem dX7_meetsRows_159 : decode cX7_meetsRows 159 = .ok (.istore_n 2, 1) := dk_61 (dk_at dksX7_meetsRows_6 23 rfl rfl)
theorem dX7_meetsRows_160 : decode cX7_meetsRows 160 = .ok (.aload_n 0, 1) := dk_42 (dk_at dksX7_meetsRows_7 0 rfl rfl)
theorem dX7_meetsRows_161 : decode cX7_meetsRows 161 = .ok (.getfield 68, 3) := dk_180 0 68 (dk_at dksX7_meetsRows_7 1 rfl rfl)
theorem dX7_meetsRows_164 : decode cX7_meetsRows 164 = .ok (.iload_n 1, 1) := dk_27 (dk_at dksX7_meetsRows_7 4 rfl rfl)
theorem dX7_meetsRows_165 : decode cX7_meetsRows 165 = .ok (.aload_n 0, 1) := dk_42 (dk_at dksX7_meetsRows_7 5 rfl rfl)
theorem dX7_meetsRows_166 : decode cX7_meetsRows 166 = .ok (.getfield 71, 3) := dk_180 0 71 (dk_at dksX7_meetsRows_7 6 rfl rfl)
theorem dX7_meetsRows_169 : decode cX7_meetsRows 169 = .ok (.iload_n 1, 1) := dk_27 (dk_at dksX7_meetsRows_7 9 rfl rfl)
theorem dX7_meetsRows_170 : decode cX7_meetsRows 170 = .ok (.iaload, 1) := dk_46 (dk_at dksX7_meetsRows_7 10 rfl rfl)
theorem dX7_meetsRows_171 : decode cX7_meetsRows 171 = .ok (.iastore, 1) := dk_79 (dk_at dksX7_meetsRows_7 11 rfl rfl)
theorem dX7_meetsRows_172 : decode cX7_meetsRows 172 = .ok (.aload_n 0, 1) := dk_42 (dk_at dksX7_meetsRows_7 12 rfl rfl)
theorem dX7_meetsRows_173 : decode cX7_meetsRows 173 = .ok (.getfield 71, 3) := dk_180 0 71 (dk_at dksX7_meetsRows_7 13 rfl rfl)
theorem dX7_meetsRows_176 : decode cX7_meetsRows 176 = .ok (.iload_n 1, 1) := dk_27 (dk_at dksX7_meetsRows_7 16 rfl rfl)
theorem dX7_meetsRows_177 : decode cX7_meetsRows 177 = .ok (.iload_n 2, 1) := dk_28 (dk_at dksX7_meetsRows_7 17 rfl rfl)
theorem dX7_meetsRows_178 : decode cX7_meetsRows 178 = .ok (.iastore, 1) := dk_79 (dk_at dksX7_meetsRows_7 18 rfl rfl)
theorem dX7_meetsRows_179 : decode cX7_meetsRows 179 = .ok (.iinc 1 1, 3) := dk_132 1 1 (dk_at dksX7_meetsRows_7 19 rfl rfl)
theorem dX7_meetsRows_182 : decode cX7_meetsRows 182 = .ok (.goto (-35), 3) := dk_167 255 221 (dk_at dksX7_meetsRows_8 0 rfl rfl)
theorem dX7_meetsRows_185 : decode cX7_meetsRows 185 = .ok (.goto (-83), 3) := dk_167 255 173 (dk_at dksX7_meetsRows_8 3 rfl rfl)
theorem dX7_meetsRows_188 : decode cX7_meetsRows 188 = .ok (.aload_n 0, 1) := dk_42 (dk_at dksX7_meetsRows_8 6 rfl rfl)
theorem dX7_meetsRows_189 : decode cX7_meetsRows 189 = .ok (.getfield 86, 3) := dk_180 0 86 (dk_at dksX7_meetsRows_8 7 rfl rfl)
theorem dX7_meetsRows_192 : decode cX7_meetsRows 192 = .ok (.iconst 0, 1) := dk_3 (dk_at dksX7_meetsRows_8 10 rfl rfl)
theorem dX7_meetsRows_193 : decode cX7_meetsRows 193 = .ok (.invokestatic 385, 3) := dk_184 1 129 (dk_at dksX7_meetsRows_8 11 rfl rfl)
theorem dX7_meetsRows_196 : decode cX7_meetsRows 196 = .ok (.istore_n 1, 1) := dk_60 (dk_at dksX7_meetsRows_8 14 rfl rfl)
theorem dX7_meetsRows_197 : decode cX7_meetsRows 197 = .ok (.iconst 0, 1) := dk_3 (dk_at dksX7_meetsRows_8 15 rfl rfl)
theorem dX7_meetsRows_198 : decode cX7_meetsRows 198 = .ok (.istore_n 2, 1) := dk_61 (dk_at dksX7_meetsRows_8 16 rfl rfl)
theorem dX7_meetsRows_199 : decode cX7_meetsRows 199 = .ok (.iload_n 2, 1) := dk_28 (dk_at dksX7_meetsRows_8 17 rfl rfl)
theorem dX7_meetsRows_200 : decode cX7_meetsRows 200 = .ok (.bipush 16, 2) := dk_16 16 (dk_at dksX7_meetsRows_8 18 rfl rfl)
theorem dX7_meetsRows_202 : decode cX7_meetsRows 202 = .ok (.if_icmp .ge 158, 3) := dk_162 0 158 (dk_at dksX7_meetsRows_8 20 rfl rfl)
theorem dX7_meetsRows_205 : decode cX7_meetsRows 205 = .ok (.iconst 0, 1) := dk_3 (dk_at dksX7_meetsRows_8 23 rfl rfl)
theorem dX7_meetsRows_206 : decode cX7_meetsRows 206 = .ok (.istore_n 3, 1) := dk_62 (dk_at dksX7_meetsRows_9 0 rfl rfl)
theorem dX7_meetsRows_207 : decode cX7_meetsRows 207 = .ok (.iload_n 3, 1) := dk_29 (dk_at dksX7_meetsRows_9 1 rfl rfl)
theorem dX7_meetsRows_208 : decode cX7_meetsRows 208 = .ok (.sipush 2304, 3) := dk_17 9 0 (dk_at dksX7_meetsRows_9 2 rfl rfl)
theorem dX7_meetsRows_211 : decode cX7_meetsRows 211 = .ok (.if_icmp .ge 16, 3) := dk_162 0 16 (dk_at dksX7_meetsRows_9 5 rfl rfl)
theorem dX7_meetsRows_214 : decode cX7_meetsRows 214 = .ok (.aload_n 0, 1) := dk_42 (dk_at dksX7_meetsRows_9 8 rfl rfl)
theorem dX7_meetsRows_215 : decode cX7_meetsRows 215 = .ok (.getfield 83, 3) := dk_180 0 83 (dk_at dksX7_meetsRows_9 9 rfl rfl)
theorem dX7_meetsRows_218 : decode cX7_meetsRows 218 = .ok (.iload_n 3, 1) := dk_29 (dk_at dksX7_meetsRows_9 12 rfl rfl)
theorem dX7_meetsRows_219 : decode cX7_meetsRows 219 = .ok (.iconst 0, 1) := dk_3 (dk_at dksX7_meetsRows_9 13 rfl rfl)
theorem dX7_meetsRows_220 : decode cX7_meetsRows 220 = .ok (.iastore, 1) := dk_79 (dk_at dksX7_meetsRows_9 14 rfl rfl)
theorem dX7_meetsRows_221 : decode cX7_meetsRows 221 = .ok (.iinc 3 1, 3) := dk_132 3 1 (dk_at dksX7_meetsRows_9 15 rfl rfl)
theorem dX7_meetsRows_224 : decode cX7_meetsRows 224 = .ok (.goto (-17), 3) := dk_167 255 239 (dk_at dksX7_meetsRows_9 18 rfl rfl)
theorem dX7_meetsRows_227 : decode cX7_meetsRows 227 = .ok (.aload_n 0, 1) := dk_42 (dk_at dksX7_meetsRows_9 21 rfl rfl)
theorem dX7_meetsRows_228 : decode cX7_meetsRows 228 = .ok (.getfield 68, 3) := dk_180 0 68 (dk_at dksX7_meetsRows_10 0 rfl rfl)
theorem dX7_meetsRows_231 : decode cX7_meetsRows 231 = .ok (.sipush 2304, 3) := dk_17 9 0 (dk_at dksX7_meetsRows_10 3 rfl rfl)
theorem dX7_meetsRows_234 : decode cX7_meetsRows 234 = .ok (.iload_n 2, 1) := dk_28 (dk_at dksX7_meetsRows_10 6 rfl rfl)
theorem dX7_meetsRows_235 : decode cX7_meetsRows 235 = .ok (.imul, 1) := dk_104 (dk_at dksX7_meetsRows_10 7 rfl rfl)
theorem dX7_meetsRows_236 : decode cX7_meetsRows 236 = .ok (.invokestatic 385, 3) := dk_184 1 129 (dk_at dksX7_meetsRows_10 8 rfl rfl)
theorem dX7_meetsRows_239 : decode cX7_meetsRows 239 = .ok (.istore_n 3, 1) := dk_62 (dk_at dksX7_meetsRows_10 11 rfl rfl)
theorem dX7_meetsRows_240 : decode cX7_meetsRows 240 = .ok (.iconst 0, 1) := dk_3 (dk_at dksX7_meetsRows_10 12 rfl rfl)
theorem dX7_meetsRows_241 : decode cX7_meetsRows 241 = .ok (.istore 4, 2) := dk_54 4 (dk_at dksX7_meetsRows_10 13 rfl rfl)
theorem dX7_meetsRows_243 : decode cX7_meetsRows 243 = .ok (.iload 4, 2) := dk_21 4 (dk_at dksX7_meetsRows_10 15 rfl rfl)
theorem dX7_meetsRows_245 : decode cX7_meetsRows 245 = .ok (.iload_n 1, 1) := dk_27 (dk_at dksX7_meetsRows_10 17 rfl rfl)
theorem dX7_meetsRows_246 : decode cX7_meetsRows 246 = .ok (.if_icmp .gt 71, 3) := dk_163 0 71 (dk_at dksX7_meetsRows_10 18 rfl rfl)
theorem dX7_meetsRows_249 : decode cX7_meetsRows 249 = .ok (.iconst 0, 1) := dk_3 (dk_at dksX7_meetsRows_10 21 rfl rfl)
theorem dX7_meetsRows_250 : decode cX7_meetsRows 250 = .ok (.istore 5, 2) := dk_54 5 (dk_at dksX7_meetsRows_10 22 rfl rfl)
theorem dX7_meetsRows_252 : decode cX7_meetsRows 252 = .ok (.iload 5, 2) := dk_21 5 (dk_at dksX7_meetsRows_11 0 rfl rfl)
theorem dX7_meetsRows_254 : decode cX7_meetsRows 254 = .ok (.iload_n 3, 1) := dk_29 (dk_at dksX7_meetsRows_11 2 rfl rfl)
theorem dX7_meetsRows_255 : decode cX7_meetsRows 255 = .ok (.if_icmp .gt 56, 3) := dk_163 0 56 (dk_at dksX7_meetsRows_11 3 rfl rfl)
theorem dX7_meetsRows_258 : decode cX7_meetsRows 258 = .ok (.aload_n 0, 1) := dk_42 (dk_at dksX7_meetsRows_11 6 rfl rfl)
theorem dX7_meetsRows_259 : decode cX7_meetsRows 259 = .ok (.getfield 83, 3) := dk_180 0 83 (dk_at dksX7_meetsRows_11 7 rfl rfl)
theorem dX7_meetsRows_262 : decode cX7_meetsRows 262 = .ok (.iload 4, 2) := dk_21 4 (dk_at dksX7_meetsRows_11 10 rfl rfl)
theorem dX7_meetsRows_264 : decode cX7_meetsRows 264 = .ok (.iload 5, 2) := dk_21 5 (dk_at dksX7_meetsRows_11 12 rfl rfl)
theorem dX7_meetsRows_266 : decode cX7_meetsRows 266 = .ok (.iadd, 1) := dk_96 (dk_at dksX7_meetsRows_11 14 rfl rfl)
theorem dX7_meetsRows_267 : decode cX7_meetsRows 267 = .ok (.aload_n 0, 1) := dk_42 (dk_at dksX7_meetsRows_11 15 rfl rfl)
theorem dX7_meetsRows_268 : decode cX7_meetsRows 268 = .ok (.getfield 83, 3) := dk_180 0 83 (dk_at dksX7_meetsRows_11 16 rfl rfl)
theorem dX7_meetsRows_271 : decode cX7_meetsRows 271 = .ok (.iload 4, 2) := dk_21 4 (dk_at dksX7_meetsRows_11 19 rfl rfl)
theorem dX7_meetsRows_273 : decode cX7_meetsRows 273 = .ok (.iload 5, 2) := dk_21 5 (dk_at dksX7_meetsRows_11 21 rfl rfl)
theorem dX7_meetsRows_275 : decode cX7_meetsRows 275 = .ok (.iadd, 1) := dk_96 (dk_at dksX7_meetsRows_11 23 rfl rfl)
theorem dX7_meetsRows_276 : decode cX7_meetsRows 276 = .ok (.iaload, 1) := dk_46 (dk_at dksX7_meetsRows_12 0 rfl rfl)
theorem dX7_meetsRows_277 : decode cX7_meetsRows 277 = .ok (.aload_n 0, 1) := dk_42 (dk_at dksX7_meetsRows_12 1 rfl rfl)
theorem dX7_meetsRows_278 : decode cX7_meetsRows 278 = .ok (.getfield 86, 3) := dk_180 0 86 (dk_at dksX7_meetsRows_12 2 rfl rfl)
theorem dX7_meetsRows_281 : decode cX7_meetsRows 281 = .ok (.iload 4, 2) := dk_21 4 (dk_at dksX7_meetsRows_12 5 rfl rfl)
theorem dX7_meetsRows_283 : decode cX7_meetsRows 283 = .ok (.iaload, 1) := dk_46 (dk_at dksX7_meetsRows_12 7 rfl rfl)
theorem dX7_meetsRows_284 : decode cX7_meetsRows 284 = .ok (.aload_n 0, 1) := dk_42 (dk_at dksX7_meetsRows_12 8 rfl rfl)
theorem dX7_meetsRows_285 : decode cX7_meetsRows 285 = .ok (.getfield 68, 3) := dk_180 0 68 (dk_at dksX7_meetsRows_12 9 rfl rfl)
theorem dX7_meetsRows_288 : decode cX7_meetsRows 288 = .ok (.sipush 2304, 3) := dk_17 9 0 (dk_at dksX7_meetsRows_12 12 rfl rfl)
theorem dX7_meetsRows_291 : decode cX7_meetsRows 291 = .ok (.iload_n 2, 1) := dk_28 (dk_at dksX7_meetsRows_12 15 rfl rfl)
theorem dX7_meetsRows_292 : decode cX7_meetsRows 292 = .ok (.imul, 1) := dk_104 (dk_at dksX7_meetsRows_12 16 rfl rfl)
theorem dX7_meetsRows_293 : decode cX7_meetsRows 293 = .ok (.iload 5, 2) := dk_21 5 (dk_at dksX7_meetsRows_12 17 rfl rfl)
theorem dX7_meetsRows_295 : decode cX7_meetsRows 295 = .ok (.iadd, 1) := dk_96 (dk_at dksX7_meetsRows_12 19 rfl rfl)
theorem dX7_meetsRows_296 : decode cX7_meetsRows 296 = .ok (.iaload, 1) := dk_46 (dk_at dksX7_meetsRows_12 20 rfl rfl)
theorem dX7_meetsRows_297 : decode cX7_meetsRows 297 = .ok (.imul, 1) := dk_104 (dk_at dksX7_meetsRows_12 21 rfl rfl)
theorem dX7_meetsRows_298 : decode cX7_meetsRows 298 = .ok (.iadd, 1) := dk_96 (dk_at dksX7_meetsRows_12 22 rfl rfl)
theorem dX7_meetsRows_299 : decode cX7_meetsRows 299 = .ok (.aload_n 0, 1) := dk_42 (dk_at dksX7_meetsRows_12 23 rfl rfl)
theorem dX7_meetsRows_300 : decode cX7_meetsRows 300 = .ok (.getfield 231, 3) := dk_180 0 231 (dk_at dksX7_meetsRows_13 0 rfl rfl)
theorem dX7_meetsRows_303 : decode cX7_meetsRows 303 = .ok (.irem, 1) := dk_112 (dk_at dksX7_meetsRows_13 3 rfl rfl)
theorem dX7_meetsRows_304 : decode cX7_meetsRows 304 = .ok (.iastore, 1) := dk_79 (dk_at dksX7_meetsRows_13 4 rfl rfl)
theorem dX7_meetsRows_305 : decode cX7_meetsRows 305 = .ok (.iinc 5 1, 3) := dk_132 5 1 (dk_at dksX7_meetsRows_13 5 rfl rfl)
theorem dX7_meetsRows_308 : decode cX7_meetsRows 308 = .ok (.goto (-56), 3) := dk_167 255 200 (dk_at dksX7_meetsRows_13 8 rfl rfl)
theorem dX7_meetsRows_311 : decode cX7_meetsRows 311 = .ok (.iinc 4 1, 3) := dk_132 4 1 (dk_at dksX7_meetsRows_13 11 rfl rfl)
theorem dX7_meetsRows_314 : decode cX7_meetsRows 314 = .ok (.goto (-71), 3) := dk_167 255 185 (dk_at dksX7_meetsRows_13 14 rfl rfl)
theorem dX7_meetsRows_317 : decode cX7_meetsRows 317 = .ok (.iconst 0, 1) := dk_3 (dk_at dksX7_meetsRows_13 17 rfl rfl)
theorem dX7_meetsRows_318 : decode cX7_meetsRows 318 = .ok (.istore 4, 2) := dk_54 4 (dk_at dksX7_meetsRows_13 18 rfl rfl)
theorem dX7_meetsRows_320 : decode cX7_meetsRows 320 = .ok (.iload 4, 2) := dk_21 4 (dk_at dksX7_meetsRows_13 20 rfl rfl)
theorem dX7_meetsRows_322 : decode cX7_meetsRows 322 = .ok (.sipush 2304, 3) := dk_17 9 0 (dk_at dksX7_meetsRows_14 0 rfl rfl)
theorem dX7_meetsRows_325 : decode cX7_meetsRows 325 = .ok (.if_icmp .ge 29, 3) := dk_162 0 29 (dk_at dksX7_meetsRows_14 3 rfl rfl)
theorem dX7_meetsRows_328 : decode cX7_meetsRows 328 = .ok (.aload_n 0, 1) := dk_42 (dk_at dksX7_meetsRows_14 6 rfl rfl)
theorem dX7_meetsRows_329 : decode cX7_meetsRows 329 = .ok (.getfield 68, 3) := dk_180 0 68 (dk_at dksX7_meetsRows_14 7 rfl rfl)
theorem dX7_meetsRows_332 : decode cX7_meetsRows 332 = .ok (.sipush 2304, 3) := dk_17 9 0 (dk_at dksX7_meetsRows_14 10 rfl rfl)
theorem dX7_meetsRows_335 : decode cX7_meetsRows 335 = .ok (.iload_n 2, 1) := dk_28 (dk_at dksX7_meetsRows_14 13 rfl rfl)
theorem dX7_meetsRows_336 : decode cX7_meetsRows 336 = .ok (.imul, 1) := dk_104 (dk_at dksX7_meetsRows_14 14 rfl rfl)
theorem dX7_meetsRows_337 : decode cX7_meetsRows 337 = .ok (.iload 4, 2) := dk_21 4 (dk_at dksX7_meetsRows_14 15 rfl rfl)
theorem dX7_meetsRows_339 : decode cX7_meetsRows 339 = .ok (.iadd, 1) := dk_96 (dk_at dksX7_meetsRows_14 17 rfl rfl)
theorem dX7_meetsRows_340 : decode cX7_meetsRows 340 = .ok (.aload_n 0, 1) := dk_42 (dk_at dksX7_meetsRows_14 18 rfl rfl)
theorem dX7_meetsRows_341 : decode cX7_meetsRows 341 = .ok (.getfield 83, 3) := dk_180 0 83 (dk_at dksX7_meetsRows_14 19 rfl rfl)
theorem dX7_meetsRows_344 : decode cX7_meetsRows 344 = .ok (.iload 4, 2) := dk_21 4 (dk_at dksX7_meetsRows_14 22 rfl rfl)
theorem dX7_meetsRows_346 : decode cX7_meetsRows 346 = .ok (.iaload, 1) := dk_46 (dk_at dksX7_meetsRows_15 0 rfl rfl)
theorem dX7_meetsRows_347 : decode cX7_meetsRows 347 = .ok (.iastore, 1) := dk_79 (dk_at dksX7_meetsRows_15 1 rfl rfl)
theorem dX7_meetsRows_348 : decode cX7_meetsRows 348 = .ok (.iinc 4 1, 3) := dk_132 4 1 (dk_at dksX7_meetsRows_15 2 rfl rfl)
theorem dX7_meetsRows_351 : decode cX7_meetsRows 351 = .ok (.goto (-31), 3) := dk_167 255 225 (dk_at dksX7_meetsRows_15 5 rfl rfl)
theorem dX7_meetsRows_354 : decode cX7_meetsRows 354 = .ok (.iinc 2 1, 3) := dk_132 2 1 (dk_at dksX7_meetsRows_15 8 rfl rfl)
theorem dX7_meetsRows_357 : decode cX7_meetsRows 357 = .ok (.goto (-158), 3) := dk_167 255 98 (dk_at dksX7_meetsRows_15 11 rfl rfl)
theorem dX7_meetsRows_360 : decode cX7_meetsRows 360 = .ok (.return_, 1) := dk_177 (dk_at dksX7_meetsRows_15 14 rfl rfl)
abbrev cX7_degreeX : ByteArray := prog_10_method_89_code
def yX7_degreeX : MethodName := ⟨RX7, "degreeX", "([I)I"⟩
def dkwX7_degreeX_1 : List UInt8 := [132, 1, 255, 167, 255, 234, 2, 172]
abbrev dktX7_degreeX_1 : List UInt8 := dkwX7_degreeX_1 ++ []
def dkwX7_degreeX_0 : List UInt8 := [16, 15, 60, 27, 155, 0, 24, 42, 17, 9, 0, 27, 104, 184, 1, 129, 2, 159, 0, 5, 27, 172]
abbrev dktX7_degreeX_0 : List UInt8 := dkwX7_degreeX_0 ++ dktX7_degreeX_1
theorem dksX7_degreeX_0 : cX7_degreeX.data.toList.drop 0 = dktX7_degreeX_0 := by decide +kernel
theorem dksX7_degreeX_1 : cX7_degreeX.data.toList.drop 22 = dktX7_degreeX_1 := dk_seg dksX7_degreeX_0 22 rfl rfl
theorem dX7_degreeX_0 : decode cX7_degreeX 0 = .ok (.bipush 15, 2) := dk_16 15 (dk_at dksX7_degreeX_0 0 rfl rfl)
theorem dX7_degreeX_2 : decode cX7_degreeX 2 = .ok (.istore_n 1, 1) := dk_60 (dk_at dksX7_degreeX_0 2 rfl rfl)
theorem dX7_degreeX_3 : decode cX7_degreeX 3 = .ok (.iload_n 1, 1) := dk_27 (dk_at dksX7_degreeX_0 3 rfl rfl)
theorem dX7_degreeX_4 : decode cX7_degreeX 4 = .ok (.ifCond .lt 24, 3) := dk_155 0 24 (dk_at dksX7_degreeX_0 4 rfl rfl)
theorem dX7_degreeX_7 : decode cX7_degreeX 7 = .ok (.aload_n 0, 1) := dk_42 (dk_at dksX7_degreeX_0 7 rfl rfl)
theorem dX7_degreeX_8 : decode cX7_degreeX 8 = .ok (.sipush 2304, 3) := dk_17 9 0 (dk_at dksX7_degreeX_0 8 rfl rfl)
theorem dX7_degreeX_11 : decode cX7_degreeX 11 = .ok (.iload_n 1, 1) := dk_27 (dk_at dksX7_degreeX_0 11 rfl rfl)
theorem dX7_degreeX_12 : decode cX7_degreeX 12 = .ok (.imul, 1) := dk_104 (dk_at dksX7_degreeX_0 12 rfl rfl)
theorem dX7_degreeX_13 : decode cX7_degreeX 13 = .ok (.invokestatic 385, 3) := dk_184 1 129 (dk_at dksX7_degreeX_0 13 rfl rfl)
theorem dX7_degreeX_16 : decode cX7_degreeX 16 = .ok (.iconst (-1), 1) := dk_2 (dk_at dksX7_degreeX_0 16 rfl rfl)
theorem dX7_degreeX_17 : decode cX7_degreeX 17 = .ok (.if_icmp .eq 5, 3) := dk_159 0 5 (dk_at dksX7_degreeX_0 17 rfl rfl)
theorem dX7_degreeX_20 : decode cX7_degreeX 20 = .ok (.iload_n 1, 1) := dk_27 (dk_at dksX7_degreeX_0 20 rfl rfl)
theorem dX7_degreeX_21 : decode cX7_degreeX 21 = .ok (.ireturn, 1) := dk_172 (dk_at dksX7_degreeX_0 21 rfl rfl)
theorem dX7_degreeX_22 : decode cX7_degreeX 22 = .ok (.iinc 1 (-1), 3) := dk_132 1 255 (dk_at dksX7_degreeX_1 0 rfl rfl)
theorem dX7_degreeX_25 : decode cX7_degreeX 25 = .ok (.goto (-22), 3) := dk_167 255 234 (dk_at dksX7_degreeX_1 3 rfl rfl)
theorem dX7_degreeX_28 : decode cX7_degreeX 28 = .ok (.iconst (-1), 1) := dk_2 (dk_at dksX7_degreeX_1 6 rfl rfl)
theorem dX7_degreeX_29 : decode cX7_degreeX 29 = .ok (.ireturn, 1) := dk_172 (dk_at dksX7_degreeX_1 7 rfl rfl)
abbrev cX7_heightOf : ByteArray := prog_10_method_88_code
def yX7_heightOf : MethodName := ⟨RX7, "heightOf", "([II)I"⟩
def dkwX7_heightOf_1 : List UInt8 := [2, 172]
abbrev dktX7_heightOf_1 : List UInt8 := dkwX7_heightOf_1 ++ []
def dkwX7_heightOf_0 : List UInt8 := [17, 8, 255, 61, 28, 155, 0, 19, 42, 27, 28, 96, 46, 153, 0, 5, 28, 172, 132, 2, 255, 167, 255, 239]
abbrev dktX7_heightOf_0 : List UInt8 := dkwX7_heightOf_0 ++ dktX7_heightOf_1
theorem dksX7_heightOf_0 : cX7_heightOf.data.toList.drop 0 = dktX7_heightOf_0 := by decide +kernel
theorem dksX7_heightOf_1 : cX7_heightOf.data.toList.drop 24 = dktX7_heightOf_1 := dk_seg dksX7_heightOf_0 24 rfl rfl
theorem dX7_heightOf_0 : decode cX7_heightOf 0 = .ok (.sipush 2303, 3) := dk_17 8 255 (dk_at dksX7_heightOf_0 0 rfl rfl)
theorem dX7_heightOf_3 : decode cX7_heightOf 3 = .ok (.istore_n 2, 1) := dk_61 (dk_at dksX7_heightOf_0 3 rfl rfl)
theorem dX7_heightOf_4 : decode cX7_heightOf 4 = .ok (.iload_n 2, 1) := dk_28 (dk_at dksX7_heightOf_0 4 rfl rfl)
theorem dX7_heightOf_5 : decode cX7_heightOf 5 = .ok (.ifCond .lt 19, 3) := dk_155 0 19 (dk_at dksX7_heightOf_0 5 rfl rfl)
theorem dX7_heightOf_8 : decode cX7_heightOf 8 = .ok (.aload_n 0, 1) := dk_42 (dk_at dksX7_heightOf_0 8 rfl rfl)
theorem dX7_heightOf_9 : decode cX7_heightOf 9 = .ok (.iload_n 1, 1) := dk_27 (dk_at dksX7_heightOf_0 9 rfl rfl)
theorem dX7_heightOf_10 : decode cX7_heightOf 10 = .ok (.iload_n 2, 1) := dk_28 (dk_at dksX7_heightOf_0 10 rfl rfl)
theorem dX7_heightOf_11 : decode cX7_heightOf 11 = .ok (.iadd, 1) := dk_96 (dk_at dksX7_heightOf_0 11 rfl rfl)
theorem dX7_heightOf_12 : decode cX7_heightOf 12 = .ok (.iaload, 1) := dk_46 (dk_at dksX7_heightOf_0 12 rfl rfl)
theorem dX7_heightOf_13 : decode cX7_heightOf 13 = .ok (.ifCond .eq 5, 3) := dk_153 0 5 (dk_at dksX7_heightOf_0 13 rfl rfl)
theorem dX7_heightOf_16 : decode cX7_heightOf 16 = .ok (.iload_n 2, 1) := dk_28 (dk_at dksX7_heightOf_0 16 rfl rfl)
theorem dX7_heightOf_17 : decode cX7_heightOf 17 = .ok (.ireturn, 1) := dk_172 (dk_at dksX7_heightOf_0 17 rfl rfl)
theorem dX7_heightOf_18 : decode cX7_heightOf 18 = .ok (.iinc 2 (-1), 3) := dk_132 2 255 (dk_at dksX7_heightOf_0 18 rfl rfl)
theorem dX7_heightOf_21 : decode cX7_heightOf 21 = .ok (.goto (-17), 3) := dk_167 255 239 (dk_at dksX7_heightOf_0 21 rfl rfl)
theorem dX7_heightOf_24 : decode cX7_heightOf 24 = .ok (.iconst (-1), 1) := dk_2 (dk_at dksX7_heightOf_1 0 rfl rfl)
theorem dX7_heightOf_25 : decode cX7_heightOf 25 = .ok (.ireturn, 1) := dk_172 (dk_at dksX7_heightOf_1 1 rfl rfl)
abbrev cX7_contentOf : ByteArray := prog_10_method_96_code
def yX7_contentOf : MethodName := ⟨RX7, "contentOf", "([I[I)V"⟩
def dkwX7_contentOf_2 : List UInt8 := [184, 1, 141, 42, 44, 42, 180, 0, 80, 182, 1, 145, 132, 3, 1, 167, 255, 216, 177]
abbrev dktX7_contentOf_2 : List UInt8 := dkwX7_contentOf_2 ++ []
def dkwX7_contentOf_1 : List UInt8 := [162, 0, 40, 44, 3, 184, 1, 129, 154, 0, 4, 177, 43, 17, 9, 0, 29, 104, 42, 180, 0, 80]
abbrev dktX7_contentOf_1 : List UInt8 := dkwX7_contentOf_1 ++ dktX7_contentOf_2
def dkwX7_contentOf_0 : List UInt8 := [3, 62, 29, 17, 9, 0, 162, 0, 13, 44, 29, 3, 79, 132, 3, 1, 167, 255, 242, 3, 62, 29, 16, 16]
abbrev dktX7_contentOf_0 : List UInt8 := dkwX7_contentOf_0 ++ dktX7_contentOf_1
theorem dksX7_contentOf_0 : cX7_contentOf.data.toList.drop 0 = dktX7_contentOf_0 := by decide +kernel
theorem dksX7_contentOf_1 : cX7_contentOf.data.toList.drop 24 = dktX7_contentOf_1 := dk_seg dksX7_contentOf_0 24 rfl rfl
theorem dksX7_contentOf_2 : cX7_contentOf.data.toList.drop 46 = dktX7_contentOf_2 := dk_seg dksX7_contentOf_1 22 rfl rfl
theorem dX7_contentOf_0 : decode cX7_contentOf 0 = .ok (.iconst 0, 1) := dk_3 (dk_at dksX7_contentOf_0 0 rfl rfl)
theorem dX7_contentOf_1 : decode cX7_contentOf 1 = .ok (.istore_n 3, 1) := dk_62 (dk_at dksX7_contentOf_0 1 rfl rfl)
theorem dX7_contentOf_2 : decode cX7_contentOf 2 = .ok (.iload_n 3, 1) := dk_29 (dk_at dksX7_contentOf_0 2 rfl rfl)
theorem dX7_contentOf_3 : decode cX7_contentOf 3 = .ok (.sipush 2304, 3) := dk_17 9 0 (dk_at dksX7_contentOf_0 3 rfl rfl)
theorem dX7_contentOf_6 : decode cX7_contentOf 6 = .ok (.if_icmp .ge 13, 3) := dk_162 0 13 (dk_at dksX7_contentOf_0 6 rfl rfl)
theorem dX7_contentOf_9 : decode cX7_contentOf 9 = .ok (.aload_n 2, 1) := dk_44 (dk_at dksX7_contentOf_0 9 rfl rfl)
theorem dX7_contentOf_10 : decode cX7_contentOf 10 = .ok (.iload_n 3, 1) := dk_29 (dk_at dksX7_contentOf_0 10 rfl rfl)
theorem dX7_contentOf_11 : decode cX7_contentOf 11 = .ok (.iconst 0, 1) := dk_3 (dk_at dksX7_contentOf_0 11 rfl rfl)
theorem dX7_contentOf_12 : decode cX7_contentOf 12 = .ok (.iastore, 1) := dk_79 (dk_at dksX7_contentOf_0 12 rfl rfl)
theorem dX7_contentOf_13 : decode cX7_contentOf 13 = .ok (.iinc 3 1, 3) := dk_132 3 1 (dk_at dksX7_contentOf_0 13 rfl rfl)
theorem dX7_contentOf_16 : decode cX7_contentOf 16 = .ok (.goto (-14), 3) := dk_167 255 242 (dk_at dksX7_contentOf_0 16 rfl rfl)
theorem dX7_contentOf_19 : decode cX7_contentOf 19 = .ok (.iconst 0, 1) := dk_3 (dk_at dksX7_contentOf_0 19 rfl rfl)
theorem dX7_contentOf_20 : decode cX7_contentOf 20 = .ok (.istore_n 3, 1) := dk_62 (dk_at dksX7_contentOf_0 20 rfl rfl)
theorem dX7_contentOf_21 : decode cX7_contentOf 21 = .ok (.iload_n 3, 1) := dk_29 (dk_at dksX7_contentOf_0 21 rfl rfl)
theorem dX7_contentOf_22 : decode cX7_contentOf 22 = .ok (.bipush 16, 2) := dk_16 16 (dk_at dksX7_contentOf_0 22 rfl rfl)
theorem dX7_contentOf_24 : decode cX7_contentOf 24 = .ok (.if_icmp .ge 40, 3) := dk_162 0 40 (dk_at dksX7_contentOf_1 0 rfl rfl)
theorem dX7_contentOf_27 : decode cX7_contentOf 27 = .ok (.aload_n 2, 1) := dk_44 (dk_at dksX7_contentOf_1 3 rfl rfl)
theorem dX7_contentOf_28 : decode cX7_contentOf 28 = .ok (.iconst 0, 1) := dk_3 (dk_at dksX7_contentOf_1 4 rfl rfl)
theorem dX7_contentOf_29 : decode cX7_contentOf 29 = .ok (.invokestatic 385, 3) := dk_184 1 129 (dk_at dksX7_contentOf_1 5 rfl rfl)
theorem dX7_contentOf_32 : decode cX7_contentOf 32 = .ok (.ifCond .ne 4, 3) := dk_154 0 4 (dk_at dksX7_contentOf_1 8 rfl rfl)
theorem dX7_contentOf_35 : decode cX7_contentOf 35 = .ok (.return_, 1) := dk_177 (dk_at dksX7_contentOf_1 11 rfl rfl)
theorem dX7_contentOf_36 : decode cX7_contentOf 36 = .ok (.aload_n 1, 1) := dk_43 (dk_at dksX7_contentOf_1 12 rfl rfl)
theorem dX7_contentOf_37 : decode cX7_contentOf 37 = .ok (.sipush 2304, 3) := dk_17 9 0 (dk_at dksX7_contentOf_1 13 rfl rfl)
theorem dX7_contentOf_40 : decode cX7_contentOf 40 = .ok (.iload_n 3, 1) := dk_29 (dk_at dksX7_contentOf_1 16 rfl rfl)
theorem dX7_contentOf_41 : decode cX7_contentOf 41 = .ok (.imul, 1) := dk_104 (dk_at dksX7_contentOf_1 17 rfl rfl)
theorem dX7_contentOf_42 : decode cX7_contentOf 42 = .ok (.aload_n 0, 1) := dk_42 (dk_at dksX7_contentOf_1 18 rfl rfl)
theorem dX7_contentOf_43 : decode cX7_contentOf 43 = .ok (.getfield 80, 3) := dk_180 0 80 (dk_at dksX7_contentOf_1 19 rfl rfl)
theorem dX7_contentOf_46 : decode cX7_contentOf 46 = .ok (.invokestatic 397, 3) := dk_184 1 141 (dk_at dksX7_contentOf_2 0 rfl rfl)
theorem dX7_contentOf_49 : decode cX7_contentOf 49 = .ok (.aload_n 0, 1) := dk_42 (dk_at dksX7_contentOf_2 3 rfl rfl)
theorem dX7_contentOf_50 : decode cX7_contentOf 50 = .ok (.aload_n 2, 1) := dk_44 (dk_at dksX7_contentOf_2 4 rfl rfl)
theorem dX7_contentOf_51 : decode cX7_contentOf 51 = .ok (.aload_n 0, 1) := dk_42 (dk_at dksX7_contentOf_2 5 rfl rfl)
theorem dX7_contentOf_52 : decode cX7_contentOf 52 = .ok (.getfield 80, 3) := dk_180 0 80 (dk_at dksX7_contentOf_2 6 rfl rfl)
theorem dX7_contentOf_55 : decode cX7_contentOf 55 = .ok (.invokevirtual 401, 3) := dk_182 1 145 (dk_at dksX7_contentOf_2 9 rfl rfl)
theorem dX7_contentOf_58 : decode cX7_contentOf 58 = .ok (.iinc 3 1, 3) := dk_132 3 1 (dk_at dksX7_contentOf_2 12 rfl rfl)
theorem dX7_contentOf_61 : decode cX7_contentOf 61 = .ok (.goto (-40), 3) := dk_167 255 216 (dk_at dksX7_contentOf_2 15 rfl rfl)
theorem dX7_contentOf_64 : decode cX7_contentOf 64 = .ok (.return_, 1) := dk_177 (dk_at dksX7_contentOf_2 18 rfl rfl)
abbrev cX7_copies : ByteArray := prog_10_method_91_code
def yX7_copies : MethodName := ⟨RX7, "copies", "([II[I)V"⟩
def dkwX7_copies_0 : List UInt8 := [3, 62, 29, 17, 9, 0, 162, 0, 17, 44, 29, 42, 27, 29, 96, 46, 79, 132, 3, 1, 167, 255, 238, 177]
abbrev dktX7_copies_0 : List UInt8 := dkwX7_copies_0 ++ []
theorem dksX7_copies_0 : cX7_copies.data.toList.drop 0 = dktX7_copies_0 := by decide +kernel
theorem dX7_copies_0 : decode cX7_copies 0 = .ok (.iconst 0, 1) := dk_3 (dk_at dksX7_copies_0 0 rfl rfl)
theorem dX7_copies_1 : decode cX7_copies 1 = .ok (.istore_n 3, 1) := dk_62 (dk_at dksX7_copies_0 1 rfl rfl)
theorem dX7_copies_2 : decode cX7_copies 2 = .ok (.iload_n 3, 1) := dk_29 (dk_at dksX7_copies_0 2 rfl rfl)
theorem dX7_copies_3 : decode cX7_copies 3 = .ok (.sipush 2304, 3) := dk_17 9 0 (dk_at dksX7_copies_0 3 rfl rfl)
theorem dX7_copies_6 : decode cX7_copies 6 = .ok (.if_icmp .ge 17, 3) := dk_162 0 17 (dk_at dksX7_copies_0 6 rfl rfl)
theorem dX7_copies_9 : decode cX7_copies 9 = .ok (.aload_n 2, 1) := dk_44 (dk_at dksX7_copies_0 9 rfl rfl)
theorem dX7_copies_10 : decode cX7_copies 10 = .ok (.iload_n 3, 1) := dk_29 (dk_at dksX7_copies_0 10 rfl rfl)
theorem dX7_copies_11 : decode cX7_copies 11 = .ok (.aload_n 0, 1) := dk_42 (dk_at dksX7_copies_0 11 rfl rfl)
theorem dX7_copies_12 : decode cX7_copies 12 = .ok (.iload_n 1, 1) := dk_27 (dk_at dksX7_copies_0 12 rfl rfl)
theorem dX7_copies_13 : decode cX7_copies 13 = .ok (.iload_n 3, 1) := dk_29 (dk_at dksX7_copies_0 13 rfl rfl)
theorem dX7_copies_14 : decode cX7_copies 14 = .ok (.iadd, 1) := dk_96 (dk_at dksX7_copies_0 14 rfl rfl)
theorem dX7_copies_15 : decode cX7_copies 15 = .ok (.iaload, 1) := dk_46 (dk_at dksX7_copies_0 15 rfl rfl)
theorem dX7_copies_16 : decode cX7_copies 16 = .ok (.iastore, 1) := dk_79 (dk_at dksX7_copies_0 16 rfl rfl)
theorem dX7_copies_17 : decode cX7_copies 17 = .ok (.iinc 3 1, 3) := dk_132 3 1 (dk_at dksX7_copies_0 17 rfl rfl)
theorem dX7_copies_20 : decode cX7_copies 20 = .ok (.goto (-18), 3) := dk_167 255 238 (dk_at dksX7_copies_0 20 rfl rfl)
theorem dX7_copies_23 : decode cX7_copies 23 = .ok (.return_, 1) := dk_177 (dk_at dksX7_copies_0 23 rfl rfl)
abbrev cX7_meets : ByteArray := prog_10_method_95_code
def yX7_meets : MethodName := ⟨RX7, "meets", "([I[I)V"⟩
def dkwX7_meets_4 : List UInt8 := [182, 1, 137, 177]
abbrev dktX7_meets_4 : List UInt8 := dkwX7_meets_4 ++ []
def dkwX7_meets_3 : List UInt8 := [17, 9, 0, 162, 0, 17, 43, 21, 7, 45, 21, 7, 46, 79, 132, 7, 1, 167, 255, 232, 42, 43]
abbrev dktX7_meets_3 : List UInt8 := dkwX7_meets_3 ++ dktX7_meets_4
def dkwX7_meets_2 : List UInt8 := [58, 4, 21, 6, 54, 5, 21, 7, 54, 6, 167, 255, 219, 3, 54, 7, 45, 43, 165, 0, 25, 21, 7]
abbrev dktX7_meets_2 : List UInt8 := dkwX7_meets_2 ++ dktX7_meets_3
def dkwX7_meets_1 : List UInt8 := [159, 0, 37, 42, 45, 21, 5, 25, 4, 21, 6, 182, 1, 133, 54, 7, 45, 58, 8, 25, 4, 78, 25, 8]
abbrev dktX7_meets_1 : List UInt8 := dkwX7_meets_1 ++ dktX7_meets_2
def dkwX7_meets_0 : List UInt8 := [43, 78, 44, 58, 4, 45, 3, 184, 1, 129, 54, 5, 25, 4, 3, 184, 1, 129, 54, 6, 21, 6, 2]
abbrev dktX7_meets_0 : List UInt8 := dkwX7_meets_0 ++ dktX7_meets_1
theorem dksX7_meets_0 : cX7_meets.data.toList.drop 0 = dktX7_meets_0 := by decide +kernel
theorem dksX7_meets_1 : cX7_meets.data.toList.drop 23 = dktX7_meets_1 := dk_seg dksX7_meets_0 23 rfl rfl
theorem dksX7_meets_2 : cX7_meets.data.toList.drop 47 = dktX7_meets_2 := dk_seg dksX7_meets_1 24 rfl rfl
theorem dksX7_meets_3 : cX7_meets.data.toList.drop 70 = dktX7_meets_3 := dk_seg dksX7_meets_2 23 rfl rfl
theorem dksX7_meets_4 : cX7_meets.data.toList.drop 92 = dktX7_meets_4 := dk_seg dksX7_meets_3 22 rfl rfl
theorem dX7_meets_0 : decode cX7_meets 0 = .ok (.aload_n 1, 1) := dk_43 (dk_at dksX7_meets_0 0 rfl rfl)
theorem dX7_meets_1 : decode cX7_meets 1 = .ok (.astore_n 3, 1) := dk_78 (dk_at dksX7_meets_0 1 rfl rfl)
theorem dX7_meets_2 : decode cX7_meets 2 = .ok (.aload_n 2, 1) := dk_44 (dk_at dksX7_meets_0 2 rfl rfl)
theorem dX7_meets_3 : decode cX7_meets 3 = .ok (.astore 4, 2) := dk_58 4 (dk_at dksX7_meets_0 3 rfl rfl)
theorem dX7_meets_5 : decode cX7_meets 5 = .ok (.aload_n 3, 1) := dk_45 (dk_at dksX7_meets_0 5 rfl rfl)
theorem dX7_meets_6 : decode cX7_meets 6 = .ok (.iconst 0, 1) := dk_3 (dk_at dksX7_meets_0 6 rfl rfl)
theorem dX7_meets_7 : decode cX7_meets 7 = .ok (.invokestatic 385, 3) := dk_184 1 129 (dk_at dksX7_meets_0 7 rfl rfl)
theorem dX7_meets_10 : decode cX7_meets 10 = .ok (.istore 5, 2) := dk_54 5 (dk_at dksX7_meets_0 10 rfl rfl)
theorem dX7_meets_12 : decode cX7_meets 12 = .ok (.aload 4, 2) := dk_25 4 (dk_at dksX7_meets_0 12 rfl rfl)
theorem dX7_meets_14 : decode cX7_meets 14 = .ok (.iconst 0, 1) := dk_3 (dk_at dksX7_meets_0 14 rfl rfl)
theorem dX7_meets_15 : decode cX7_meets 15 = .ok (.invokestatic 385, 3) := dk_184 1 129 (dk_at dksX7_meets_0 15 rfl rfl)
theorem dX7_meets_18 : decode cX7_meets 18 = .ok (.istore 6, 2) := dk_54 6 (dk_at dksX7_meets_0 18 rfl rfl)
theorem dX7_meets_20 : decode cX7_meets 20 = .ok (.iload 6, 2) := dk_21 6 (dk_at dksX7_meets_0 20 rfl rfl)
theorem dX7_meets_22 : decode cX7_meets 22 = .ok (.iconst (-1), 1) := dk_2 (dk_at dksX7_meets_0 22 rfl rfl)
theorem dX7_meets_23 : decode cX7_meets 23 = .ok (.if_icmp .eq 37, 3) := dk_159 0 37 (dk_at dksX7_meets_1 0 rfl rfl)
theorem dX7_meets_26 : decode cX7_meets 26 = .ok (.aload_n 0, 1) := dk_42 (dk_at dksX7_meets_1 3 rfl rfl)
theorem dX7_meets_27 : decode cX7_meets 27 = .ok (.aload_n 3, 1) := dk_45 (dk_at dksX7_meets_1 4 rfl rfl)
theorem dX7_meets_28 : decode cX7_meets 28 = .ok (.iload 5, 2) := dk_21 5 (dk_at dksX7_meets_1 5 rfl rfl)
theorem dX7_meets_30 : decode cX7_meets 30 = .ok (.aload 4, 2) := dk_25 4 (dk_at dksX7_meets_1 7 rfl rfl)
theorem dX7_meets_32 : decode cX7_meets 32 = .ok (.iload 6, 2) := dk_21 6 (dk_at dksX7_meets_1 9 rfl rfl)
theorem dX7_meets_34 : decode cX7_meets 34 = .ok (.invokevirtual 389, 3) := dk_182 1 133 (dk_at dksX7_meets_1 11 rfl rfl)
theorem dX7_meets_37 : decode cX7_meets 37 = .ok (.istore 7, 2) := dk_54 7 (dk_at dksX7_meets_1 14 rfl rfl)
theorem dX7_meets_39 : decode cX7_meets 39 = .ok (.aload_n 3, 1) := dk_45 (dk_at dksX7_meets_1 16 rfl rfl)
theorem dX7_meets_40 : decode cX7_meets 40 = .ok (.astore 8, 2) := dk_58 8 (dk_at dksX7_meets_1 17 rfl rfl)
theorem dX7_meets_42 : decode cX7_meets 42 = .ok (.aload 4, 2) := dk_25 4 (dk_at dksX7_meets_1 19 rfl rfl)
theorem dX7_meets_44 : decode cX7_meets 44 = .ok (.astore_n 3, 1) := dk_78 (dk_at dksX7_meets_1 21 rfl rfl)
theorem dX7_meets_45 : decode cX7_meets 45 = .ok (.aload 8, 2) := dk_25 8 (dk_at dksX7_meets_1 22 rfl rfl)
theorem dX7_meets_47 : decode cX7_meets 47 = .ok (.astore 4, 2) := dk_58 4 (dk_at dksX7_meets_2 0 rfl rfl)
theorem dX7_meets_49 : decode cX7_meets 49 = .ok (.iload 6, 2) := dk_21 6 (dk_at dksX7_meets_2 2 rfl rfl)
theorem dX7_meets_51 : decode cX7_meets 51 = .ok (.istore 5, 2) := dk_54 5 (dk_at dksX7_meets_2 4 rfl rfl)
theorem dX7_meets_53 : decode cX7_meets 53 = .ok (.iload 7, 2) := dk_21 7 (dk_at dksX7_meets_2 6 rfl rfl)
theorem dX7_meets_55 : decode cX7_meets 55 = .ok (.istore 6, 2) := dk_54 6 (dk_at dksX7_meets_2 8 rfl rfl)
theorem dX7_meets_57 : decode cX7_meets 57 = .ok (.goto (-37), 3) := dk_167 255 219 (dk_at dksX7_meets_2 10 rfl rfl)
theorem dX7_meets_60 : decode cX7_meets 60 = .ok (.iconst 0, 1) := dk_3 (dk_at dksX7_meets_2 13 rfl rfl)
theorem dX7_meets_61 : decode cX7_meets 61 = .ok (.istore 7, 2) := dk_54 7 (dk_at dksX7_meets_2 14 rfl rfl)
theorem dX7_meets_63 : decode cX7_meets 63 = .ok (.aload_n 3, 1) := dk_45 (dk_at dksX7_meets_2 16 rfl rfl)
theorem dX7_meets_64 : decode cX7_meets 64 = .ok (.aload_n 1, 1) := dk_43 (dk_at dksX7_meets_2 17 rfl rfl)
theorem dX7_meets_65 : decode cX7_meets 65 = .ok (.if_acmp .eq 25, 3) := dk_165 0 25 (dk_at dksX7_meets_2 18 rfl rfl)
theorem dX7_meets_68 : decode cX7_meets 68 = .ok (.iload 7, 2) := dk_21 7 (dk_at dksX7_meets_2 21 rfl rfl)
theorem dX7_meets_70 : decode cX7_meets 70 = .ok (.sipush 2304, 3) := dk_17 9 0 (dk_at dksX7_meets_3 0 rfl rfl)
theorem dX7_meets_73 : decode cX7_meets 73 = .ok (.if_icmp .ge 17, 3) := dk_162 0 17 (dk_at dksX7_meets_3 3 rfl rfl)
theorem dX7_meets_76 : decode cX7_meets 76 = .ok (.aload_n 1, 1) := dk_43 (dk_at dksX7_meets_3 6 rfl rfl)
theorem dX7_meets_77 : decode cX7_meets 77 = .ok (.iload 7, 2) := dk_21 7 (dk_at dksX7_meets_3 7 rfl rfl)
theorem dX7_meets_79 : decode cX7_meets 79 = .ok (.aload_n 3, 1) := dk_45 (dk_at dksX7_meets_3 9 rfl rfl)
theorem dX7_meets_80 : decode cX7_meets 80 = .ok (.iload 7, 2) := dk_21 7 (dk_at dksX7_meets_3 10 rfl rfl)
theorem dX7_meets_82 : decode cX7_meets 82 = .ok (.iaload, 1) := dk_46 (dk_at dksX7_meets_3 12 rfl rfl)
theorem dX7_meets_83 : decode cX7_meets 83 = .ok (.iastore, 1) := dk_79 (dk_at dksX7_meets_3 13 rfl rfl)
theorem dX7_meets_84 : decode cX7_meets 84 = .ok (.iinc 7 1, 3) := dk_132 7 1 (dk_at dksX7_meets_3 14 rfl rfl)
theorem dX7_meets_87 : decode cX7_meets 87 = .ok (.goto (-24), 3) := dk_167 255 232 (dk_at dksX7_meets_3 17 rfl rfl)
theorem dX7_meets_90 : decode cX7_meets 90 = .ok (.aload_n 0, 1) := dk_42 (dk_at dksX7_meets_3 20 rfl rfl)
theorem dX7_meets_91 : decode cX7_meets 91 = .ok (.aload_n 1, 1) := dk_43 (dk_at dksX7_meets_3 21 rfl rfl)
theorem dX7_meets_92 : decode cX7_meets 92 = .ok (.invokevirtual 393, 3) := dk_182 1 137 (dk_at dksX7_meets_4 0 rfl rfl)
theorem dX7_meets_95 : decode cX7_meets 95 = .ok (.return_, 1) := dk_177 (dk_at dksX7_meets_4 3 rfl rfl)
abbrev cX7_leaves : ByteArray := prog_10_method_92_code
def yX7_leaves : MethodName := ⟨RX7, "leaves", "([II[II)I"⟩
def dkwX7_leaves_5 : List UInt8 := [54, 6, 21, 6, 155, 0, 16, 43, 21, 6, 46, 154, 0, 9, 132, 6, 255, 167, 255, 241, 21, 6, 172]
abbrev dktX7_leaves_5 : List UInt8 := dkwX7_leaves_5 ++ []
def dkwX7_leaves_4 : List UInt8 := [167, 255, 208, 132, 6, 255, 167, 255, 170, 28, 21, 4, 162, 0, 7, 28, 167, 0, 7, 21, 4, 4, 100]
abbrev dktX7_leaves_4 : List UInt8 := dkwX7_leaves_4 ++ dktX7_leaves_5
def dkwX7_leaves_3 : List UInt8 := [42, 180, 0, 231, 21, 7, 100, 45, 21, 8, 46, 104, 96, 42, 180, 0, 231, 112, 79, 132, 8, 1]
abbrev dktX7_leaves_3 : List UInt8 := dkwX7_leaves_3 ++ dktX7_leaves_4
def dkwX7_leaves_2 : List UInt8 := [21, 4, 163, 0, 47, 43, 21, 6, 21, 4, 100, 21, 8, 96, 43, 21, 6, 21, 4, 100, 21, 8, 96, 46]
abbrev dktX7_leaves_2 : List UInt8 := dkwX7_leaves_2 ++ dktX7_leaves_3
def dkwX7_leaves_1 : List UInt8 := [21, 5, 104, 42, 180, 0, 231, 112, 54, 7, 21, 7, 154, 0, 6, 167, 0, 57, 3, 54, 8, 21, 8]
abbrev dktX7_leaves_1 : List UInt8 := dkwX7_leaves_1 ++ dktX7_leaves_2
def dkwX7_leaves_0 : List UInt8 := [42, 45, 21, 4, 46, 182, 1, 81, 54, 5, 28, 54, 6, 21, 6, 21, 4, 161, 0, 85, 43, 21, 6, 46]
abbrev dktX7_leaves_0 : List UInt8 := dkwX7_leaves_0 ++ dktX7_leaves_1
theorem dksX7_leaves_0 : cX7_leaves.data.toList.drop 0 = dktX7_leaves_0 := by decide +kernel
theorem dksX7_leaves_1 : cX7_leaves.data.toList.drop 24 = dktX7_leaves_1 := dk_seg dksX7_leaves_0 24 rfl rfl
theorem dksX7_leaves_2 : cX7_leaves.data.toList.drop 47 = dktX7_leaves_2 := dk_seg dksX7_leaves_1 23 rfl rfl
theorem dksX7_leaves_3 : cX7_leaves.data.toList.drop 71 = dktX7_leaves_3 := dk_seg dksX7_leaves_2 24 rfl rfl
theorem dksX7_leaves_4 : cX7_leaves.data.toList.drop 93 = dktX7_leaves_4 := dk_seg dksX7_leaves_3 22 rfl rfl
theorem dksX7_leaves_5 : cX7_leaves.data.toList.drop 116 = dktX7_leaves_5 := dk_seg dksX7_leaves_4 23 rfl rfl
theorem dX7_leaves_0 : decode cX7_leaves 0 = .ok (.aload_n 0, 1) := dk_42 (dk_at dksX7_leaves_0 0 rfl rfl)
theorem dX7_leaves_1 : decode cX7_leaves 1 = .ok (.aload_n 3, 1) := dk_45 (dk_at dksX7_leaves_0 1 rfl rfl)
theorem dX7_leaves_2 : decode cX7_leaves 2 = .ok (.iload 4, 2) := dk_21 4 (dk_at dksX7_leaves_0 2 rfl rfl)
theorem dX7_leaves_4 : decode cX7_leaves 4 = .ok (.iaload, 1) := dk_46 (dk_at dksX7_leaves_0 4 rfl rfl)
theorem dX7_leaves_5 : decode cX7_leaves 5 = .ok (.invokevirtual 337, 3) := dk_182 1 81 (dk_at dksX7_leaves_0 5 rfl rfl)
theorem dX7_leaves_8 : decode cX7_leaves 8 = .ok (.istore 5, 2) := dk_54 5 (dk_at dksX7_leaves_0 8 rfl rfl)
theorem dX7_leaves_10 : decode cX7_leaves 10 = .ok (.iload_n 2, 1) := dk_28 (dk_at dksX7_leaves_0 10 rfl rfl)
theorem dX7_leaves_11 : decode cX7_leaves 11 = .ok (.istore 6, 2) := dk_54 6 (dk_at dksX7_leaves_0 11 rfl rfl)
theorem dX7_leaves_13 : decode cX7_leaves 13 = .ok (.iload 6, 2) := dk_21 6 (dk_at dksX7_leaves_0 13 rfl rfl)
theorem dX7_leaves_15 : decode cX7_leaves 15 = .ok (.iload 4, 2) := dk_21 4 (dk_at dksX7_leaves_0 15 rfl rfl)
theorem dX7_leaves_17 : decode cX7_leaves 17 = .ok (.if_icmp .lt 85, 3) := dk_161 0 85 (dk_at dksX7_leaves_0 17 rfl rfl)
theorem dX7_leaves_20 : decode cX7_leaves 20 = .ok (.aload_n 1, 1) := dk_43 (dk_at dksX7_leaves_0 20 rfl rfl)
theorem dX7_leaves_21 : decode cX7_leaves 21 = .ok (.iload 6, 2) := dk_21 6 (dk_at dksX7_leaves_0 21 rfl rfl)
theorem dX7_leaves_23 : decode cX7_leaves 23 = .ok (.iaload, 1) := dk_46 (dk_at dksX7_leaves_0 23 rfl rfl)
theorem dX7_leaves_24 : decode cX7_leaves 24 = .ok (.iload 5, 2) := dk_21 5 (dk_at dksX7_leaves_1 0 rfl rfl)
theorem dX7_leaves_26 : decode cX7_leaves 26 = .ok (.imul, 1) := dk_104 (dk_at dksX7_leaves_1 2 rfl rfl)
theorem dX7_leaves_27 : decode cX7_leaves 27 = .ok (.aload_n 0, 1) := dk_42 (dk_at dksX7_leaves_1 3 rfl rfl)
theorem dX7_leaves_28 : decode cX7_leaves 28 = .ok (.getfield 231, 3) := dk_180 0 231 (dk_at dksX7_leaves_1 4 rfl rfl)
theorem dX7_leaves_31 : decode cX7_leaves 31 = .ok (.irem, 1) := dk_112 (dk_at dksX7_leaves_1 7 rfl rfl)
theorem dX7_leaves_32 : decode cX7_leaves 32 = .ok (.istore 7, 2) := dk_54 7 (dk_at dksX7_leaves_1 8 rfl rfl)
theorem dX7_leaves_34 : decode cX7_leaves 34 = .ok (.iload 7, 2) := dk_21 7 (dk_at dksX7_leaves_1 10 rfl rfl)
theorem dX7_leaves_36 : decode cX7_leaves 36 = .ok (.ifCond .ne 6, 3) := dk_154 0 6 (dk_at dksX7_leaves_1 12 rfl rfl)
theorem dX7_leaves_39 : decode cX7_leaves 39 = .ok (.goto 57, 3) := dk_167 0 57 (dk_at dksX7_leaves_1 15 rfl rfl)
theorem dX7_leaves_42 : decode cX7_leaves 42 = .ok (.iconst 0, 1) := dk_3 (dk_at dksX7_leaves_1 18 rfl rfl)
theorem dX7_leaves_43 : decode cX7_leaves 43 = .ok (.istore 8, 2) := dk_54 8 (dk_at dksX7_leaves_1 19 rfl rfl)
theorem dX7_leaves_45 : decode cX7_leaves 45 = .ok (.iload 8, 2) := dk_21 8 (dk_at dksX7_leaves_1 21 rfl rfl)
theorem dX7_leaves_47 : decode cX7_leaves 47 = .ok (.iload 4, 2) := dk_21 4 (dk_at dksX7_leaves_2 0 rfl rfl)
theorem dX7_leaves_49 : decode cX7_leaves 49 = .ok (.if_icmp .gt 47, 3) := dk_163 0 47 (dk_at dksX7_leaves_2 2 rfl rfl)
theorem dX7_leaves_52 : decode cX7_leaves 52 = .ok (.aload_n 1, 1) := dk_43 (dk_at dksX7_leaves_2 5 rfl rfl)
theorem dX7_leaves_53 : decode cX7_leaves 53 = .ok (.iload 6, 2) := dk_21 6 (dk_at dksX7_leaves_2 6 rfl rfl)
theorem dX7_leaves_55 : decode cX7_leaves 55 = .ok (.iload 4, 2) := dk_21 4 (dk_at dksX7_leaves_2 8 rfl rfl)
theorem dX7_leaves_57 : decode cX7_leaves 57 = .ok (.isub, 1) := dk_100 (dk_at dksX7_leaves_2 10 rfl rfl)
theorem dX7_leaves_58 : decode cX7_leaves 58 = .ok (.iload 8, 2) := dk_21 8 (dk_at dksX7_leaves_2 11 rfl rfl)
theorem dX7_leaves_60 : decode cX7_leaves 60 = .ok (.iadd, 1) := dk_96 (dk_at dksX7_leaves_2 13 rfl rfl)
theorem dX7_leaves_61 : decode cX7_leaves 61 = .ok (.aload_n 1, 1) := dk_43 (dk_at dksX7_leaves_2 14 rfl rfl)
theorem dX7_leaves_62 : decode cX7_leaves 62 = .ok (.iload 6, 2) := dk_21 6 (dk_at dksX7_leaves_2 15 rfl rfl)
theorem dX7_leaves_64 : decode cX7_leaves 64 = .ok (.iload 4, 2) := dk_21 4 (dk_at dksX7_leaves_2 17 rfl rfl)
theorem dX7_leaves_66 : decode cX7_leaves 66 = .ok (.isub, 1) := dk_100 (dk_at dksX7_leaves_2 19 rfl rfl)
theorem dX7_leaves_67 : decode cX7_leaves 67 = .ok (.iload 8, 2) := dk_21 8 (dk_at dksX7_leaves_2 20 rfl rfl)
theorem dX7_leaves_69 : decode cX7_leaves 69 = .ok (.iadd, 1) := dk_96 (dk_at dksX7_leaves_2 22 rfl rfl)
theorem dX7_leaves_70 : decode cX7_leaves 70 = .ok (.iaload, 1) := dk_46 (dk_at dksX7_leaves_2 23 rfl rfl)
theorem dX7_leaves_71 : decode cX7_leaves 71 = .ok (.aload_n 0, 1) := dk_42 (dk_at dksX7_leaves_3 0 rfl rfl)
theorem dX7_leaves_72 : decode cX7_leaves 72 = .ok (.getfield 231, 3) := dk_180 0 231 (dk_at dksX7_leaves_3 1 rfl rfl)
theorem dX7_leaves_75 : decode cX7_leaves 75 = .ok (.iload 7, 2) := dk_21 7 (dk_at dksX7_leaves_3 4 rfl rfl)
theorem dX7_leaves_77 : decode cX7_leaves 77 = .ok (.isub, 1) := dk_100 (dk_at dksX7_leaves_3 6 rfl rfl)
theorem dX7_leaves_78 : decode cX7_leaves 78 = .ok (.aload_n 3, 1) := dk_45 (dk_at dksX7_leaves_3 7 rfl rfl)
theorem dX7_leaves_79 : decode cX7_leaves 79 = .ok (.iload 8, 2) := dk_21 8 (dk_at dksX7_leaves_3 8 rfl rfl)
theorem dX7_leaves_81 : decode cX7_leaves 81 = .ok (.iaload, 1) := dk_46 (dk_at dksX7_leaves_3 10 rfl rfl)
theorem dX7_leaves_82 : decode cX7_leaves 82 = .ok (.imul, 1) := dk_104 (dk_at dksX7_leaves_3 11 rfl rfl)
theorem dX7_leaves_83 : decode cX7_leaves 83 = .ok (.iadd, 1) := dk_96 (dk_at dksX7_leaves_3 12 rfl rfl)
theorem dX7_leaves_84 : decode cX7_leaves 84 = .ok (.aload_n 0, 1) := dk_42 (dk_at dksX7_leaves_3 13 rfl rfl)
theorem dX7_leaves_85 : decode cX7_leaves 85 = .ok (.getfield 231, 3) := dk_180 0 231 (dk_at dksX7_leaves_3 14 rfl rfl)
theorem dX7_leaves_88 : decode cX7_leaves 88 = .ok (.irem, 1) := dk_112 (dk_at dksX7_leaves_3 17 rfl rfl)
theorem dX7_leaves_89 : decode cX7_leaves 89 = .ok (.iastore, 1) := dk_79 (dk_at dksX7_leaves_3 18 rfl rfl)
theorem dX7_leaves_90 : decode cX7_leaves 90 = .ok (.iinc 8 1, 3) := dk_132 8 1 (dk_at dksX7_leaves_3 19 rfl rfl)
theorem dX7_leaves_93 : decode cX7_leaves 93 = .ok (.goto (-48), 3) := dk_167 255 208 (dk_at dksX7_leaves_4 0 rfl rfl)
theorem dX7_leaves_96 : decode cX7_leaves 96 = .ok (.iinc 6 (-1), 3) := dk_132 6 255 (dk_at dksX7_leaves_4 3 rfl rfl)
theorem dX7_leaves_99 : decode cX7_leaves 99 = .ok (.goto (-86), 3) := dk_167 255 170 (dk_at dksX7_leaves_4 6 rfl rfl)
theorem dX7_leaves_102 : decode cX7_leaves 102 = .ok (.iload_n 2, 1) := dk_28 (dk_at dksX7_leaves_4 9 rfl rfl)
theorem dX7_leaves_103 : decode cX7_leaves 103 = .ok (.iload 4, 2) := dk_21 4 (dk_at dksX7_leaves_4 10 rfl rfl)
theorem dX7_leaves_105 : decode cX7_leaves 105 = .ok (.if_icmp .ge 7, 3) := dk_162 0 7 (dk_at dksX7_leaves_4 12 rfl rfl)
theorem dX7_leaves_108 : decode cX7_leaves 108 = .ok (.iload_n 2, 1) := dk_28 (dk_at dksX7_leaves_4 15 rfl rfl)
theorem dX7_leaves_109 : decode cX7_leaves 109 = .ok (.goto 7, 3) := dk_167 0 7 (dk_at dksX7_leaves_4 16 rfl rfl)
theorem dX7_leaves_112 : decode cX7_leaves 112 = .ok (.iload 4, 2) := dk_21 4 (dk_at dksX7_leaves_4 19 rfl rfl)
theorem dX7_leaves_114 : decode cX7_leaves 114 = .ok (.iconst 1, 1) := dk_4 (dk_at dksX7_leaves_4 21 rfl rfl)
theorem dX7_leaves_115 : decode cX7_leaves 115 = .ok (.isub, 1) := dk_100 (dk_at dksX7_leaves_4 22 rfl rfl)
theorem dX7_leaves_116 : decode cX7_leaves 116 = .ok (.istore 6, 2) := dk_54 6 (dk_at dksX7_leaves_5 0 rfl rfl)
theorem dX7_leaves_118 : decode cX7_leaves 118 = .ok (.iload 6, 2) := dk_21 6 (dk_at dksX7_leaves_5 2 rfl rfl)
theorem dX7_leaves_120 : decode cX7_leaves 120 = .ok (.ifCond .lt 16, 3) := dk_155 0 16 (dk_at dksX7_leaves_5 4 rfl rfl)
theorem dX7_leaves_123 : decode cX7_leaves 123 = .ok (.aload_n 1, 1) := dk_43 (dk_at dksX7_leaves_5 7 rfl rfl)
theorem dX7_leaves_124 : decode cX7_leaves 124 = .ok (.iload 6, 2) := dk_21 6 (dk_at dksX7_leaves_5 8 rfl rfl)
theorem dX7_leaves_126 : decode cX7_leaves 126 = .ok (.iaload, 1) := dk_46 (dk_at dksX7_leaves_5 10 rfl rfl)
theorem dX7_leaves_127 : decode cX7_leaves 127 = .ok (.ifCond .ne 9, 3) := dk_154 0 9 (dk_at dksX7_leaves_5 11 rfl rfl)
theorem dX7_leaves_130 : decode cX7_leaves 130 = .ok (.iinc 6 (-1), 3) := dk_132 6 255 (dk_at dksX7_leaves_5 14 rfl rfl)
theorem dX7_leaves_133 : decode cX7_leaves 133 = .ok (.goto (-15), 3) := dk_167 255 241 (dk_at dksX7_leaves_5 17 rfl rfl)
theorem dX7_leaves_136 : decode cX7_leaves 136 = .ok (.iload 6, 2) := dk_21 6 (dk_at dksX7_leaves_5 20 rfl rfl)
theorem dX7_leaves_138 : decode cX7_leaves 138 = .ok (.ireturn, 1) := dk_172 (dk_at dksX7_leaves_5 22 rfl rfl)
abbrev cX7_monics : ByteArray := prog_10_method_94_code
def yX7_monics : MethodName := ⟨RX7, "monics", "([I)V"⟩
def dkwX7_monics_2 : List UInt8 := [167, 255, 232, 177]
abbrev dktX7_monics_2 : List UInt8 := dkwX7_monics_2 ++ []
def dkwX7_monics_1 : List UInt8 := [21, 4, 28, 163, 0, 24, 43, 21, 4, 43, 21, 4, 46, 29, 104, 42, 180, 0, 231, 112, 79, 132, 4, 1]
abbrev dktX7_monics_1 : List UInt8 := dkwX7_monics_1 ++ dktX7_monics_2
def dkwX7_monics_0 : List UInt8 := [43, 3, 184, 1, 129, 61, 28, 2, 160, 0, 4, 177, 42, 43, 28, 46, 182, 1, 81, 62, 3, 54, 4]
abbrev dktX7_monics_0 : List UInt8 := dkwX7_monics_0 ++ dktX7_monics_1
theorem dksX7_monics_0 : cX7_monics.data.toList.drop 0 = dktX7_monics_0 := by decide +kernel
theorem dksX7_monics_1 : cX7_monics.data.toList.drop 23 = dktX7_monics_1 := dk_seg dksX7_monics_0 23 rfl rfl
theorem dksX7_monics_2 : cX7_monics.data.toList.drop 47 = dktX7_monics_2 := dk_seg dksX7_monics_1 24 rfl rfl
theorem dX7_monics_0 : decode cX7_monics 0 = .ok (.aload_n 1, 1) := dk_43 (dk_at dksX7_monics_0 0 rfl rfl)
theorem dX7_monics_1 : decode cX7_monics 1 = .ok (.iconst 0, 1) := dk_3 (dk_at dksX7_monics_0 1 rfl rfl)
theorem dX7_monics_2 : decode cX7_monics 2 = .ok (.invokestatic 385, 3) := dk_184 1 129 (dk_at dksX7_monics_0 2 rfl rfl)
theorem dX7_monics_5 : decode cX7_monics 5 = .ok (.istore_n 2, 1) := dk_61 (dk_at dksX7_monics_0 5 rfl rfl)
theorem dX7_monics_6 : decode cX7_monics 6 = .ok (.iload_n 2, 1) := dk_28 (dk_at dksX7_monics_0 6 rfl rfl)
theorem dX7_monics_7 : decode cX7_monics 7 = .ok (.iconst (-1), 1) := dk_2 (dk_at dksX7_monics_0 7 rfl rfl)
theorem dX7_monics_8 : decode cX7_monics 8 = .ok (.if_icmp .ne 4, 3) := dk_160 0 4 (dk_at dksX7_monics_0 8 rfl rfl)
theorem dX7_monics_11 : decode cX7_monics 11 = .ok (.return_, 1) := dk_177 (dk_at dksX7_monics_0 11 rfl rfl)
theorem dX7_monics_12 : decode cX7_monics 12 = .ok (.aload_n 0, 1) := dk_42 (dk_at dksX7_monics_0 12 rfl rfl)
theorem dX7_monics_13 : decode cX7_monics 13 = .ok (.aload_n 1, 1) := dk_43 (dk_at dksX7_monics_0 13 rfl rfl)
theorem dX7_monics_14 : decode cX7_monics 14 = .ok (.iload_n 2, 1) := dk_28 (dk_at dksX7_monics_0 14 rfl rfl)
theorem dX7_monics_15 : decode cX7_monics 15 = .ok (.iaload, 1) := dk_46 (dk_at dksX7_monics_0 15 rfl rfl)
theorem dX7_monics_16 : decode cX7_monics 16 = .ok (.invokevirtual 337, 3) := dk_182 1 81 (dk_at dksX7_monics_0 16 rfl rfl)
theorem dX7_monics_19 : decode cX7_monics 19 = .ok (.istore_n 3, 1) := dk_62 (dk_at dksX7_monics_0 19 rfl rfl)
theorem dX7_monics_20 : decode cX7_monics 20 = .ok (.iconst 0, 1) := dk_3 (dk_at dksX7_monics_0 20 rfl rfl)
theorem dX7_monics_21 : decode cX7_monics 21 = .ok (.istore 4, 2) := dk_54 4 (dk_at dksX7_monics_0 21 rfl rfl)
theorem dX7_monics_23 : decode cX7_monics 23 = .ok (.iload 4, 2) := dk_21 4 (dk_at dksX7_monics_1 0 rfl rfl)
theorem dX7_monics_25 : decode cX7_monics 25 = .ok (.iload_n 2, 1) := dk_28 (dk_at dksX7_monics_1 2 rfl rfl)
theorem dX7_monics_26 : decode cX7_monics 26 = .ok (.if_icmp .gt 24, 3) := dk_163 0 24 (dk_at dksX7_monics_1 3 rfl rfl)
theorem dX7_monics_29 : decode cX7_monics 29 = .ok (.aload_n 1, 1) := dk_43 (dk_at dksX7_monics_1 6 rfl rfl)
theorem dX7_monics_30 : decode cX7_monics 30 = .ok (.iload 4, 2) := dk_21 4 (dk_at dksX7_monics_1 7 rfl rfl)
theorem dX7_monics_32 : decode cX7_monics 32 = .ok (.aload_n 1, 1) := dk_43 (dk_at dksX7_monics_1 9 rfl rfl)
theorem dX7_monics_33 : decode cX7_monics 33 = .ok (.iload 4, 2) := dk_21 4 (dk_at dksX7_monics_1 10 rfl rfl)
theorem dX7_monics_35 : decode cX7_monics 35 = .ok (.iaload, 1) := dk_46 (dk_at dksX7_monics_1 12 rfl rfl)
theorem dX7_monics_36 : decode cX7_monics 36 = .ok (.iload_n 3, 1) := dk_29 (dk_at dksX7_monics_1 13 rfl rfl)
theorem dX7_monics_37 : decode cX7_monics 37 = .ok (.imul, 1) := dk_104 (dk_at dksX7_monics_1 14 rfl rfl)
theorem dX7_monics_38 : decode cX7_monics 38 = .ok (.aload_n 0, 1) := dk_42 (dk_at dksX7_monics_1 15 rfl rfl)
theorem dX7_monics_39 : decode cX7_monics 39 = .ok (.getfield 231, 3) := dk_180 0 231 (dk_at dksX7_monics_1 16 rfl rfl)
theorem dX7_monics_42 : decode cX7_monics 42 = .ok (.irem, 1) := dk_112 (dk_at dksX7_monics_1 19 rfl rfl)
theorem dX7_monics_43 : decode cX7_monics 43 = .ok (.iastore, 1) := dk_79 (dk_at dksX7_monics_1 20 rfl rfl)
theorem dX7_monics_44 : decode cX7_monics 44 = .ok (.iinc 4 1, 3) := dk_132 4 1 (dk_at dksX7_monics_1 21 rfl rfl)
theorem dX7_monics_47 : decode cX7_monics 47 = .ok (.goto (-24), 3) := dk_167 255 232 (dk_at dksX7_monics_2 0 rfl rfl)
theorem dX7_monics_50 : decode cX7_monics 50 = .ok (.return_, 1) := dk_177 (dk_at dksX7_monics_2 3 rfl rfl)
abbrev cX7_primitives : ByteArray := prog_10_method_97_code
def yX7_primitives : MethodName := ⟨RX7, "primitives", "([I)V"⟩
def dkwX7_primitives_3 : List UInt8 := [28, 104, 29, 96, 42, 180, 0, 83, 29, 46, 79, 132, 3, 1, 167, 255, 231, 132, 2, 1, 167, 255, 188, 177]
abbrev dktX7_primitives_3 : List UInt8 := dkwX7_primitives_3 ++ []
def dkwX7_primitives_2 : List UInt8 := [42, 180, 0, 74, 42, 180, 0, 83, 182, 1, 152, 3, 62, 29, 17, 9, 0, 162, 0, 24, 43, 17, 9, 0]
abbrev dktX7_primitives_2 : List UInt8 := dkwX7_primitives_2 ++ dktX7_primitives_3
def dkwX7_primitives_1 : List UInt8 := [28, 16, 16, 162, 0, 68, 43, 17, 9, 0, 28, 104, 42, 180, 0, 77, 184, 1, 141, 42, 42, 180, 0, 77]
abbrev dktX7_primitives_1 : List UInt8 := dkwX7_primitives_1 ++ dktX7_primitives_2
def dkwX7_primitives_0 : List UInt8 := [42, 43, 42, 180, 0, 74, 182, 1, 149, 42, 180, 0, 74, 3, 184, 1, 129, 4, 162, 0, 4, 177, 3, 61]
abbrev dktX7_primitives_0 : List UInt8 := dkwX7_primitives_0 ++ dktX7_primitives_1
theorem dksX7_primitives_0 : cX7_primitives.data.toList.drop 0 = dktX7_primitives_0 := by decide +kernel
theorem dksX7_primitives_1 : cX7_primitives.data.toList.drop 24 = dktX7_primitives_1 := dk_seg dksX7_primitives_0 24 rfl rfl
theorem dksX7_primitives_2 : cX7_primitives.data.toList.drop 48 = dktX7_primitives_2 := dk_seg dksX7_primitives_1 24 rfl rfl
theorem dksX7_primitives_3 : cX7_primitives.data.toList.drop 72 = dktX7_primitives_3 := dk_seg dksX7_primitives_2 24 rfl rfl
theorem dX7_primitives_0 : decode cX7_primitives 0 = .ok (.aload_n 0, 1) := dk_42 (dk_at dksX7_primitives_0 0 rfl rfl)
theorem dX7_primitives_1 : decode cX7_primitives 1 = .ok (.aload_n 1, 1) := dk_43 (dk_at dksX7_primitives_0 1 rfl rfl)
theorem dX7_primitives_2 : decode cX7_primitives 2 = .ok (.aload_n 0, 1) := dk_42 (dk_at dksX7_primitives_0 2 rfl rfl)
theorem dX7_primitives_3 : decode cX7_primitives 3 = .ok (.getfield 74, 3) := dk_180 0 74 (dk_at dksX7_primitives_0 3 rfl rfl)
theorem dX7_primitives_6 : decode cX7_primitives 6 = .ok (.invokevirtual 405, 3) := dk_182 1 149 (dk_at dksX7_primitives_0 6 rfl rfl)
theorem dX7_primitives_9 : decode cX7_primitives 9 = .ok (.aload_n 0, 1) := dk_42 (dk_at dksX7_primitives_0 9 rfl rfl)
theorem dX7_primitives_10 : decode cX7_primitives 10 = .ok (.getfield 74, 3) := dk_180 0 74 (dk_at dksX7_primitives_0 10 rfl rfl)
theorem dX7_primitives_13 : decode cX7_primitives 13 = .ok (.iconst 0, 1) := dk_3 (dk_at dksX7_primitives_0 13 rfl rfl)
theorem dX7_primitives_14 : decode cX7_primitives 14 = .ok (.invokestatic 385, 3) := dk_184 1 129 (dk_at dksX7_primitives_0 14 rfl rfl)
theorem dX7_primitives_17 : decode cX7_primitives 17 = .ok (.iconst 1, 1) := dk_4 (dk_at dksX7_primitives_0 17 rfl rfl)
theorem dX7_primitives_18 : decode cX7_primitives 18 = .ok (.if_icmp .ge 4, 3) := dk_162 0 4 (dk_at dksX7_primitives_0 18 rfl rfl)
theorem dX7_primitives_21 : decode cX7_primitives 21 = .ok (.return_, 1) := dk_177 (dk_at dksX7_primitives_0 21 rfl rfl)
theorem dX7_primitives_22 : decode cX7_primitives 22 = .ok (.iconst 0, 1) := dk_3 (dk_at dksX7_primitives_0 22 rfl rfl)
theorem dX7_primitives_23 : decode cX7_primitives 23 = .ok (.istore_n 2, 1) := dk_61 (dk_at dksX7_primitives_0 23 rfl rfl)
theorem dX7_primitives_24 : decode cX7_primitives 24 = .ok (.iload_n 2, 1) := dk_28 (dk_at dksX7_primitives_1 0 rfl rfl)
theorem dX7_primitives_25 : decode cX7_primitives 25 = .ok (.bipush 16, 2) := dk_16 16 (dk_at dksX7_primitives_1 1 rfl rfl)
theorem dX7_primitives_27 : decode cX7_primitives 27 = .ok (.if_icmp .ge 68, 3) := dk_162 0 68 (dk_at dksX7_primitives_1 3 rfl rfl)
theorem dX7_primitives_30 : decode cX7_primitives 30 = .ok (.aload_n 1, 1) := dk_43 (dk_at dksX7_primitives_1 6 rfl rfl)
theorem dX7_primitives_31 : decode cX7_primitives 31 = .ok (.sipush 2304, 3) := dk_17 9 0 (dk_at dksX7_primitives_1 7 rfl rfl)
theorem dX7_primitives_34 : decode cX7_primitives 34 = .ok (.iload_n 2, 1) := dk_28 (dk_at dksX7_primitives_1 10 rfl rfl)
theorem dX7_primitives_35 : decode cX7_primitives 35 = .ok (.imul, 1) := dk_104 (dk_at dksX7_primitives_1 11 rfl rfl)
theorem dX7_primitives_36 : decode cX7_primitives 36 = .ok (.aload_n 0, 1) := dk_42 (dk_at dksX7_primitives_1 12 rfl rfl)
theorem dX7_primitives_37 : decode cX7_primitives 37 = .ok (.getfield 77, 3) := dk_180 0 77 (dk_at dksX7_primitives_1 13 rfl rfl)
theorem dX7_primitives_40 : decode cX7_primitives 40 = .ok (.invokestatic 397, 3) := dk_184 1 141 (dk_at dksX7_primitives_1 16 rfl rfl)
theorem dX7_primitives_43 : decode cX7_primitives 43 = .ok (.aload_n 0, 1) := dk_42 (dk_at dksX7_primitives_1 19 rfl rfl)
theorem dX7_primitives_44 : decode cX7_primitives 44 = .ok (.aload_n 0, 1) := dk_42 (dk_at dksX7_primitives_1 20 rfl rfl)
theorem dX7_primitives_45 : decode cX7_primitives 45 = .ok (.getfield 77, 3) := dk_180 0 77 (dk_at dksX7_primitives_1 21 rfl rfl)
theorem dX7_primitives_48 : decode cX7_primitives 48 = .ok (.aload_n 0, 1) := dk_42 (dk_at dksX7_primitives_2 0 rfl rfl)
theorem dX7_primitives_49 : decode cX7_primitives 49 = .ok (.getfield 74, 3) := dk_180 0 74 (dk_at dksX7_primitives_2 1 rfl rfl)
theorem dX7_primitives_52 : decode cX7_primitives 52 = .ok (.aload_n 0, 1) := dk_42 (dk_at dksX7_primitives_2 4 rfl rfl)
theorem dX7_primitives_53 : decode cX7_primitives 53 = .ok (.getfield 83, 3) := dk_180 0 83 (dk_at dksX7_primitives_2 5 rfl rfl)
theorem dX7_primitives_56 : decode cX7_primitives 56 = .ok (.invokevirtual 408, 3) := dk_182 1 152 (dk_at dksX7_primitives_2 8 rfl rfl)
theorem dX7_primitives_59 : decode cX7_primitives 59 = .ok (.iconst 0, 1) := dk_3 (dk_at dksX7_primitives_2 11 rfl rfl)
theorem dX7_primitives_60 : decode cX7_primitives 60 = .ok (.istore_n 3, 1) := dk_62 (dk_at dksX7_primitives_2 12 rfl rfl)
theorem dX7_primitives_61 : decode cX7_primitives 61 = .ok (.iload_n 3, 1) := dk_29 (dk_at dksX7_primitives_2 13 rfl rfl)
theorem dX7_primitives_62 : decode cX7_primitives 62 = .ok (.sipush 2304, 3) := dk_17 9 0 (dk_at dksX7_primitives_2 14 rfl rfl)
theorem dX7_primitives_65 : decode cX7_primitives 65 = .ok (.if_icmp .ge 24, 3) := dk_162 0 24 (dk_at dksX7_primitives_2 17 rfl rfl)
theorem dX7_primitives_68 : decode cX7_primitives 68 = .ok (.aload_n 1, 1) := dk_43 (dk_at dksX7_primitives_2 20 rfl rfl)
theorem dX7_primitives_69 : decode cX7_primitives 69 = .ok (.sipush 2304, 3) := dk_17 9 0 (dk_at dksX7_primitives_2 21 rfl rfl)
theorem dX7_primitives_72 : decode cX7_primitives 72 = .ok (.iload_n 2, 1) := dk_28 (dk_at dksX7_primitives_3 0 rfl rfl)
theorem dX7_primitives_73 : decode cX7_primitives 73 = .ok (.imul, 1) := dk_104 (dk_at dksX7_primitives_3 1 rfl rfl)
theorem dX7_primitives_74 : decode cX7_primitives 74 = .ok (.iload_n 3, 1) := dk_29 (dk_at dksX7_primitives_3 2 rfl rfl)
theorem dX7_primitives_75 : decode cX7_primitives 75 = .ok (.iadd, 1) := dk_96 (dk_at dksX7_primitives_3 3 rfl rfl)
theorem dX7_primitives_76 : decode cX7_primitives 76 = .ok (.aload_n 0, 1) := dk_42 (dk_at dksX7_primitives_3 4 rfl rfl)
theorem dX7_primitives_77 : decode cX7_primitives 77 = .ok (.getfield 83, 3) := dk_180 0 83 (dk_at dksX7_primitives_3 5 rfl rfl)
theorem dX7_primitives_80 : decode cX7_primitives 80 = .ok (.iload_n 3, 1) := dk_29 (dk_at dksX7_primitives_3 8 rfl rfl)
theorem dX7_primitives_81 : decode cX7_primitives 81 = .ok (.iaload, 1) := dk_46 (dk_at dksX7_primitives_3 9 rfl rfl)
theorem dX7_primitives_82 : decode cX7_primitives 82 = .ok (.iastore, 1) := dk_79 (dk_at dksX7_primitives_3 10 rfl rfl)
theorem dX7_primitives_83 : decode cX7_primitives 83 = .ok (.iinc 3 1, 3) := dk_132 3 1 (dk_at dksX7_primitives_3 11 rfl rfl)
theorem dX7_primitives_86 : decode cX7_primitives 86 = .ok (.goto (-25), 3) := dk_167 255 231 (dk_at dksX7_primitives_3 14 rfl rfl)
theorem dX7_primitives_89 : decode cX7_primitives 89 = .ok (.iinc 2 1, 3) := dk_132 2 1 (dk_at dksX7_primitives_3 17 rfl rfl)
theorem dX7_primitives_92 : decode cX7_primitives 92 = .ok (.goto (-68), 3) := dk_167 255 188 (dk_at dksX7_primitives_3 20 rfl rfl)
theorem dX7_primitives_95 : decode cX7_primitives 95 = .ok (.return_, 1) := dk_177 (dk_at dksX7_primitives_3 23 rfl rfl)
abbrev cX7_goesBy : ByteArray := prog_10_method_93_code
def yX7_goesBy : MethodName := ⟨RX7, "goesBy", "([I[I[I)V"⟩
def dkwX7_goesBy_6 : List UInt8 := [132, 6, 255, 167, 255, 161, 177]
abbrev dktX7_goesBy_6 : List UInt8 := dkwX7_goesBy_6 ++ []
def dkwX7_goesBy_5 : List UInt8 := [180, 0, 231, 21, 7, 100, 44, 21, 8, 46, 104, 96, 42, 180, 0, 231, 112, 79, 132, 8, 1, 167, 255, 208]
abbrev dktX7_goesBy_5 : List UInt8 := dkwX7_goesBy_5 ++ dktX7_goesBy_6
def dkwX7_goesBy_4 : List UInt8 := [163, 0, 47, 43, 21, 6, 21, 4, 100, 21, 8, 96, 43, 21, 6, 21, 4, 100, 21, 8, 96, 46, 42]
abbrev dktX7_goesBy_4 : List UInt8 := dkwX7_goesBy_4 ++ dktX7_goesBy_5
def dkwX7_goesBy_3 : List UInt8 := [154, 0, 6, 167, 0, 66, 45, 21, 6, 21, 4, 100, 21, 7, 79, 3, 54, 8, 21, 8, 21, 4]
abbrev dktX7_goesBy_3 : List UInt8 := dkwX7_goesBy_3 ++ dktX7_goesBy_4
def dkwX7_goesBy_2 : List UInt8 := [21, 6, 21, 4, 161, 0, 94, 43, 21, 6, 46, 21, 5, 104, 42, 180, 0, 231, 112, 54, 7, 21, 7]
abbrev dktX7_goesBy_2 : List UInt8 := dkwX7_goesBy_2 ++ dktX7_goesBy_3
def dkwX7_goesBy_1 : List UInt8 := [17, 9, 0, 162, 0, 14, 45, 21, 6, 3, 79, 132, 6, 1, 167, 255, 240, 43, 3, 184, 1, 129, 54, 6]
abbrev dktX7_goesBy_1 : List UInt8 := dkwX7_goesBy_1 ++ dktX7_goesBy_2
def dkwX7_goesBy_0 : List UInt8 := [44, 3, 184, 1, 129, 54, 4, 42, 44, 21, 4, 46, 182, 1, 81, 54, 5, 3, 54, 6, 21, 6]
abbrev dktX7_goesBy_0 : List UInt8 := dkwX7_goesBy_0 ++ dktX7_goesBy_1
theorem dksX7_goesBy_0 : cX7_goesBy.data.toList.drop 0 = dktX7_goesBy_0 := by decide +kernel
theorem dksX7_goesBy_1 : cX7_goesBy.data.toList.drop 22 = dktX7_goesBy_1 := dk_seg dksX7_goesBy_0 22 rfl rfl
theorem dksX7_goesBy_2 : cX7_goesBy.data.toList.drop 46 = dktX7_goesBy_2 := dk_seg dksX7_goesBy_1 24 rfl rfl
theorem dksX7_goesBy_3 : cX7_goesBy.data.toList.drop 69 = dktX7_goesBy_3 := dk_seg dksX7_goesBy_2 23 rfl rfl
theorem dksX7_goesBy_4 : cX7_goesBy.data.toList.drop 91 = dktX7_goesBy_4 := dk_seg dksX7_goesBy_3 22 rfl rfl
theorem dksX7_goesBy_5 : cX7_goesBy.data.toList.drop 114 = dktX7_goesBy_5 := dk_seg dksX7_goesBy_4 23 rfl rfl
theorem dksX7_goesBy_6 : cX7_goesBy.data.toList.drop 138 = dktX7_goesBy_6 := dk_seg dksX7_goesBy_5 24 rfl rfl
theorem dX7_goesBy_0 : decode cX7_goesBy 0 = .ok (.aload_n 2, 1) := dk_44 (dk_at dksX7_goesBy_0 0 rfl rfl)
theorem dX7_goesBy_1 : decode cX7_goesBy 1 = .ok (.iconst 0, 1) := dk_3 (dk_at dksX7_goesBy_0 1 rfl rfl)
theorem dX7_goesBy_2 : decode cX7_goesBy 2 = .ok (.invokestatic 385, 3) := dk_184 1 129 (dk_at dksX7_goesBy_0 2 rfl rfl)
theorem dX7_goesBy_5 : decode cX7_goesBy 5 = .ok (.istore 4, 2) := dk_54 4 (dk_at dksX7_goesBy_0 5 rfl rfl)
theorem dX7_goesBy_7 : decode cX7_goesBy 7 = .ok (.aload_n 0, 1) := dk_42 (dk_at dksX7_goesBy_0 7 rfl rfl)
theorem dX7_goesBy_8 : decode cX7_goesBy 8 = .ok (.aload_n 2, 1) := dk_44 (dk_at dksX7_goesBy_0 8 rfl rfl)
theorem dX7_goesBy_9 : decode cX7_goesBy 9 = .ok (.iload 4, 2) := dk_21 4 (dk_at dksX7_goesBy_0 9 rfl rfl)
theorem dX7_goesBy_11 : decode cX7_goesBy 11 = .ok (.iaload, 1) := dk_46 (dk_at dksX7_goesBy_0 11 rfl rfl)
theorem dX7_goesBy_12 : decode cX7_goesBy 12 = .ok (.invokevirtual 337, 3) := dk_182 1 81 (dk_at dksX7_goesBy_0 12 rfl rfl)
theorem dX7_goesBy_15 : decode cX7_goesBy 15 = .ok (.istore 5, 2) := dk_54 5 (dk_at dksX7_goesBy_0 15 rfl rfl)
theorem dX7_goesBy_17 : decode cX7_goesBy 17 = .ok (.iconst 0, 1) := dk_3 (dk_at dksX7_goesBy_0 17 rfl rfl)
theorem dX7_goesBy_18 : decode cX7_goesBy 18 = .ok (.istore 6, 2) := dk_54 6 (dk_at dksX7_goesBy_0 18 rfl rfl)
theorem dX7_goesBy_20 : decode cX7_goesBy 20 = .ok (.iload 6, 2) := dk_21 6 (dk_at dksX7_goesBy_0 20 rfl rfl)
theorem dX7_goesBy_22 : decode cX7_goesBy 22 = .ok (.sipush 2304, 3) := dk_17 9 0 (dk_at dksX7_goesBy_1 0 rfl rfl)
theorem dX7_goesBy_25 : decode cX7_goesBy 25 = .ok (.if_icmp .ge 14, 3) := dk_162 0 14 (dk_at dksX7_goesBy_1 3 rfl rfl)
theorem dX7_goesBy_28 : decode cX7_goesBy 28 = .ok (.aload_n 3, 1) := dk_45 (dk_at dksX7_goesBy_1 6 rfl rfl)
theorem dX7_goesBy_29 : decode cX7_goesBy 29 = .ok (.iload 6, 2) := dk_21 6 (dk_at dksX7_goesBy_1 7 rfl rfl)
theorem dX7_goesBy_31 : decode cX7_goesBy 31 = .ok (.iconst 0, 1) := dk_3 (dk_at dksX7_goesBy_1 9 rfl rfl)
theorem dX7_goesBy_32 : decode cX7_goesBy 32 = .ok (.iastore, 1) := dk_79 (dk_at dksX7_goesBy_1 10 rfl rfl)
theorem dX7_goesBy_33 : decode cX7_goesBy 33 = .ok (.iinc 6 1, 3) := dk_132 6 1 (dk_at dksX7_goesBy_1 11 rfl rfl)
theorem dX7_goesBy_36 : decode cX7_goesBy 36 = .ok (.goto (-16), 3) := dk_167 255 240 (dk_at dksX7_goesBy_1 14 rfl rfl)
theorem dX7_goesBy_39 : decode cX7_goesBy 39 = .ok (.aload_n 1, 1) := dk_43 (dk_at dksX7_goesBy_1 17 rfl rfl)
theorem dX7_goesBy_40 : decode cX7_goesBy 40 = .ok (.iconst 0, 1) := dk_3 (dk_at dksX7_goesBy_1 18 rfl rfl)
theorem dX7_goesBy_41 : decode cX7_goesBy 41 = .ok (.invokestatic 385, 3) := dk_184 1 129 (dk_at dksX7_goesBy_1 19 rfl rfl)
theorem dX7_goesBy_44 : decode cX7_goesBy 44 = .ok (.istore 6, 2) := dk_54 6 (dk_at dksX7_goesBy_1 22 rfl rfl)
theorem dX7_goesBy_46 : decode cX7_goesBy 46 = .ok (.iload 6, 2) := dk_21 6 (dk_at dksX7_goesBy_2 0 rfl rfl)
theorem dX7_goesBy_48 : decode cX7_goesBy 48 = .ok (.iload 4, 2) := dk_21 4 (dk_at dksX7_goesBy_2 2 rfl rfl)
theorem dX7_goesBy_50 : decode cX7_goesBy 50 = .ok (.if_icmp .lt 94, 3) := dk_161 0 94 (dk_at dksX7_goesBy_2 4 rfl rfl)
theorem dX7_goesBy_53 : decode cX7_goesBy 53 = .ok (.aload_n 1, 1) := dk_43 (dk_at dksX7_goesBy_2 7 rfl rfl)
theorem dX7_goesBy_54 : decode cX7_goesBy 54 = .ok (.iload 6, 2) := dk_21 6 (dk_at dksX7_goesBy_2 8 rfl rfl)
theorem dX7_goesBy_56 : decode cX7_goesBy 56 = .ok (.iaload, 1) := dk_46 (dk_at dksX7_goesBy_2 10 rfl rfl)
theorem dX7_goesBy_57 : decode cX7_goesBy 57 = .ok (.iload 5, 2) := dk_21 5 (dk_at dksX7_goesBy_2 11 rfl rfl)
theorem dX7_goesBy_59 : decode cX7_goesBy 59 = .ok (.imul, 1) := dk_104 (dk_at dksX7_goesBy_2 13 rfl rfl)
theorem dX7_goesBy_60 : decode cX7_goesBy 60 = .ok (.aload_n 0, 1) := dk_42 (dk_at dksX7_goesBy_2 14 rfl rfl)
theorem dX7_goesBy_61 : decode cX7_goesBy 61 = .ok (.getfield 231, 3) := dk_180 0 231 (dk_at dksX7_goesBy_2 15 rfl rfl)
theorem dX7_goesBy_64 : decode cX7_goesBy 64 = .ok (.irem, 1) := dk_112 (dk_at dksX7_goesBy_2 18 rfl rfl)
theorem dX7_goesBy_65 : decode cX7_goesBy 65 = .ok (.istore 7, 2) := dk_54 7 (dk_at dksX7_goesBy_2 19 rfl rfl)
theorem dX7_goesBy_67 : decode cX7_goesBy 67 = .ok (.iload 7, 2) := dk_21 7 (dk_at dksX7_goesBy_2 21 rfl rfl)
theorem dX7_goesBy_69 : decode cX7_goesBy 69 = .ok (.ifCond .ne 6, 3) := dk_154 0 6 (dk_at dksX7_goesBy_3 0 rfl rfl)
theorem dX7_goesBy_72 : decode cX7_goesBy 72 = .ok (.goto 66, 3) := dk_167 0 66 (dk_at dksX7_goesBy_3 3 rfl rfl)
theorem dX7_goesBy_75 : decode cX7_goesBy 75 = .ok (.aload_n 3, 1) := dk_45 (dk_at dksX7_goesBy_3 6 rfl rfl)
theorem dX7_goesBy_76 : decode cX7_goesBy 76 = .ok (.iload 6, 2) := dk_21 6 (dk_at dksX7_goesBy_3 7 rfl rfl)
theorem dX7_goesBy_78 : decode cX7_goesBy 78 = .ok (.iload 4, 2) := dk_21 4 (dk_at dksX7_goesBy_3 9 rfl rfl)
theorem dX7_goesBy_80 : decode cX7_goesBy 80 = .ok (.isub, 1) := dk_100 (dk_at dksX7_goesBy_3 11 rfl rfl)
theorem dX7_goesBy_81 : decode cX7_goesBy 81 = .ok (.iload 7, 2) := dk_21 7 (dk_at dksX7_goesBy_3 12 rfl rfl)
theorem dX7_goesBy_83 : decode cX7_goesBy 83 = .ok (.iastore, 1) := dk_79 (dk_at dksX7_goesBy_3 14 rfl rfl)
theorem dX7_goesBy_84 : decode cX7_goesBy 84 = .ok (.iconst 0, 1) := dk_3 (dk_at dksX7_goesBy_3 15 rfl rfl)
theorem dX7_goesBy_85 : decode cX7_goesBy 85 = .ok (.istore 8, 2) := dk_54 8 (dk_at dksX7_goesBy_3 16 rfl rfl)
theorem dX7_goesBy_87 : decode cX7_goesBy 87 = .ok (.iload 8, 2) := dk_21 8 (dk_at dksX7_goesBy_3 18 rfl rfl)
theorem dX7_goesBy_89 : decode cX7_goesBy 89 = .ok (.iload 4, 2) := dk_21 4 (dk_at dksX7_goesBy_3 20 rfl rfl)
theorem dX7_goesBy_91 : decode cX7_goesBy 91 = .ok (.if_icmp .gt 47, 3) := dk_163 0 47 (dk_at dksX7_goesBy_4 0 rfl rfl)
theorem dX7_goesBy_94 : decode cX7_goesBy 94 = .ok (.aload_n 1, 1) := dk_43 (dk_at dksX7_goesBy_4 3 rfl rfl)
theorem dX7_goesBy_95 : decode cX7_goesBy 95 = .ok (.iload 6, 2) := dk_21 6 (dk_at dksX7_goesBy_4 4 rfl rfl)
theorem dX7_goesBy_97 : decode cX7_goesBy 97 = .ok (.iload 4, 2) := dk_21 4 (dk_at dksX7_goesBy_4 6 rfl rfl)
theorem dX7_goesBy_99 : decode cX7_goesBy 99 = .ok (.isub, 1) := dk_100 (dk_at dksX7_goesBy_4 8 rfl rfl)
theorem dX7_goesBy_100 : decode cX7_goesBy 100 = .ok (.iload 8, 2) := dk_21 8 (dk_at dksX7_goesBy_4 9 rfl rfl)
theorem dX7_goesBy_102 : decode cX7_goesBy 102 = .ok (.iadd, 1) := dk_96 (dk_at dksX7_goesBy_4 11 rfl rfl)
theorem dX7_goesBy_103 : decode cX7_goesBy 103 = .ok (.aload_n 1, 1) := dk_43 (dk_at dksX7_goesBy_4 12 rfl rfl)
theorem dX7_goesBy_104 : decode cX7_goesBy 104 = .ok (.iload 6, 2) := dk_21 6 (dk_at dksX7_goesBy_4 13 rfl rfl)
theorem dX7_goesBy_106 : decode cX7_goesBy 106 = .ok (.iload 4, 2) := dk_21 4 (dk_at dksX7_goesBy_4 15 rfl rfl)
theorem dX7_goesBy_108 : decode cX7_goesBy 108 = .ok (.isub, 1) := dk_100 (dk_at dksX7_goesBy_4 17 rfl rfl)
theorem dX7_goesBy_109 : decode cX7_goesBy 109 = .ok (.iload 8, 2) := dk_21 8 (dk_at dksX7_goesBy_4 18 rfl rfl)
theorem dX7_goesBy_111 : decode cX7_goesBy 111 = .ok (.iadd, 1) := dk_96 (dk_at dksX7_goesBy_4 20 rfl rfl)
theorem dX7_goesBy_112 : decode cX7_goesBy 112 = .ok (.iaload, 1) := dk_46 (dk_at dksX7_goesBy_4 21 rfl rfl)
theorem dX7_goesBy_113 : decode cX7_goesBy 113 = .ok (.aload_n 0, 1) := dk_42 (dk_at dksX7_goesBy_4 22 rfl rfl)
theorem dX7_goesBy_114 : decode cX7_goesBy 114 = .ok (.getfield 231, 3) := dk_180 0 231 (dk_at dksX7_goesBy_5 0 rfl rfl)
theorem dX7_goesBy_117 : decode cX7_goesBy 117 = .ok (.iload 7, 2) := dk_21 7 (dk_at dksX7_goesBy_5 3 rfl rfl)
theorem dX7_goesBy_119 : decode cX7_goesBy 119 = .ok (.isub, 1) := dk_100 (dk_at dksX7_goesBy_5 5 rfl rfl)
theorem dX7_goesBy_120 : decode cX7_goesBy 120 = .ok (.aload_n 2, 1) := dk_44 (dk_at dksX7_goesBy_5 6 rfl rfl)
theorem dX7_goesBy_121 : decode cX7_goesBy 121 = .ok (.iload 8, 2) := dk_21 8 (dk_at dksX7_goesBy_5 7 rfl rfl)
theorem dX7_goesBy_123 : decode cX7_goesBy 123 = .ok (.iaload, 1) := dk_46 (dk_at dksX7_goesBy_5 9 rfl rfl)
theorem dX7_goesBy_124 : decode cX7_goesBy 124 = .ok (.imul, 1) := dk_104 (dk_at dksX7_goesBy_5 10 rfl rfl)
theorem dX7_goesBy_125 : decode cX7_goesBy 125 = .ok (.iadd, 1) := dk_96 (dk_at dksX7_goesBy_5 11 rfl rfl)
theorem dX7_goesBy_126 : decode cX7_goesBy 126 = .ok (.aload_n 0, 1) := dk_42 (dk_at dksX7_goesBy_5 12 rfl rfl)
theorem dX7_goesBy_127 : decode cX7_goesBy 127 = .ok (.getfield 231, 3) := dk_180 0 231 (dk_at dksX7_goesBy_5 13 rfl rfl)
theorem dX7_goesBy_130 : decode cX7_goesBy 130 = .ok (.irem, 1) := dk_112 (dk_at dksX7_goesBy_5 16 rfl rfl)
theorem dX7_goesBy_131 : decode cX7_goesBy 131 = .ok (.iastore, 1) := dk_79 (dk_at dksX7_goesBy_5 17 rfl rfl)
theorem dX7_goesBy_132 : decode cX7_goesBy 132 = .ok (.iinc 8 1, 3) := dk_132 8 1 (dk_at dksX7_goesBy_5 18 rfl rfl)
theorem dX7_goesBy_135 : decode cX7_goesBy 135 = .ok (.goto (-48), 3) := dk_167 255 208 (dk_at dksX7_goesBy_5 21 rfl rfl)
theorem dX7_goesBy_138 : decode cX7_goesBy 138 = .ok (.iinc 6 (-1), 3) := dk_132 6 255 (dk_at dksX7_goesBy_6 0 rfl rfl)
theorem dX7_goesBy_141 : decode cX7_goesBy 141 = .ok (.goto (-95), 3) := dk_167 255 161 (dk_at dksX7_goesBy_6 3 rfl rfl)
theorem dX7_goesBy_144 : decode cX7_goesBy 144 = .ok (.return_, 1) := dk_177 (dk_at dksX7_goesBy_6 6 rfl rfl)
abbrev cX7_takesOff : ByteArray := prog_10_method_98_code
def yX7_takesOff : MethodName := ⟨RX7, "takesOff", "([I[I)V"⟩
def dkwX7_takesOff_14 : List UInt8 := [167, 255, 231, 132, 7, 1, 167, 254, 241, 42, 43, 182, 1, 160, 177]
abbrev dktX7_takesOff_14 : List UInt8 := dkwX7_takesOff_14 ++ []
def dkwX7_takesOff_13 : List UInt8 := [17, 9, 0, 162, 0, 23, 43, 21, 8, 21, 11, 96, 42, 180, 0, 83, 21, 11, 46, 79, 132, 11, 1]
abbrev dktX7_takesOff_13 : List UInt8 := dkwX7_takesOff_13 ++ dktX7_takesOff_14
def dkwX7_takesOff_12 : List UInt8 := [96, 42, 180, 0, 231, 112, 79, 132, 12, 1, 167, 255, 191, 132, 11, 1, 167, 255, 175, 3, 54, 11, 21, 11]
abbrev dktX7_takesOff_12 : List UInt8 := dkwX7_takesOff_12 ++ dktX7_takesOff_13
def dkwX7_takesOff_11 : List UInt8 := [180, 0, 80, 21, 11, 46, 100, 44, 17, 9, 0, 21, 7, 29, 100, 21, 4, 96, 104, 21, 12, 96, 46, 104]
abbrev dktX7_takesOff_11 : List UInt8 := dkwX7_takesOff_11 ++ dktX7_takesOff_12
def dkwX7_takesOff_10 : List UInt8 := [180, 0, 83, 21, 11, 21, 12, 96, 42, 180, 0, 83, 21, 11, 21, 12, 96, 46, 42, 180, 0, 231, 42]
abbrev dktX7_takesOff_10 : List UInt8 := dkwX7_takesOff_10 ++ dktX7_takesOff_11
def dkwX7_takesOff_9 : List UInt8 := [54, 10, 3, 54, 11, 21, 11, 21, 6, 163, 0, 80, 3, 54, 12, 21, 12, 21, 10, 163, 0, 64, 42]
abbrev dktX7_takesOff_9 : List UInt8 := dkwX7_takesOff_9 ++ dktX7_takesOff_10
def dkwX7_takesOff_8 : List UInt8 := [100, 162, 0, 7, 2, 167, 0, 18, 44, 17, 9, 0, 21, 7, 29, 100, 21, 4, 96, 104, 184, 1, 129]
abbrev dktX7_takesOff_8 : List UInt8 := dkwX7_takesOff_8 ++ dktX7_takesOff_9
def dkwX7_takesOff_7 : List UInt8 := [96, 42, 180, 0, 231, 112, 79, 132, 11, 1, 167, 255, 205, 132, 10, 1, 167, 255, 189, 21, 7, 29, 21, 4]
abbrev dktX7_takesOff_7 : List UInt8 := dkwX7_takesOff_7 ++ dktX7_takesOff_8
def dkwX7_takesOff_6 : List UInt8 := [180, 0, 83, 21, 10, 21, 11, 96, 46, 42, 180, 0, 77, 21, 10, 46, 43, 21, 8, 21, 11, 96, 46, 104]
abbrev dktX7_takesOff_6 : List UInt8 := dkwX7_takesOff_6 ++ dktX7_takesOff_7
def dkwX7_takesOff_5 : List UInt8 := [163, 0, 66, 3, 54, 11, 21, 11, 21, 9, 163, 0, 50, 42, 180, 0, 83, 21, 10, 21, 11, 96, 42]
abbrev dktX7_takesOff_5 : List UInt8 := dkwX7_takesOff_5 ++ dktX7_takesOff_6
def dkwX7_takesOff_4 : List UInt8 := [17, 9, 0, 21, 7, 104, 54, 8, 43, 21, 8, 184, 1, 129, 54, 9, 3, 54, 10, 21, 10, 21, 5]
abbrev dktX7_takesOff_4 : List UInt8 := dkwX7_takesOff_4 ++ dktX7_takesOff_5
def dkwX7_takesOff_3 : List UInt8 := [21, 8, 17, 9, 0, 162, 0, 17, 42, 180, 0, 83, 21, 8, 3, 79, 132, 8, 1, 167, 255, 237]
abbrev dktX7_takesOff_3 : List UInt8 := dkwX7_takesOff_3 ++ dktX7_takesOff_4
def dkwX7_takesOff_2 : List UInt8 := [54, 5, 42, 180, 0, 80, 3, 184, 1, 129, 54, 6, 3, 54, 7, 21, 7, 29, 163, 1, 15, 3, 54, 8]
abbrev dktX7_takesOff_2 : List UInt8 := dkwX7_takesOff_2 ++ dktX7_takesOff_3
def dkwX7_takesOff_1 : List UInt8 := [184, 1, 141, 43, 17, 9, 0, 29, 104, 42, 180, 0, 80, 184, 1, 141, 42, 180, 0, 77, 3, 184, 1, 129]
abbrev dktX7_takesOff_1 : List UInt8 := dkwX7_takesOff_1 ++ dktX7_takesOff_2
def dkwX7_takesOff_0 : List UInt8 := [43, 184, 1, 156, 62, 44, 184, 1, 156, 54, 4, 44, 17, 9, 0, 21, 4, 104, 42, 180, 0, 77]
abbrev dktX7_takesOff_0 : List UInt8 := dkwX7_takesOff_0 ++ dktX7_takesOff_1
theorem dksX7_takesOff_0 : cX7_takesOff.data.toList.drop 0 = dktX7_takesOff_0 := by decide +kernel
theorem dksX7_takesOff_1 : cX7_takesOff.data.toList.drop 22 = dktX7_takesOff_1 := dk_seg dksX7_takesOff_0 22 rfl rfl
theorem dksX7_takesOff_2 : cX7_takesOff.data.toList.drop 46 = dktX7_takesOff_2 := dk_seg dksX7_takesOff_1 24 rfl rfl
theorem dksX7_takesOff_3 : cX7_takesOff.data.toList.drop 70 = dktX7_takesOff_3 := dk_seg dksX7_takesOff_2 24 rfl rfl
theorem dksX7_takesOff_4 : cX7_takesOff.data.toList.drop 92 = dktX7_takesOff_4 := dk_seg dksX7_takesOff_3 22 rfl rfl
theorem dksX7_takesOff_5 : cX7_takesOff.data.toList.drop 115 = dktX7_takesOff_5 := dk_seg dksX7_takesOff_4 23 rfl rfl
theorem dksX7_takesOff_6 : cX7_takesOff.data.toList.drop 138 = dktX7_takesOff_6 := dk_seg dksX7_takesOff_5 23 rfl rfl
theorem dksX7_takesOff_7 : cX7_takesOff.data.toList.drop 162 = dktX7_takesOff_7 := dk_seg dksX7_takesOff_6 24 rfl rfl
theorem dksX7_takesOff_8 : cX7_takesOff.data.toList.drop 186 = dktX7_takesOff_8 := dk_seg dksX7_takesOff_7 24 rfl rfl
theorem dksX7_takesOff_9 : cX7_takesOff.data.toList.drop 209 = dktX7_takesOff_9 := dk_seg dksX7_takesOff_8 23 rfl rfl
theorem dksX7_takesOff_10 : cX7_takesOff.data.toList.drop 232 = dktX7_takesOff_10 := dk_seg dksX7_takesOff_9 23 rfl rfl
theorem dksX7_takesOff_11 : cX7_takesOff.data.toList.drop 255 = dktX7_takesOff_11 := dk_seg dksX7_takesOff_10 23 rfl rfl
theorem dksX7_takesOff_12 : cX7_takesOff.data.toList.drop 279 = dktX7_takesOff_12 := dk_seg dksX7_takesOff_11 24 rfl rfl
theorem dksX7_takesOff_13 : cX7_takesOff.data.toList.drop 303 = dktX7_takesOff_13 := dk_seg dksX7_takesOff_12 24 rfl rfl
theorem dksX7_takesOff_14 : cX7_takesOff.data.toList.drop 326 = dktX7_takesOff_14 := dk_seg dksX7_takesOff_13 23 rfl rfl
theorem dX7_takesOff_0 : decode cX7_takesOff 0 = .ok (.aload_n 1, 1) := dk_43 (dk_at dksX7_takesOff_0 0 rfl rfl)
theorem dX7_takesOff_1 : decode cX7_takesOff 1 = .ok (.invokestatic 412, 3) := dk_184 1 156 (dk_at dksX7_takesOff_0 1 rfl rfl)
theorem dX7_takesOff_4 : decode cX7_takesOff 4 = .ok (.istore_n 3, 1) := dk_62 (dk_at dksX7_takesOff_0 4 rfl rfl)
theorem dX7_takesOff_5 : decode cX7_takesOff 5 = .ok (.aload_n 2, 1) := dk_44 (dk_at dksX7_takesOff_0 5 rfl rfl)
theorem dX7_takesOff_6 : decode cX7_takesOff 6 = .ok (.invokestatic 412, 3) := dk_184 1 156 (dk_at dksX7_takesOff_0 6 rfl rfl)
theorem dX7_takesOff_9 : decode cX7_takesOff 9 = .ok (.istore 4, 2) := dk_54 4 (dk_at dksX7_takesOff_0 9 rfl rfl)
theorem dX7_takesOff_11 : decode cX7_takesOff 11 = .ok (.aload_n 2, 1) := dk_44 (dk_at dksX7_takesOff_0 11 rfl rfl)
theorem dX7_takesOff_12 : decode cX7_takesOff 12 = .ok (.sipush 2304, 3) := dk_17 9 0 (dk_at dksX7_takesOff_0 12 rfl rfl)
theorem dX7_takesOff_15 : decode cX7_takesOff 15 = .ok (.iload 4, 2) := dk_21 4 (dk_at dksX7_takesOff_0 15 rfl rfl)
theorem dX7_takesOff_17 : decode cX7_takesOff 17 = .ok (.imul, 1) := dk_104 (dk_at dksX7_takesOff_0 17 rfl rfl)
theorem dX7_takesOff_18 : decode cX7_takesOff 18 = .ok (.aload_n 0, 1) := dk_42 (dk_at dksX7_takesOff_0 18 rfl rfl)
theorem dX7_takesOff_19 : decode cX7_takesOff 19 = .ok (.getfield 77, 3) := dk_180 0 77 (dk_at dksX7_takesOff_0 19 rfl rfl)
theorem dX7_takesOff_22 : decode cX7_takesOff 22 = .ok (.invokestatic 397, 3) := dk_184 1 141 (dk_at dksX7_takesOff_1 0 rfl rfl)
theorem dX7_takesOff_25 : decode cX7_takesOff 25 = .ok (.aload_n 1, 1) := dk_43 (dk_at dksX7_takesOff_1 3 rfl rfl)
theorem dX7_takesOff_26 : decode cX7_takesOff 26 = .ok (.sipush 2304, 3) := dk_17 9 0 (dk_at dksX7_takesOff_1 4 rfl rfl)
theorem dX7_takesOff_29 : decode cX7_takesOff 29 = .ok (.iload_n 3, 1) := dk_29 (dk_at dksX7_takesOff_1 7 rfl rfl)
theorem dX7_takesOff_30 : decode cX7_takesOff 30 = .ok (.imul, 1) := dk_104 (dk_at dksX7_takesOff_1 8 rfl rfl)
theorem dX7_takesOff_31 : decode cX7_takesOff 31 = .ok (.aload_n 0, 1) := dk_42 (dk_at dksX7_takesOff_1 9 rfl rfl)
theorem dX7_takesOff_32 : decode cX7_takesOff 32 = .ok (.getfield 80, 3) := dk_180 0 80 (dk_at dksX7_takesOff_1 10 rfl rfl)
theorem dX7_takesOff_35 : decode cX7_takesOff 35 = .ok (.invokestatic 397, 3) := dk_184 1 141 (dk_at dksX7_takesOff_1 13 rfl rfl)
theorem dX7_takesOff_38 : decode cX7_takesOff 38 = .ok (.aload_n 0, 1) := dk_42 (dk_at dksX7_takesOff_1 16 rfl rfl)
theorem dX7_takesOff_39 : decode cX7_takesOff 39 = .ok (.getfield 77, 3) := dk_180 0 77 (dk_at dksX7_takesOff_1 17 rfl rfl)
theorem dX7_takesOff_42 : decode cX7_takesOff 42 = .ok (.iconst 0, 1) := dk_3 (dk_at dksX7_takesOff_1 20 rfl rfl)
theorem dX7_takesOff_43 : decode cX7_takesOff 43 = .ok (.invokestatic 385, 3) := dk_184 1 129 (dk_at dksX7_takesOff_1 21 rfl rfl)
theorem dX7_takesOff_46 : decode cX7_takesOff 46 = .ok (.istore 5, 2) := dk_54 5 (dk_at dksX7_takesOff_2 0 rfl rfl)
theorem dX7_takesOff_48 : decode cX7_takesOff 48 = .ok (.aload_n 0, 1) := dk_42 (dk_at dksX7_takesOff_2 2 rfl rfl)
theorem dX7_takesOff_49 : decode cX7_takesOff 49 = .ok (.getfield 80, 3) := dk_180 0 80 (dk_at dksX7_takesOff_2 3 rfl rfl)
theorem dX7_takesOff_52 : decode cX7_takesOff 52 = .ok (.iconst 0, 1) := dk_3 (dk_at dksX7_takesOff_2 6 rfl rfl)
theorem dX7_takesOff_53 : decode cX7_takesOff 53 = .ok (.invokestatic 385, 3) := dk_184 1 129 (dk_at dksX7_takesOff_2 7 rfl rfl)
theorem dX7_takesOff_56 : decode cX7_takesOff 56 = .ok (.istore 6, 2) := dk_54 6 (dk_at dksX7_takesOff_2 10 rfl rfl)
theorem dX7_takesOff_58 : decode cX7_takesOff 58 = .ok (.iconst 0, 1) := dk_3 (dk_at dksX7_takesOff_2 12 rfl rfl)
theorem dX7_takesOff_59 : decode cX7_takesOff 59 = .ok (.istore 7, 2) := dk_54 7 (dk_at dksX7_takesOff_2 13 rfl rfl)
theorem dX7_takesOff_61 : decode cX7_takesOff 61 = .ok (.iload 7, 2) := dk_21 7 (dk_at dksX7_takesOff_2 15 rfl rfl)
theorem dX7_takesOff_63 : decode cX7_takesOff 63 = .ok (.iload_n 3, 1) := dk_29 (dk_at dksX7_takesOff_2 17 rfl rfl)
theorem dX7_takesOff_64 : decode cX7_takesOff 64 = .ok (.if_icmp .gt 271, 3) := dk_163 1 15 (dk_at dksX7_takesOff_2 18 rfl rfl)
theorem dX7_takesOff_67 : decode cX7_takesOff 67 = .ok (.iconst 0, 1) := dk_3 (dk_at dksX7_takesOff_2 21 rfl rfl)
theorem dX7_takesOff_68 : decode cX7_takesOff 68 = .ok (.istore 8, 2) := dk_54 8 (dk_at dksX7_takesOff_2 22 rfl rfl)
theorem dX7_takesOff_70 : decode cX7_takesOff 70 = .ok (.iload 8, 2) := dk_21 8 (dk_at dksX7_takesOff_3 0 rfl rfl)
theorem dX7_takesOff_72 : decode cX7_takesOff 72 = .ok (.sipush 2304, 3) := dk_17 9 0 (dk_at dksX7_takesOff_3 2 rfl rfl)
theorem dX7_takesOff_75 : decode cX7_takesOff 75 = .ok (.if_icmp .ge 17, 3) := dk_162 0 17 (dk_at dksX7_takesOff_3 5 rfl rfl)
theorem dX7_takesOff_78 : decode cX7_takesOff 78 = .ok (.aload_n 0, 1) := dk_42 (dk_at dksX7_takesOff_3 8 rfl rfl)
theorem dX7_takesOff_79 : decode cX7_takesOff 79 = .ok (.getfield 83, 3) := dk_180 0 83 (dk_at dksX7_takesOff_3 9 rfl rfl)
theorem dX7_takesOff_82 : decode cX7_takesOff 82 = .ok (.iload 8, 2) := dk_21 8 (dk_at dksX7_takesOff_3 12 rfl rfl)
theorem dX7_takesOff_84 : decode cX7_takesOff 84 = .ok (.iconst 0, 1) := dk_3 (dk_at dksX7_takesOff_3 14 rfl rfl)
theorem dX7_takesOff_85 : decode cX7_takesOff 85 = .ok (.iastore, 1) := dk_79 (dk_at dksX7_takesOff_3 15 rfl rfl)
theorem dX7_takesOff_86 : decode cX7_takesOff 86 = .ok (.iinc 8 1, 3) := dk_132 8 1 (dk_at dksX7_takesOff_3 16 rfl rfl)
theorem dX7_takesOff_89 : decode cX7_takesOff 89 = .ok (.goto (-19), 3) := dk_167 255 237 (dk_at dksX7_takesOff_3 19 rfl rfl)
theorem dX7_takesOff_92 : decode cX7_takesOff 92 = .ok (.sipush 2304, 3) := dk_17 9 0 (dk_at dksX7_takesOff_4 0 rfl rfl)
theorem dX7_takesOff_95 : decode cX7_takesOff 95 = .ok (.iload 7, 2) := dk_21 7 (dk_at dksX7_takesOff_4 3 rfl rfl)
theorem dX7_takesOff_97 : decode cX7_takesOff 97 = .ok (.imul, 1) := dk_104 (dk_at dksX7_takesOff_4 5 rfl rfl)
theorem dX7_takesOff_98 : decode cX7_takesOff 98 = .ok (.istore 8, 2) := dk_54 8 (dk_at dksX7_takesOff_4 6 rfl rfl)
theorem dX7_takesOff_100 : decode cX7_takesOff 100 = .ok (.aload_n 1, 1) := dk_43 (dk_at dksX7_takesOff_4 8 rfl rfl)
theorem dX7_takesOff_101 : decode cX7_takesOff 101 = .ok (.iload 8, 2) := dk_21 8 (dk_at dksX7_takesOff_4 9 rfl rfl)
theorem dX7_takesOff_103 : decode cX7_takesOff 103 = .ok (.invokestatic 385, 3) := dk_184 1 129 (dk_at dksX7_takesOff_4 11 rfl rfl)
theorem dX7_takesOff_106 : decode cX7_takesOff 106 = .ok (.istore 9, 2) := dk_54 9 (dk_at dksX7_takesOff_4 14 rfl rfl)
theorem dX7_takesOff_108 : decode cX7_takesOff 108 = .ok (.iconst 0, 1) := dk_3 (dk_at dksX7_takesOff_4 16 rfl rfl)
theorem dX7_takesOff_109 : decode cX7_takesOff 109 = .ok (.istore 10, 2) := dk_54 10 (dk_at dksX7_takesOff_4 17 rfl rfl)
theorem dX7_takesOff_111 : decode cX7_takesOff 111 = .ok (.iload 10, 2) := dk_21 10 (dk_at dksX7_takesOff_4 19 rfl rfl)
theorem dX7_takesOff_113 : decode cX7_takesOff 113 = .ok (.iload 5, 2) := dk_21 5 (dk_at dksX7_takesOff_4 21 rfl rfl)
theorem dX7_takesOff_115 : decode cX7_takesOff 115 = .ok (.if_icmp .gt 66, 3) := dk_163 0 66 (dk_at dksX7_takesOff_5 0 rfl rfl)
theorem dX7_takesOff_118 : decode cX7_takesOff 118 = .ok (.iconst 0, 1) := dk_3 (dk_at dksX7_takesOff_5 3 rfl rfl)
theorem dX7_takesOff_119 : decode cX7_takesOff 119 = .ok (.istore 11, 2) := dk_54 11 (dk_at dksX7_takesOff_5 4 rfl rfl)
theorem dX7_takesOff_121 : decode cX7_takesOff 121 = .ok (.iload 11, 2) := dk_21 11 (dk_at dksX7_takesOff_5 6 rfl rfl)
theorem dX7_takesOff_123 : decode cX7_takesOff 123 = .ok (.iload 9, 2) := dk_21 9 (dk_at dksX7_takesOff_5 8 rfl rfl)
theorem dX7_takesOff_125 : decode cX7_takesOff 125 = .ok (.if_icmp .gt 50, 3) := dk_163 0 50 (dk_at dksX7_takesOff_5 10 rfl rfl)
theorem dX7_takesOff_128 : decode cX7_takesOff 128 = .ok (.aload_n 0, 1) := dk_42 (dk_at dksX7_takesOff_5 13 rfl rfl)
theorem dX7_takesOff_129 : decode cX7_takesOff 129 = .ok (.getfield 83, 3) := dk_180 0 83 (dk_at dksX7_takesOff_5 14 rfl rfl)
theorem dX7_takesOff_132 : decode cX7_takesOff 132 = .ok (.iload 10, 2) := dk_21 10 (dk_at dksX7_takesOff_5 17 rfl rfl)
theorem dX7_takesOff_134 : decode cX7_takesOff 134 = .ok (.iload 11, 2) := dk_21 11 (dk_at dksX7_takesOff_5 19 rfl rfl)
theorem dX7_takesOff_136 : decode cX7_takesOff 136 = .ok (.iadd, 1) := dk_96 (dk_at dksX7_takesOff_5 21 rfl rfl)
theorem dX7_takesOff_137 : decode cX7_takesOff 137 = .ok (.aload_n 0, 1) := dk_42 (dk_at dksX7_takesOff_5 22 rfl rfl)
theorem dX7_takesOff_138 : decode cX7_takesOff 138 = .ok (.getfield 83, 3) := dk_180 0 83 (dk_at dksX7_takesOff_6 0 rfl rfl)
theorem dX7_takesOff_141 : decode cX7_takesOff 141 = .ok (.iload 10, 2) := dk_21 10 (dk_at dksX7_takesOff_6 3 rfl rfl)
theorem dX7_takesOff_143 : decode cX7_takesOff 143 = .ok (.iload 11, 2) := dk_21 11 (dk_at dksX7_takesOff_6 5 rfl rfl)
theorem dX7_takesOff_145 : decode cX7_takesOff 145 = .ok (.iadd, 1) := dk_96 (dk_at dksX7_takesOff_6 7 rfl rfl)
theorem dX7_takesOff_146 : decode cX7_takesOff 146 = .ok (.iaload, 1) := dk_46 (dk_at dksX7_takesOff_6 8 rfl rfl)
theorem dX7_takesOff_147 : decode cX7_takesOff 147 = .ok (.aload_n 0, 1) := dk_42 (dk_at dksX7_takesOff_6 9 rfl rfl)
theorem dX7_takesOff_148 : decode cX7_takesOff 148 = .ok (.getfield 77, 3) := dk_180 0 77 (dk_at dksX7_takesOff_6 10 rfl rfl)
theorem dX7_takesOff_151 : decode cX7_takesOff 151 = .ok (.iload 10, 2) := dk_21 10 (dk_at dksX7_takesOff_6 13 rfl rfl)
theorem dX7_takesOff_153 : decode cX7_takesOff 153 = .ok (.iaload, 1) := dk_46 (dk_at dksX7_takesOff_6 15 rfl rfl)
theorem dX7_takesOff_154 : decode cX7_takesOff 154 = .ok (.aload_n 1, 1) := dk_43 (dk_at dksX7_takesOff_6 16 rfl rfl)
theorem dX7_takesOff_155 : decode cX7_takesOff 155 = .ok (.iload 8, 2) := dk_21 8 (dk_at dksX7_takesOff_6 17 rfl rfl)
theorem dX7_takesOff_157 : decode cX7_takesOff 157 = .ok (.iload 11, 2) := dk_21 11 (dk_at dksX7_takesOff_6 19 rfl rfl)
theorem dX7_takesOff_159 : decode cX7_takesOff 159 = .ok (.iadd, 1) := dk_96 (dk_at dksX7_takesOff_6 21 rfl rfl)
theorem dX7_takesOff_160 : decode cX7_takesOff 160 = .ok (.iaload, 1) := dk_46 (dk_at dksX7_takesOff_6 22 rfl rfl)
theorem dX7_takesOff_161 : decode cX7_takesOff 161 = .ok (.imul, 1) := dk_104 (dk_at dksX7_takesOff_6 23 rfl rfl)
theorem dX7_takesOff_162 : decode cX7_takesOff 162 = .ok (.iadd, 1) := dk_96 (dk_at dksX7_takesOff_7 0 rfl rfl)
theorem dX7_takesOff_163 : decode cX7_takesOff 163 = .ok (.aload_n 0, 1) := dk_42 (dk_at dksX7_takesOff_7 1 rfl rfl)
theorem dX7_takesOff_164 : decode cX7_takesOff 164 = .ok (.getfield 231, 3) := dk_180 0 231 (dk_at dksX7_takesOff_7 2 rfl rfl)
theorem dX7_takesOff_167 : decode cX7_takesOff 167 = .ok (.irem, 1) := dk_112 (dk_at dksX7_takesOff_7 5 rfl rfl)
theorem dX7_takesOff_168 : decode cX7_takesOff 168 = .ok (.iastore, 1) := dk_79 (dk_at dksX7_takesOff_7 6 rfl rfl)
theorem dX7_takesOff_169 : decode cX7_takesOff 169 = .ok (.iinc 11 1, 3) := dk_132 11 1 (dk_at dksX7_takesOff_7 7 rfl rfl)
theorem dX7_takesOff_172 : decode cX7_takesOff 172 = .ok (.goto (-51), 3) := dk_167 255 205 (dk_at dksX7_takesOff_7 10 rfl rfl)
theorem dX7_takesOff_175 : decode cX7_takesOff 175 = .ok (.iinc 10 1, 3) := dk_132 10 1 (dk_at dksX7_takesOff_7 13 rfl rfl)
theorem dX7_takesOff_178 : decode cX7_takesOff 178 = .ok (.goto (-67), 3) := dk_167 255 189 (dk_at dksX7_takesOff_7 16 rfl rfl)
theorem dX7_takesOff_181 : decode cX7_takesOff 181 = .ok (.iload 7, 2) := dk_21 7 (dk_at dksX7_takesOff_7 19 rfl rfl)
theorem dX7_takesOff_183 : decode cX7_takesOff 183 = .ok (.iload_n 3, 1) := dk_29 (dk_at dksX7_takesOff_7 21 rfl rfl)
theorem dX7_takesOff_184 : decode cX7_takesOff 184 = .ok (.iload 4, 2) := dk_21 4 (dk_at dksX7_takesOff_7 22 rfl rfl)
theorem dX7_takesOff_186 : decode cX7_takesOff 186 = .ok (.isub, 1) := dk_100 (dk_at dksX7_takesOff_8 0 rfl rfl)
theorem dX7_takesOff_187 : decode cX7_takesOff 187 = .ok (.if_icmp .ge 7, 3) := dk_162 0 7 (dk_at dksX7_takesOff_8 1 rfl rfl)
theorem dX7_takesOff_190 : decode cX7_takesOff 190 = .ok (.iconst (-1), 1) := dk_2 (dk_at dksX7_takesOff_8 4 rfl rfl)
theorem dX7_takesOff_191 : decode cX7_takesOff 191 = .ok (.goto 18, 3) := dk_167 0 18 (dk_at dksX7_takesOff_8 5 rfl rfl)
theorem dX7_takesOff_194 : decode cX7_takesOff 194 = .ok (.aload_n 2, 1) := dk_44 (dk_at dksX7_takesOff_8 8 rfl rfl)
theorem dX7_takesOff_195 : decode cX7_takesOff 195 = .ok (.sipush 2304, 3) := dk_17 9 0 (dk_at dksX7_takesOff_8 9 rfl rfl)
theorem dX7_takesOff_198 : decode cX7_takesOff 198 = .ok (.iload 7, 2) := dk_21 7 (dk_at dksX7_takesOff_8 12 rfl rfl)
theorem dX7_takesOff_200 : decode cX7_takesOff 200 = .ok (.iload_n 3, 1) := dk_29 (dk_at dksX7_takesOff_8 14 rfl rfl)
theorem dX7_takesOff_201 : decode cX7_takesOff 201 = .ok (.isub, 1) := dk_100 (dk_at dksX7_takesOff_8 15 rfl rfl)
theorem dX7_takesOff_202 : decode cX7_takesOff 202 = .ok (.iload 4, 2) := dk_21 4 (dk_at dksX7_takesOff_8 16 rfl rfl)
theorem dX7_takesOff_204 : decode cX7_takesOff 204 = .ok (.iadd, 1) := dk_96 (dk_at dksX7_takesOff_8 18 rfl rfl)
theorem dX7_takesOff_205 : decode cX7_takesOff 205 = .ok (.imul, 1) := dk_104 (dk_at dksX7_takesOff_8 19 rfl rfl)
theorem dX7_takesOff_206 : decode cX7_takesOff 206 = .ok (.invokestatic 385, 3) := dk_184 1 129 (dk_at dksX7_takesOff_8 20 rfl rfl)
theorem dX7_takesOff_209 : decode cX7_takesOff 209 = .ok (.istore 10, 2) := dk_54 10 (dk_at dksX7_takesOff_9 0 rfl rfl)
theorem dX7_takesOff_211 : decode cX7_takesOff 211 = .ok (.iconst 0, 1) := dk_3 (dk_at dksX7_takesOff_9 2 rfl rfl)
theorem dX7_takesOff_212 : decode cX7_takesOff 212 = .ok (.istore 11, 2) := dk_54 11 (dk_at dksX7_takesOff_9 3 rfl rfl)
theorem dX7_takesOff_214 : decode cX7_takesOff 214 = .ok (.iload 11, 2) := dk_21 11 (dk_at dksX7_takesOff_9 5 rfl rfl)
theorem dX7_takesOff_216 : decode cX7_takesOff 216 = .ok (.iload 6, 2) := dk_21 6 (dk_at dksX7_takesOff_9 7 rfl rfl)
theorem dX7_takesOff_218 : decode cX7_takesOff 218 = .ok (.if_icmp .gt 80, 3) := dk_163 0 80 (dk_at dksX7_takesOff_9 9 rfl rfl)
theorem dX7_takesOff_221 : decode cX7_takesOff 221 = .ok (.iconst 0, 1) := dk_3 (dk_at dksX7_takesOff_9 12 rfl rfl)
theorem dX7_takesOff_222 : decode cX7_takesOff 222 = .ok (.istore 12, 2) := dk_54 12 (dk_at dksX7_takesOff_9 13 rfl rfl)
theorem dX7_takesOff_224 : decode cX7_takesOff 224 = .ok (.iload 12, 2) := dk_21 12 (dk_at dksX7_takesOff_9 15 rfl rfl)
theorem dX7_takesOff_226 : decode cX7_takesOff 226 = .ok (.iload 10, 2) := dk_21 10 (dk_at dksX7_takesOff_9 17 rfl rfl)
theorem dX7_takesOff_228 : decode cX7_takesOff 228 = .ok (.if_icmp .gt 64, 3) := dk_163 0 64 (dk_at dksX7_takesOff_9 19 rfl rfl)
theorem dX7_takesOff_231 : decode cX7_takesOff 231 = .ok (.aload_n 0, 1) := dk_42 (dk_at dksX7_takesOff_9 22 rfl rfl)
theorem dX7_takesOff_232 : decode cX7_takesOff 232 = .ok (.getfield 83, 3) := dk_180 0 83 (dk_at dksX7_takesOff_10 0 rfl rfl)
theorem dX7_takesOff_235 : decode cX7_takesOff 235 = .ok (.iload 11, 2) := dk_21 11 (dk_at dksX7_takesOff_10 3 rfl rfl)
theorem dX7_takesOff_237 : decode cX7_takesOff 237 = .ok (.iload 12, 2) := dk_21 12 (dk_at dksX7_takesOff_10 5 rfl rfl)
theorem dX7_takesOff_239 : decode cX7_takesOff 239 = .ok (.iadd, 1) := dk_96 (dk_at dksX7_takesOff_10 7 rfl rfl)
theorem dX7_takesOff_240 : decode cX7_takesOff 240 = .ok (.aload_n 0, 1) := dk_42 (dk_at dksX7_takesOff_10 8 rfl rfl)
theorem dX7_takesOff_241 : decode cX7_takesOff 241 = .ok (.getfield 83, 3) := dk_180 0 83 (dk_at dksX7_takesOff_10 9 rfl rfl)
theorem dX7_takesOff_244 : decode cX7_takesOff 244 = .ok (.iload 11, 2) := dk_21 11 (dk_at dksX7_takesOff_10 12 rfl rfl)
theorem dX7_takesOff_246 : decode cX7_takesOff 246 = .ok (.iload 12, 2) := dk_21 12 (dk_at dksX7_takesOff_10 14 rfl rfl)
theorem dX7_takesOff_248 : decode cX7_takesOff 248 = .ok (.iadd, 1) := dk_96 (dk_at dksX7_takesOff_10 16 rfl rfl)
theorem dX7_takesOff_249 : decode cX7_takesOff 249 = .ok (.iaload, 1) := dk_46 (dk_at dksX7_takesOff_10 17 rfl rfl)
theorem dX7_takesOff_250 : decode cX7_takesOff 250 = .ok (.aload_n 0, 1) := dk_42 (dk_at dksX7_takesOff_10 18 rfl rfl)
theorem dX7_takesOff_251 : decode cX7_takesOff 251 = .ok (.getfield 231, 3) := dk_180 0 231 (dk_at dksX7_takesOff_10 19 rfl rfl)
theorem dX7_takesOff_254 : decode cX7_takesOff 254 = .ok (.aload_n 0, 1) := dk_42 (dk_at dksX7_takesOff_10 22 rfl rfl)
theorem dX7_takesOff_255 : decode cX7_takesOff 255 = .ok (.getfield 80, 3) := dk_180 0 80 (dk_at dksX7_takesOff_11 0 rfl rfl)
theorem dX7_takesOff_258 : decode cX7_takesOff 258 = .ok (.iload 11, 2) := dk_21 11 (dk_at dksX7_takesOff_11 3 rfl rfl)
theorem dX7_takesOff_260 : decode cX7_takesOff 260 = .ok (.iaload, 1) := dk_46 (dk_at dksX7_takesOff_11 5 rfl rfl)
theorem dX7_takesOff_261 : decode cX7_takesOff 261 = .ok (.isub, 1) := dk_100 (dk_at dksX7_takesOff_11 6 rfl rfl)
theorem dX7_takesOff_262 : decode cX7_takesOff 262 = .ok (.aload_n 2, 1) := dk_44 (dk_at dksX7_takesOff_11 7 rfl rfl)
theorem dX7_takesOff_263 : decode cX7_takesOff 263 = .ok (.sipush 2304, 3) := dk_17 9 0 (dk_at dksX7_takesOff_11 8 rfl rfl)
theorem dX7_takesOff_266 : decode cX7_takesOff 266 = .ok (.iload 7, 2) := dk_21 7 (dk_at dksX7_takesOff_11 11 rfl rfl)
theorem dX7_takesOff_268 : decode cX7_takesOff 268 = .ok (.iload_n 3, 1) := dk_29 (dk_at dksX7_takesOff_11 13 rfl rfl)
theorem dX7_takesOff_269 : decode cX7_takesOff 269 = .ok (.isub, 1) := dk_100 (dk_at dksX7_takesOff_11 14 rfl rfl)
theorem dX7_takesOff_270 : decode cX7_takesOff 270 = .ok (.iload 4, 2) := dk_21 4 (dk_at dksX7_takesOff_11 15 rfl rfl)
theorem dX7_takesOff_272 : decode cX7_takesOff 272 = .ok (.iadd, 1) := dk_96 (dk_at dksX7_takesOff_11 17 rfl rfl)
theorem dX7_takesOff_273 : decode cX7_takesOff 273 = .ok (.imul, 1) := dk_104 (dk_at dksX7_takesOff_11 18 rfl rfl)
theorem dX7_takesOff_274 : decode cX7_takesOff 274 = .ok (.iload 12, 2) := dk_21 12 (dk_at dksX7_takesOff_11 19 rfl rfl)
theorem dX7_takesOff_276 : decode cX7_takesOff 276 = .ok (.iadd, 1) := dk_96 (dk_at dksX7_takesOff_11 21 rfl rfl)
theorem dX7_takesOff_277 : decode cX7_takesOff 277 = .ok (.iaload, 1) := dk_46 (dk_at dksX7_takesOff_11 22 rfl rfl)
theorem dX7_takesOff_278 : decode cX7_takesOff 278 = .ok (.imul, 1) := dk_104 (dk_at dksX7_takesOff_11 23 rfl rfl)
theorem dX7_takesOff_279 : decode cX7_takesOff 279 = .ok (.iadd, 1) := dk_96 (dk_at dksX7_takesOff_12 0 rfl rfl)
theorem dX7_takesOff_280 : decode cX7_takesOff 280 = .ok (.aload_n 0, 1) := dk_42 (dk_at dksX7_takesOff_12 1 rfl rfl)
theorem dX7_takesOff_281 : decode cX7_takesOff 281 = .ok (.getfield 231, 3) := dk_180 0 231 (dk_at dksX7_takesOff_12 2 rfl rfl)
theorem dX7_takesOff_284 : decode cX7_takesOff 284 = .ok (.irem, 1) := dk_112 (dk_at dksX7_takesOff_12 5 rfl rfl)
theorem dX7_takesOff_285 : decode cX7_takesOff 285 = .ok (.iastore, 1) := dk_79 (dk_at dksX7_takesOff_12 6 rfl rfl)
theorem dX7_takesOff_286 : decode cX7_takesOff 286 = .ok (.iinc 12 1, 3) := dk_132 12 1 (dk_at dksX7_takesOff_12 7 rfl rfl)
theorem dX7_takesOff_289 : decode cX7_takesOff 289 = .ok (.goto (-65), 3) := dk_167 255 191 (dk_at dksX7_takesOff_12 10 rfl rfl)
theorem dX7_takesOff_292 : decode cX7_takesOff 292 = .ok (.iinc 11 1, 3) := dk_132 11 1 (dk_at dksX7_takesOff_12 13 rfl rfl)
theorem dX7_takesOff_295 : decode cX7_takesOff 295 = .ok (.goto (-81), 3) := dk_167 255 175 (dk_at dksX7_takesOff_12 16 rfl rfl)
theorem dX7_takesOff_298 : decode cX7_takesOff 298 = .ok (.iconst 0, 1) := dk_3 (dk_at dksX7_takesOff_12 19 rfl rfl)
theorem dX7_takesOff_299 : decode cX7_takesOff 299 = .ok (.istore 11, 2) := dk_54 11 (dk_at dksX7_takesOff_12 20 rfl rfl)
theorem dX7_takesOff_301 : decode cX7_takesOff 301 = .ok (.iload 11, 2) := dk_21 11 (dk_at dksX7_takesOff_12 22 rfl rfl)
theorem dX7_takesOff_303 : decode cX7_takesOff 303 = .ok (.sipush 2304, 3) := dk_17 9 0 (dk_at dksX7_takesOff_13 0 rfl rfl)
theorem dX7_takesOff_306 : decode cX7_takesOff 306 = .ok (.if_icmp .ge 23, 3) := dk_162 0 23 (dk_at dksX7_takesOff_13 3 rfl rfl)
theorem dX7_takesOff_309 : decode cX7_takesOff 309 = .ok (.aload_n 1, 1) := dk_43 (dk_at dksX7_takesOff_13 6 rfl rfl)
theorem dX7_takesOff_310 : decode cX7_takesOff 310 = .ok (.iload 8, 2) := dk_21 8 (dk_at dksX7_takesOff_13 7 rfl rfl)
theorem dX7_takesOff_312 : decode cX7_takesOff 312 = .ok (.iload 11, 2) := dk_21 11 (dk_at dksX7_takesOff_13 9 rfl rfl)
theorem dX7_takesOff_314 : decode cX7_takesOff 314 = .ok (.iadd, 1) := dk_96 (dk_at dksX7_takesOff_13 11 rfl rfl)
theorem dX7_takesOff_315 : decode cX7_takesOff 315 = .ok (.aload_n 0, 1) := dk_42 (dk_at dksX7_takesOff_13 12 rfl rfl)
theorem dX7_takesOff_316 : decode cX7_takesOff 316 = .ok (.getfield 83, 3) := dk_180 0 83 (dk_at dksX7_takesOff_13 13 rfl rfl)
theorem dX7_takesOff_319 : decode cX7_takesOff 319 = .ok (.iload 11, 2) := dk_21 11 (dk_at dksX7_takesOff_13 16 rfl rfl)
theorem dX7_takesOff_321 : decode cX7_takesOff 321 = .ok (.iaload, 1) := dk_46 (dk_at dksX7_takesOff_13 18 rfl rfl)
theorem dX7_takesOff_322 : decode cX7_takesOff 322 = .ok (.iastore, 1) := dk_79 (dk_at dksX7_takesOff_13 19 rfl rfl)
theorem dX7_takesOff_323 : decode cX7_takesOff 323 = .ok (.iinc 11 1, 3) := dk_132 11 1 (dk_at dksX7_takesOff_13 20 rfl rfl)
theorem dX7_takesOff_326 : decode cX7_takesOff 326 = .ok (.goto (-25), 3) := dk_167 255 231 (dk_at dksX7_takesOff_14 0 rfl rfl)
theorem dX7_takesOff_329 : decode cX7_takesOff 329 = .ok (.iinc 7 1, 3) := dk_132 7 1 (dk_at dksX7_takesOff_14 3 rfl rfl)
theorem dX7_takesOff_332 : decode cX7_takesOff 332 = .ok (.goto (-271), 3) := dk_167 254 241 (dk_at dksX7_takesOff_14 6 rfl rfl)
theorem dX7_takesOff_335 : decode cX7_takesOff 335 = .ok (.aload_n 0, 1) := dk_42 (dk_at dksX7_takesOff_14 9 rfl rfl)
theorem dX7_takesOff_336 : decode cX7_takesOff 336 = .ok (.aload_n 1, 1) := dk_43 (dk_at dksX7_takesOff_14 10 rfl rfl)
theorem dX7_takesOff_337 : decode cX7_takesOff 337 = .ok (.invokevirtual 416, 3) := dk_182 1 160 (dk_at dksX7_takesOff_14 11 rfl rfl)
theorem dX7_takesOff_340 : decode cX7_takesOff 340 = .ok (.return_, 1) := dk_177 (dk_at dksX7_takesOff_14 14 rfl rfl)
abbrev cX7_laysWork : ByteArray := prog_10_method_100_code
def yX7_laysWork : MethodName := ⟨RX7, "laysWork", "([I)V"⟩
def dkwX7_laysWork_2 : List UInt8 := [132, 2, 1, 167, 255, 213, 177]
abbrev dktX7_laysWork_2 : List UInt8 := dkwX7_laysWork_2 ++ []
def dkwX7_laysWork_1 : List UInt8 := [28, 29, 3, 184, 1, 32, 43, 17, 9, 0, 28, 104, 29, 96, 46, 79, 132, 3, 1, 167, 255, 227]
abbrev dktX7_laysWork_1 : List UInt8 := dkwX7_laysWork_1 ++ dktX7_laysWork_2
def dkwX7_laysWork_0 : List UInt8 := [42, 182, 1, 105, 3, 61, 28, 16, 16, 162, 0, 43, 3, 62, 29, 16, 16, 162, 0, 29, 42, 180, 0, 31]
abbrev dktX7_laysWork_0 : List UInt8 := dkwX7_laysWork_0 ++ dktX7_laysWork_1
theorem dksX7_laysWork_0 : cX7_laysWork.data.toList.drop 0 = dktX7_laysWork_0 := by decide +kernel
theorem dksX7_laysWork_1 : cX7_laysWork.data.toList.drop 24 = dktX7_laysWork_1 := dk_seg dksX7_laysWork_0 24 rfl rfl
theorem dksX7_laysWork_2 : cX7_laysWork.data.toList.drop 46 = dktX7_laysWork_2 := dk_seg dksX7_laysWork_1 22 rfl rfl
theorem dX7_laysWork_0 : decode cX7_laysWork 0 = .ok (.aload_n 0, 1) := dk_42 (dk_at dksX7_laysWork_0 0 rfl rfl)
theorem dX7_laysWork_1 : decode cX7_laysWork 1 = .ok (.invokevirtual 361, 3) := dk_182 1 105 (dk_at dksX7_laysWork_0 1 rfl rfl)
theorem dX7_laysWork_4 : decode cX7_laysWork 4 = .ok (.iconst 0, 1) := dk_3 (dk_at dksX7_laysWork_0 4 rfl rfl)
theorem dX7_laysWork_5 : decode cX7_laysWork 5 = .ok (.istore_n 2, 1) := dk_61 (dk_at dksX7_laysWork_0 5 rfl rfl)
theorem dX7_laysWork_6 : decode cX7_laysWork 6 = .ok (.iload_n 2, 1) := dk_28 (dk_at dksX7_laysWork_0 6 rfl rfl)
theorem dX7_laysWork_7 : decode cX7_laysWork 7 = .ok (.bipush 16, 2) := dk_16 16 (dk_at dksX7_laysWork_0 7 rfl rfl)
theorem dX7_laysWork_9 : decode cX7_laysWork 9 = .ok (.if_icmp .ge 43, 3) := dk_162 0 43 (dk_at dksX7_laysWork_0 9 rfl rfl)
theorem dX7_laysWork_12 : decode cX7_laysWork 12 = .ok (.iconst 0, 1) := dk_3 (dk_at dksX7_laysWork_0 12 rfl rfl)
theorem dX7_laysWork_13 : decode cX7_laysWork 13 = .ok (.istore_n 3, 1) := dk_62 (dk_at dksX7_laysWork_0 13 rfl rfl)
theorem dX7_laysWork_14 : decode cX7_laysWork 14 = .ok (.iload_n 3, 1) := dk_29 (dk_at dksX7_laysWork_0 14 rfl rfl)
theorem dX7_laysWork_15 : decode cX7_laysWork 15 = .ok (.bipush 16, 2) := dk_16 16 (dk_at dksX7_laysWork_0 15 rfl rfl)
theorem dX7_laysWork_17 : decode cX7_laysWork 17 = .ok (.if_icmp .ge 29, 3) := dk_162 0 29 (dk_at dksX7_laysWork_0 17 rfl rfl)
theorem dX7_laysWork_20 : decode cX7_laysWork 20 = .ok (.aload_n 0, 1) := dk_42 (dk_at dksX7_laysWork_0 20 rfl rfl)
theorem dX7_laysWork_21 : decode cX7_laysWork 21 = .ok (.getfield 31, 3) := dk_180 0 31 (dk_at dksX7_laysWork_0 21 rfl rfl)
theorem dX7_laysWork_24 : decode cX7_laysWork 24 = .ok (.iload_n 2, 1) := dk_28 (dk_at dksX7_laysWork_1 0 rfl rfl)
theorem dX7_laysWork_25 : decode cX7_laysWork 25 = .ok (.iload_n 3, 1) := dk_29 (dk_at dksX7_laysWork_1 1 rfl rfl)
theorem dX7_laysWork_26 : decode cX7_laysWork 26 = .ok (.iconst 0, 1) := dk_3 (dk_at dksX7_laysWork_1 2 rfl rfl)
theorem dX7_laysWork_27 : decode cX7_laysWork 27 = .ok (.invokestatic 288, 3) := dk_184 1 32 (dk_at dksX7_laysWork_1 3 rfl rfl)
theorem dX7_laysWork_30 : decode cX7_laysWork 30 = .ok (.aload_n 1, 1) := dk_43 (dk_at dksX7_laysWork_1 6 rfl rfl)
theorem dX7_laysWork_31 : decode cX7_laysWork 31 = .ok (.sipush 2304, 3) := dk_17 9 0 (dk_at dksX7_laysWork_1 7 rfl rfl)
theorem dX7_laysWork_34 : decode cX7_laysWork 34 = .ok (.iload_n 2, 1) := dk_28 (dk_at dksX7_laysWork_1 10 rfl rfl)
theorem dX7_laysWork_35 : decode cX7_laysWork 35 = .ok (.imul, 1) := dk_104 (dk_at dksX7_laysWork_1 11 rfl rfl)
theorem dX7_laysWork_36 : decode cX7_laysWork 36 = .ok (.iload_n 3, 1) := dk_29 (dk_at dksX7_laysWork_1 12 rfl rfl)
theorem dX7_laysWork_37 : decode cX7_laysWork 37 = .ok (.iadd, 1) := dk_96 (dk_at dksX7_laysWork_1 13 rfl rfl)
theorem dX7_laysWork_38 : decode cX7_laysWork 38 = .ok (.iaload, 1) := dk_46 (dk_at dksX7_laysWork_1 14 rfl rfl)
theorem dX7_laysWork_39 : decode cX7_laysWork 39 = .ok (.iastore, 1) := dk_79 (dk_at dksX7_laysWork_1 15 rfl rfl)
theorem dX7_laysWork_40 : decode cX7_laysWork 40 = .ok (.iinc 3 1, 3) := dk_132 3 1 (dk_at dksX7_laysWork_1 16 rfl rfl)
theorem dX7_laysWork_43 : decode cX7_laysWork 43 = .ok (.goto (-29), 3) := dk_167 255 227 (dk_at dksX7_laysWork_1 19 rfl rfl)
theorem dX7_laysWork_46 : decode cX7_laysWork 46 = .ok (.iinc 2 1, 3) := dk_132 2 1 (dk_at dksX7_laysWork_2 0 rfl rfl)
theorem dX7_laysWork_49 : decode cX7_laysWork 49 = .ok (.goto (-43), 3) := dk_167 255 213 (dk_at dksX7_laysWork_2 3 rfl rfl)
theorem dX7_laysWork_52 : decode cX7_laysWork 52 = .ok (.return_, 1) := dk_177 (dk_at dksX7_laysWork_2 6 rfl rfl)
abbrev cX7_monicWork : ByteArray := prog_10_method_101_code
def yX7_monicWork : MethodName := ⟨RX7, "monicWork", "()V"⟩
def dkwX7_monicWork_3 : List UInt8 := [29, 46, 28, 104, 42, 180, 0, 231, 112, 79, 132, 3, 1, 167, 255, 227, 177]
abbrev dktX7_monicWork_3 : List UInt8 := dkwX7_monicWork_3 ++ []
def dkwX7_monicWork_2 : List UInt8 := [46, 46, 182, 1, 81, 61, 3, 62, 29, 17, 16, 0, 162, 0, 28, 42, 180, 0, 31, 29, 42, 180, 0, 31]
abbrev dktX7_monicWork_2 : List UInt8 := dkwX7_monicWork_2 ++ dktX7_monicWork_3
def dkwX7_monicWork_1 : List UInt8 := [132, 1, 1, 167, 255, 232, 27, 17, 16, 0, 160, 0, 4, 177, 42, 42, 180, 0, 31, 42, 180, 0, 25, 27]
abbrev dktX7_monicWork_1 : List UInt8 := dkwX7_monicWork_1 ++ dktX7_monicWork_2
def dkwX7_monicWork_0 : List UInt8 := [3, 60, 27, 17, 16, 0, 162, 0, 23, 42, 180, 0, 31, 42, 180, 0, 25, 27, 46, 46, 154, 0, 9]
abbrev dktX7_monicWork_0 : List UInt8 := dkwX7_monicWork_0 ++ dktX7_monicWork_1
theorem dksX7_monicWork_0 : cX7_monicWork.data.toList.drop 0 = dktX7_monicWork_0 := by decide +kernel
theorem dksX7_monicWork_1 : cX7_monicWork.data.toList.drop 23 = dktX7_monicWork_1 := dk_seg dksX7_monicWork_0 23 rfl rfl
theorem dksX7_monicWork_2 : cX7_monicWork.data.toList.drop 47 = dktX7_monicWork_2 := dk_seg dksX7_monicWork_1 24 rfl rfl
theorem dksX7_monicWork_3 : cX7_monicWork.data.toList.drop 71 = dktX7_monicWork_3 := dk_seg dksX7_monicWork_2 24 rfl rfl
theorem dX7_monicWork_0 : decode cX7_monicWork 0 = .ok (.iconst 0, 1) := dk_3 (dk_at dksX7_monicWork_0 0 rfl rfl)
theorem dX7_monicWork_1 : decode cX7_monicWork 1 = .ok (.istore_n 1, 1) := dk_60 (dk_at dksX7_monicWork_0 1 rfl rfl)
theorem dX7_monicWork_2 : decode cX7_monicWork 2 = .ok (.iload_n 1, 1) := dk_27 (dk_at dksX7_monicWork_0 2 rfl rfl)
theorem dX7_monicWork_3 : decode cX7_monicWork 3 = .ok (.sipush 4096, 3) := dk_17 16 0 (dk_at dksX7_monicWork_0 3 rfl rfl)
theorem dX7_monicWork_6 : decode cX7_monicWork 6 = .ok (.if_icmp .ge 23, 3) := dk_162 0 23 (dk_at dksX7_monicWork_0 6 rfl rfl)
theorem dX7_monicWork_9 : decode cX7_monicWork 9 = .ok (.aload_n 0, 1) := dk_42 (dk_at dksX7_monicWork_0 9 rfl rfl)
theorem dX7_monicWork_10 : decode cX7_monicWork 10 = .ok (.getfield 31, 3) := dk_180 0 31 (dk_at dksX7_monicWork_0 10 rfl rfl)
theorem dX7_monicWork_13 : decode cX7_monicWork 13 = .ok (.aload_n 0, 1) := dk_42 (dk_at dksX7_monicWork_0 13 rfl rfl)
theorem dX7_monicWork_14 : decode cX7_monicWork 14 = .ok (.getfield 25, 3) := dk_180 0 25 (dk_at dksX7_monicWork_0 14 rfl rfl)
theorem dX7_monicWork_17 : decode cX7_monicWork 17 = .ok (.iload_n 1, 1) := dk_27 (dk_at dksX7_monicWork_0 17 rfl rfl)
theorem dX7_monicWork_18 : decode cX7_monicWork 18 = .ok (.iaload, 1) := dk_46 (dk_at dksX7_monicWork_0 18 rfl rfl)
theorem dX7_monicWork_19 : decode cX7_monicWork 19 = .ok (.iaload, 1) := dk_46 (dk_at dksX7_monicWork_0 19 rfl rfl)
theorem dX7_monicWork_20 : decode cX7_monicWork 20 = .ok (.ifCond .ne 9, 3) := dk_154 0 9 (dk_at dksX7_monicWork_0 20 rfl rfl)
theorem dX7_monicWork_23 : decode cX7_monicWork 23 = .ok (.iinc 1 1, 3) := dk_132 1 1 (dk_at dksX7_monicWork_1 0 rfl rfl)
theorem dX7_monicWork_26 : decode cX7_monicWork 26 = .ok (.goto (-24), 3) := dk_167 255 232 (dk_at dksX7_monicWork_1 3 rfl rfl)
theorem dX7_monicWork_29 : decode cX7_monicWork 29 = .ok (.iload_n 1, 1) := dk_27 (dk_at dksX7_monicWork_1 6 rfl rfl)
theorem dX7_monicWork_30 : decode cX7_monicWork 30 = .ok (.sipush 4096, 3) := dk_17 16 0 (dk_at dksX7_monicWork_1 7 rfl rfl)
theorem dX7_monicWork_33 : decode cX7_monicWork 33 = .ok (.if_icmp .ne 4, 3) := dk_160 0 4 (dk_at dksX7_monicWork_1 10 rfl rfl)
theorem dX7_monicWork_36 : decode cX7_monicWork 36 = .ok (.return_, 1) := dk_177 (dk_at dksX7_monicWork_1 13 rfl rfl)
theorem dX7_monicWork_37 : decode cX7_monicWork 37 = .ok (.aload_n 0, 1) := dk_42 (dk_at dksX7_monicWork_1 14 rfl rfl)
theorem dX7_monicWork_38 : decode cX7_monicWork 38 = .ok (.aload_n 0, 1) := dk_42 (dk_at dksX7_monicWork_1 15 rfl rfl)
theorem dX7_monicWork_39 : decode cX7_monicWork 39 = .ok (.getfield 31, 3) := dk_180 0 31 (dk_at dksX7_monicWork_1 16 rfl rfl)
theorem dX7_monicWork_42 : decode cX7_monicWork 42 = .ok (.aload_n 0, 1) := dk_42 (dk_at dksX7_monicWork_1 19 rfl rfl)
theorem dX7_monicWork_43 : decode cX7_monicWork 43 = .ok (.getfield 25, 3) := dk_180 0 25 (dk_at dksX7_monicWork_1 20 rfl rfl)
theorem dX7_monicWork_46 : decode cX7_monicWork 46 = .ok (.iload_n 1, 1) := dk_27 (dk_at dksX7_monicWork_1 23 rfl rfl)
theorem dX7_monicWork_47 : decode cX7_monicWork 47 = .ok (.iaload, 1) := dk_46 (dk_at dksX7_monicWork_2 0 rfl rfl)
theorem dX7_monicWork_48 : decode cX7_monicWork 48 = .ok (.iaload, 1) := dk_46 (dk_at dksX7_monicWork_2 1 rfl rfl)
theorem dX7_monicWork_49 : decode cX7_monicWork 49 = .ok (.invokevirtual 337, 3) := dk_182 1 81 (dk_at dksX7_monicWork_2 2 rfl rfl)
theorem dX7_monicWork_52 : decode cX7_monicWork 52 = .ok (.istore_n 2, 1) := dk_61 (dk_at dksX7_monicWork_2 5 rfl rfl)
theorem dX7_monicWork_53 : decode cX7_monicWork 53 = .ok (.iconst 0, 1) := dk_3 (dk_at dksX7_monicWork_2 6 rfl rfl)
theorem dX7_monicWork_54 : decode cX7_monicWork 54 = .ok (.istore_n 3, 1) := dk_62 (dk_at dksX7_monicWork_2 7 rfl rfl)
theorem dX7_monicWork_55 : decode cX7_monicWork 55 = .ok (.iload_n 3, 1) := dk_29 (dk_at dksX7_monicWork_2 8 rfl rfl)
theorem dX7_monicWork_56 : decode cX7_monicWork 56 = .ok (.sipush 4096, 3) := dk_17 16 0 (dk_at dksX7_monicWork_2 9 rfl rfl)
theorem dX7_monicWork_59 : decode cX7_monicWork 59 = .ok (.if_icmp .ge 28, 3) := dk_162 0 28 (dk_at dksX7_monicWork_2 12 rfl rfl)
theorem dX7_monicWork_62 : decode cX7_monicWork 62 = .ok (.aload_n 0, 1) := dk_42 (dk_at dksX7_monicWork_2 15 rfl rfl)
theorem dX7_monicWork_63 : decode cX7_monicWork 63 = .ok (.getfield 31, 3) := dk_180 0 31 (dk_at dksX7_monicWork_2 16 rfl rfl)
theorem dX7_monicWork_66 : decode cX7_monicWork 66 = .ok (.iload_n 3, 1) := dk_29 (dk_at dksX7_monicWork_2 19 rfl rfl)
theorem dX7_monicWork_67 : decode cX7_monicWork 67 = .ok (.aload_n 0, 1) := dk_42 (dk_at dksX7_monicWork_2 20 rfl rfl)
theorem dX7_monicWork_68 : decode cX7_monicWork 68 = .ok (.getfield 31, 3) := dk_180 0 31 (dk_at dksX7_monicWork_2 21 rfl rfl)
theorem dX7_monicWork_71 : decode cX7_monicWork 71 = .ok (.iload_n 3, 1) := dk_29 (dk_at dksX7_monicWork_3 0 rfl rfl)
theorem dX7_monicWork_72 : decode cX7_monicWork 72 = .ok (.iaload, 1) := dk_46 (dk_at dksX7_monicWork_3 1 rfl rfl)
theorem dX7_monicWork_73 : decode cX7_monicWork 73 = .ok (.iload_n 2, 1) := dk_28 (dk_at dksX7_monicWork_3 2 rfl rfl)
theorem dX7_monicWork_74 : decode cX7_monicWork 74 = .ok (.imul, 1) := dk_104 (dk_at dksX7_monicWork_3 3 rfl rfl)
theorem dX7_monicWork_75 : decode cX7_monicWork 75 = .ok (.aload_n 0, 1) := dk_42 (dk_at dksX7_monicWork_3 4 rfl rfl)
theorem dX7_monicWork_76 : decode cX7_monicWork 76 = .ok (.getfield 231, 3) := dk_180 0 231 (dk_at dksX7_monicWork_3 5 rfl rfl)
theorem dX7_monicWork_79 : decode cX7_monicWork 79 = .ok (.irem, 1) := dk_112 (dk_at dksX7_monicWork_3 8 rfl rfl)
theorem dX7_monicWork_80 : decode cX7_monicWork 80 = .ok (.iastore, 1) := dk_79 (dk_at dksX7_monicWork_3 9 rfl rfl)
theorem dX7_monicWork_81 : decode cX7_monicWork 81 = .ok (.iinc 3 1, 3) := dk_132 3 1 (dk_at dksX7_monicWork_3 10 rfl rfl)
theorem dX7_monicWork_84 : decode cX7_monicWork 84 = .ok (.goto (-29), 3) := dk_167 255 227 (dk_at dksX7_monicWork_3 13 rfl rfl)
theorem dX7_monicWork_87 : decode cX7_monicWork 87 = .ok (.return_, 1) := dk_177 (dk_at dksX7_monicWork_3 16 rfl rfl)
abbrev cX7_content : ByteArray := prog_10_method_104_code
def yX7_content : MethodName := ⟨RX7, "content", "(II)I"⟩
def dkwX7_content_4 : List UInt8 := [167, 255, 230, 42, 28, 182, 1, 126, 172]
abbrev dktX7_content_4 : List UInt8 := dkwX7_content_4 ++ []
def dkwX7_content_3 : List UInt8 := [162, 0, 26, 42, 180, 0, 31, 3, 29, 3, 184, 1, 32, 42, 180, 0, 77, 29, 46, 79, 132, 3, 1]
abbrev dktX7_content_3 : List UInt8 := dkwX7_content_3 ++ dktX7_content_4
def dkwX7_content_2 : List UInt8 := [182, 1, 169, 42, 42, 180, 0, 68, 42, 180, 0, 77, 182, 1, 149, 42, 182, 1, 105, 3, 62, 29, 16, 16]
abbrev dktX7_content_2 : List UInt8 := dkwX7_content_2 ++ dktX7_content_3
def dkwX7_content_1 : List UInt8 := [182, 0, 221, 172, 42, 27, 182, 1, 166, 153, 0, 9, 42, 8, 182, 0, 221, 172, 42, 27, 42, 180, 0, 68]
abbrev dktX7_content_1 : List UInt8 := dkwX7_content_1 ++ dktX7_content_2
def dkwX7_content_0 : List UInt8 := [42, 3, 181, 0, 89, 42, 27, 182, 1, 20, 153, 0, 11, 42, 28, 182, 1, 20, 154, 0, 9, 42, 4]
abbrev dktX7_content_0 : List UInt8 := dkwX7_content_0 ++ dktX7_content_1
theorem dksX7_content_0 : cX7_content.data.toList.drop 0 = dktX7_content_0 := by decide +kernel
theorem dksX7_content_1 : cX7_content.data.toList.drop 23 = dktX7_content_1 := dk_seg dksX7_content_0 23 rfl rfl
theorem dksX7_content_2 : cX7_content.data.toList.drop 47 = dktX7_content_2 := dk_seg dksX7_content_1 24 rfl rfl
theorem dksX7_content_3 : cX7_content.data.toList.drop 71 = dktX7_content_3 := dk_seg dksX7_content_2 24 rfl rfl
theorem dksX7_content_4 : cX7_content.data.toList.drop 94 = dktX7_content_4 := dk_seg dksX7_content_3 23 rfl rfl
theorem dX7_content_0 : decode cX7_content 0 = .ok (.aload_n 0, 1) := dk_42 (dk_at dksX7_content_0 0 rfl rfl)
theorem dX7_content_1 : decode cX7_content 1 = .ok (.iconst 0, 1) := dk_3 (dk_at dksX7_content_0 1 rfl rfl)
theorem dX7_content_2 : decode cX7_content 2 = .ok (.putfield 89, 3) := dk_181 0 89 (dk_at dksX7_content_0 2 rfl rfl)
theorem dX7_content_5 : decode cX7_content 5 = .ok (.aload_n 0, 1) := dk_42 (dk_at dksX7_content_0 5 rfl rfl)
theorem dX7_content_6 : decode cX7_content 6 = .ok (.iload_n 1, 1) := dk_27 (dk_at dksX7_content_0 6 rfl rfl)
theorem dX7_content_7 : decode cX7_content 7 = .ok (.invokevirtual 276, 3) := dk_182 1 20 (dk_at dksX7_content_0 7 rfl rfl)
theorem dX7_content_10 : decode cX7_content 10 = .ok (.ifCond .eq 11, 3) := dk_153 0 11 (dk_at dksX7_content_0 10 rfl rfl)
theorem dX7_content_13 : decode cX7_content 13 = .ok (.aload_n 0, 1) := dk_42 (dk_at dksX7_content_0 13 rfl rfl)
theorem dX7_content_14 : decode cX7_content 14 = .ok (.iload_n 2, 1) := dk_28 (dk_at dksX7_content_0 14 rfl rfl)
theorem dX7_content_15 : decode cX7_content 15 = .ok (.invokevirtual 276, 3) := dk_182 1 20 (dk_at dksX7_content_0 15 rfl rfl)
theorem dX7_content_18 : decode cX7_content 18 = .ok (.ifCond .ne 9, 3) := dk_154 0 9 (dk_at dksX7_content_0 18 rfl rfl)
theorem dX7_content_21 : decode cX7_content 21 = .ok (.aload_n 0, 1) := dk_42 (dk_at dksX7_content_0 21 rfl rfl)
theorem dX7_content_22 : decode cX7_content 22 = .ok (.iconst 1, 1) := dk_4 (dk_at dksX7_content_0 22 rfl rfl)
theorem dX7_content_23 : decode cX7_content 23 = .ok (.invokevirtual 221, 3) := dk_182 0 221 (dk_at dksX7_content_1 0 rfl rfl)
theorem dX7_content_26 : decode cX7_content 26 = .ok (.ireturn, 1) := dk_172 (dk_at dksX7_content_1 3 rfl rfl)
theorem dX7_content_27 : decode cX7_content 27 = .ok (.aload_n 0, 1) := dk_42 (dk_at dksX7_content_1 4 rfl rfl)
theorem dX7_content_28 : decode cX7_content 28 = .ok (.iload_n 1, 1) := dk_27 (dk_at dksX7_content_1 5 rfl rfl)
theorem dX7_content_29 : decode cX7_content 29 = .ok (.invokevirtual 422, 3) := dk_182 1 166 (dk_at dksX7_content_1 6 rfl rfl)
theorem dX7_content_32 : decode cX7_content 32 = .ok (.ifCond .eq 9, 3) := dk_153 0 9 (dk_at dksX7_content_1 9 rfl rfl)
theorem dX7_content_35 : decode cX7_content 35 = .ok (.aload_n 0, 1) := dk_42 (dk_at dksX7_content_1 12 rfl rfl)
theorem dX7_content_36 : decode cX7_content 36 = .ok (.iconst 5, 1) := dk_8 (dk_at dksX7_content_1 13 rfl rfl)
theorem dX7_content_37 : decode cX7_content 37 = .ok (.invokevirtual 221, 3) := dk_182 0 221 (dk_at dksX7_content_1 14 rfl rfl)
theorem dX7_content_40 : decode cX7_content 40 = .ok (.ireturn, 1) := dk_172 (dk_at dksX7_content_1 17 rfl rfl)
theorem dX7_content_41 : decode cX7_content 41 = .ok (.aload_n 0, 1) := dk_42 (dk_at dksX7_content_1 18 rfl rfl)
theorem dX7_content_42 : decode cX7_content 42 = .ok (.iload_n 1, 1) := dk_27 (dk_at dksX7_content_1 19 rfl rfl)
theorem dX7_content_43 : decode cX7_content 43 = .ok (.aload_n 0, 1) := dk_42 (dk_at dksX7_content_1 20 rfl rfl)
theorem dX7_content_44 : decode cX7_content 44 = .ok (.getfield 68, 3) := dk_180 0 68 (dk_at dksX7_content_1 21 rfl rfl)
theorem dX7_content_47 : decode cX7_content 47 = .ok (.invokevirtual 425, 3) := dk_182 1 169 (dk_at dksX7_content_2 0 rfl rfl)
theorem dX7_content_50 : decode cX7_content 50 = .ok (.aload_n 0, 1) := dk_42 (dk_at dksX7_content_2 3 rfl rfl)
theorem dX7_content_51 : decode cX7_content 51 = .ok (.aload_n 0, 1) := dk_42 (dk_at dksX7_content_2 4 rfl rfl)
theorem dX7_content_52 : decode cX7_content 52 = .ok (.getfield 68, 3) := dk_180 0 68 (dk_at dksX7_content_2 5 rfl rfl)
theorem dX7_content_55 : decode cX7_content 55 = .ok (.aload_n 0, 1) := dk_42 (dk_at dksX7_content_2 8 rfl rfl)
theorem dX7_content_56 : decode cX7_content 56 = .ok (.getfield 77, 3) := dk_180 0 77 (dk_at dksX7_content_2 9 rfl rfl)
theorem dX7_content_59 : decode cX7_content 59 = .ok (.invokevirtual 405, 3) := dk_182 1 149 (dk_at dksX7_content_2 12 rfl rfl)
theorem dX7_content_62 : decode cX7_content 62 = .ok (.aload_n 0, 1) := dk_42 (dk_at dksX7_content_2 15 rfl rfl)
theorem dX7_content_63 : decode cX7_content 63 = .ok (.invokevirtual 361, 3) := dk_182 1 105 (dk_at dksX7_content_2 16 rfl rfl)
theorem dX7_content_66 : decode cX7_content 66 = .ok (.iconst 0, 1) := dk_3 (dk_at dksX7_content_2 19 rfl rfl)
theorem dX7_content_67 : decode cX7_content 67 = .ok (.istore_n 3, 1) := dk_62 (dk_at dksX7_content_2 20 rfl rfl)
theorem dX7_content_68 : decode cX7_content 68 = .ok (.iload_n 3, 1) := dk_29 (dk_at dksX7_content_2 21 rfl rfl)
theorem dX7_content_69 : decode cX7_content 69 = .ok (.bipush 16, 2) := dk_16 16 (dk_at dksX7_content_2 22 rfl rfl)
theorem dX7_content_71 : decode cX7_content 71 = .ok (.if_icmp .ge 26, 3) := dk_162 0 26 (dk_at dksX7_content_3 0 rfl rfl)
theorem dX7_content_74 : decode cX7_content 74 = .ok (.aload_n 0, 1) := dk_42 (dk_at dksX7_content_3 3 rfl rfl)
theorem dX7_content_75 : decode cX7_content 75 = .ok (.getfield 31, 3) := dk_180 0 31 (dk_at dksX7_content_3 4 rfl rfl)
theorem dX7_content_78 : decode cX7_content 78 = .ok (.iconst 0, 1) := dk_3 (dk_at dksX7_content_3 7 rfl rfl)
theorem dX7_content_79 : decode cX7_content 79 = .ok (.iload_n 3, 1) := dk_29 (dk_at dksX7_content_3 8 rfl rfl)
theorem dX7_content_80 : decode cX7_content 80 = .ok (.iconst 0, 1) := dk_3 (dk_at dksX7_content_3 9 rfl rfl)
theorem dX7_content_81 : decode cX7_content 81 = .ok (.invokestatic 288, 3) := dk_184 1 32 (dk_at dksX7_content_3 10 rfl rfl)
theorem dX7_content_84 : decode cX7_content 84 = .ok (.aload_n 0, 1) := dk_42 (dk_at dksX7_content_3 13 rfl rfl)
theorem dX7_content_85 : decode cX7_content 85 = .ok (.getfield 77, 3) := dk_180 0 77 (dk_at dksX7_content_3 14 rfl rfl)
theorem dX7_content_88 : decode cX7_content 88 = .ok (.iload_n 3, 1) := dk_29 (dk_at dksX7_content_3 17 rfl rfl)
theorem dX7_content_89 : decode cX7_content 89 = .ok (.iaload, 1) := dk_46 (dk_at dksX7_content_3 18 rfl rfl)
theorem dX7_content_90 : decode cX7_content 90 = .ok (.iastore, 1) := dk_79 (dk_at dksX7_content_3 19 rfl rfl)
theorem dX7_content_91 : decode cX7_content 91 = .ok (.iinc 3 1, 3) := dk_132 3 1 (dk_at dksX7_content_3 20 rfl rfl)
theorem dX7_content_94 : decode cX7_content 94 = .ok (.goto (-26), 3) := dk_167 255 230 (dk_at dksX7_content_4 0 rfl rfl)
theorem dX7_content_97 : decode cX7_content 97 = .ok (.aload_n 0, 1) := dk_42 (dk_at dksX7_content_4 3 rfl rfl)
theorem dX7_content_98 : decode cX7_content 98 = .ok (.iload_n 2, 1) := dk_28 (dk_at dksX7_content_4 4 rfl rfl)
theorem dX7_content_99 : decode cX7_content 99 = .ok (.invokevirtual 382, 3) := dk_182 1 126 (dk_at dksX7_content_4 5 rfl rfl)
theorem dX7_content_102 : decode cX7_content 102 = .ok (.ireturn, 1) := dk_172 (dk_at dksX7_content_4 8 rfl rfl)
abbrev cX7_primitive : ByteArray := prog_10_method_105_code
def yX7_primitive : MethodName := ⟨RX7, "primitive", "(II)I"⟩
def dkwX7_primitive_3 : List UInt8 := [172]
abbrev dktX7_primitive_3 : List UInt8 := dkwX7_primitive_3 ++ []
def dkwX7_primitive_2 : List UInt8 := [182, 1, 169, 42, 42, 180, 0, 68, 182, 1, 160, 42, 42, 180, 0, 68, 182, 1, 176, 42, 28, 182, 1, 126]
abbrev dktX7_primitive_2 : List UInt8 := dkwX7_primitive_2 ++ dktX7_primitive_3
def dkwX7_primitive_1 : List UInt8 := [182, 0, 221, 172, 42, 27, 182, 1, 166, 153, 0, 9, 42, 8, 182, 0, 221, 172, 42, 27, 42, 180, 0, 68]
abbrev dktX7_primitive_1 : List UInt8 := dkwX7_primitive_1 ++ dktX7_primitive_2
def dkwX7_primitive_0 : List UInt8 := [42, 3, 181, 0, 89, 42, 27, 182, 1, 20, 153, 0, 11, 42, 28, 182, 1, 20, 154, 0, 9, 42, 4]
abbrev dktX7_primitive_0 : List UInt8 := dkwX7_primitive_0 ++ dktX7_primitive_1
theorem dksX7_primitive_0 : cX7_primitive.data.toList.drop 0 = dktX7_primitive_0 := by decide +kernel
theorem dksX7_primitive_1 : cX7_primitive.data.toList.drop 23 = dktX7_primitive_1 := dk_seg dksX7_primitive_0 23 rfl rfl
theorem dksX7_primitive_2 : cX7_primitive.data.toList.drop 47 = dktX7_primitive_2 := dk_seg dksX7_primitive_1 24 rfl rfl
theorem dksX7_primitive_3 : cX7_primitive.data.toList.drop 71 = dktX7_primitive_3 := dk_seg dksX7_primitive_2 24 rfl rfl
theorem dX7_primitive_0 : decode cX7_primitive 0 = .ok (.aload_n 0, 1) := dk_42 (dk_at dksX7_primitive_0 0 rfl rfl)
theorem dX7_primitive_1 : decode cX7_primitive 1 = .ok (.iconst 0, 1) := dk_3 (dk_at dksX7_primitive_0 1 rfl rfl)
theorem dX7_primitive_2 : decode cX7_primitive 2 = .ok (.putfield 89, 3) := dk_181 0 89 (dk_at dksX7_primitive_0 2 rfl rfl)
theorem dX7_primitive_5 : decode cX7_primitive 5 = .ok (.aload_n 0, 1) := dk_42 (dk_at dksX7_primitive_0 5 rfl rfl)
theorem dX7_primitive_6 : decode cX7_primitive 6 = .ok (.iload_n 1, 1) := dk_27 (dk_at dksX7_primitive_0 6 rfl rfl)
theorem dX7_primitive_7 : decode cX7_primitive 7 = .ok (.invokevirtual 276, 3) := dk_182 1 20 (dk_at dksX7_primitive_0 7 rfl rfl)
theorem dX7_primitive_10 : decode cX7_primitive 10 = .ok (.ifCond .eq 11, 3) := dk_153 0 11 (dk_at dksX7_primitive_0 10 rfl rfl)
theorem dX7_primitive_13 : decode cX7_primitive 13 = .ok (.aload_n 0, 1) := dk_42 (dk_at dksX7_primitive_0 13 rfl rfl)
theorem dX7_primitive_14 : decode cX7_primitive 14 = .ok (.iload_n 2, 1) := dk_28 (dk_at dksX7_primitive_0 14 rfl rfl)
theorem dX7_primitive_15 : decode cX7_primitive 15 = .ok (.invokevirtual 276, 3) := dk_182 1 20 (dk_at dksX7_primitive_0 15 rfl rfl)
theorem dX7_primitive_18 : decode cX7_primitive 18 = .ok (.ifCond .ne 9, 3) := dk_154 0 9 (dk_at dksX7_primitive_0 18 rfl rfl)
theorem dX7_primitive_21 : decode cX7_primitive 21 = .ok (.aload_n 0, 1) := dk_42 (dk_at dksX7_primitive_0 21 rfl rfl)
theorem dX7_primitive_22 : decode cX7_primitive 22 = .ok (.iconst 1, 1) := dk_4 (dk_at dksX7_primitive_0 22 rfl rfl)
theorem dX7_primitive_23 : decode cX7_primitive 23 = .ok (.invokevirtual 221, 3) := dk_182 0 221 (dk_at dksX7_primitive_1 0 rfl rfl)
theorem dX7_primitive_26 : decode cX7_primitive 26 = .ok (.ireturn, 1) := dk_172 (dk_at dksX7_primitive_1 3 rfl rfl)
theorem dX7_primitive_27 : decode cX7_primitive 27 = .ok (.aload_n 0, 1) := dk_42 (dk_at dksX7_primitive_1 4 rfl rfl)
theorem dX7_primitive_28 : decode cX7_primitive 28 = .ok (.iload_n 1, 1) := dk_27 (dk_at dksX7_primitive_1 5 rfl rfl)
theorem dX7_primitive_29 : decode cX7_primitive 29 = .ok (.invokevirtual 422, 3) := dk_182 1 166 (dk_at dksX7_primitive_1 6 rfl rfl)
theorem dX7_primitive_32 : decode cX7_primitive 32 = .ok (.ifCond .eq 9, 3) := dk_153 0 9 (dk_at dksX7_primitive_1 9 rfl rfl)
theorem dX7_primitive_35 : decode cX7_primitive 35 = .ok (.aload_n 0, 1) := dk_42 (dk_at dksX7_primitive_1 12 rfl rfl)
theorem dX7_primitive_36 : decode cX7_primitive 36 = .ok (.iconst 5, 1) := dk_8 (dk_at dksX7_primitive_1 13 rfl rfl)
theorem dX7_primitive_37 : decode cX7_primitive 37 = .ok (.invokevirtual 221, 3) := dk_182 0 221 (dk_at dksX7_primitive_1 14 rfl rfl)
theorem dX7_primitive_40 : decode cX7_primitive 40 = .ok (.ireturn, 1) := dk_172 (dk_at dksX7_primitive_1 17 rfl rfl)
theorem dX7_primitive_41 : decode cX7_primitive 41 = .ok (.aload_n 0, 1) := dk_42 (dk_at dksX7_primitive_1 18 rfl rfl)
theorem dX7_primitive_42 : decode cX7_primitive 42 = .ok (.iload_n 1, 1) := dk_27 (dk_at dksX7_primitive_1 19 rfl rfl)
theorem dX7_primitive_43 : decode cX7_primitive 43 = .ok (.aload_n 0, 1) := dk_42 (dk_at dksX7_primitive_1 20 rfl rfl)
theorem dX7_primitive_44 : decode cX7_primitive 44 = .ok (.getfield 68, 3) := dk_180 0 68 (dk_at dksX7_primitive_1 21 rfl rfl)
theorem dX7_primitive_47 : decode cX7_primitive 47 = .ok (.invokevirtual 425, 3) := dk_182 1 169 (dk_at dksX7_primitive_2 0 rfl rfl)
theorem dX7_primitive_50 : decode cX7_primitive 50 = .ok (.aload_n 0, 1) := dk_42 (dk_at dksX7_primitive_2 3 rfl rfl)
theorem dX7_primitive_51 : decode cX7_primitive 51 = .ok (.aload_n 0, 1) := dk_42 (dk_at dksX7_primitive_2 4 rfl rfl)
theorem dX7_primitive_52 : decode cX7_primitive 52 = .ok (.getfield 68, 3) := dk_180 0 68 (dk_at dksX7_primitive_2 5 rfl rfl)
theorem dX7_primitive_55 : decode cX7_primitive 55 = .ok (.invokevirtual 416, 3) := dk_182 1 160 (dk_at dksX7_primitive_2 8 rfl rfl)
theorem dX7_primitive_58 : decode cX7_primitive 58 = .ok (.aload_n 0, 1) := dk_42 (dk_at dksX7_primitive_2 11 rfl rfl)
theorem dX7_primitive_59 : decode cX7_primitive 59 = .ok (.aload_n 0, 1) := dk_42 (dk_at dksX7_primitive_2 12 rfl rfl)
theorem dX7_primitive_60 : decode cX7_primitive 60 = .ok (.getfield 68, 3) := dk_180 0 68 (dk_at dksX7_primitive_2 13 rfl rfl)
theorem dX7_primitive_63 : decode cX7_primitive 63 = .ok (.invokevirtual 432, 3) := dk_182 1 176 (dk_at dksX7_primitive_2 16 rfl rfl)
theorem dX7_primitive_66 : decode cX7_primitive 66 = .ok (.aload_n 0, 1) := dk_42 (dk_at dksX7_primitive_2 19 rfl rfl)
theorem dX7_primitive_67 : decode cX7_primitive 67 = .ok (.iload_n 2, 1) := dk_28 (dk_at dksX7_primitive_2 20 rfl rfl)
theorem dX7_primitive_68 : decode cX7_primitive 68 = .ok (.invokevirtual 382, 3) := dk_182 1 126 (dk_at dksX7_primitive_2 21 rfl rfl)
theorem dX7_primitive_71 : decode cX7_primitive 71 = .ok (.ireturn, 1) := dk_172 (dk_at dksX7_primitive_3 0 rfl rfl)
abbrev cX7_complete : ByteArray := prog_10_method_107_code
def yX7_complete : MethodName := ⟨RX7, "complete", "(I)I"⟩
def dkwX7_complete_5 : List UInt8 := [4, 181, 1, 59, 42, 29, 182, 1, 126, 87, 42, 29, 182, 0, 248, 172]
abbrev dktX7_complete_5 : List UInt8 := dkwX7_complete_5 ++ []
def dkwX7_complete_4 : List UInt8 := [162, 0, 23, 42, 180, 0, 31, 21, 5, 42, 180, 0, 37, 21, 5, 46, 79, 132, 5, 1, 167, 255, 231, 42]
abbrev dktX7_complete_4 : List UInt8 := dkwX7_complete_4 ++ dktX7_complete_5
def dkwX7_complete_3 : List UInt8 := [172, 21, 4, 2, 160, 0, 10, 42, 16, 254, 182, 0, 248, 172, 3, 54, 5, 21, 5, 17, 16, 0]
abbrev dktX7_complete_3 : List UInt8 := dkwX7_complete_3 ++ dktX7_complete_4
def dkwX7_complete_2 : List UInt8 := [182, 0, 221, 172, 42, 27, 3, 182, 1, 117, 54, 4, 21, 4, 16, 253, 160, 0, 9, 42, 6, 182, 0, 221]
abbrev dktX7_complete_2 : List UInt8 := dkwX7_complete_2 ++ dktX7_complete_3
def dkwX7_complete_1 : List UInt8 := [28, 158, 0, 9, 42, 28, 182, 0, 221, 172, 42, 27, 182, 1, 182, 62, 29, 2, 160, 0, 9, 42, 8]
abbrev dktX7_complete_1 : List UInt8 := dkwX7_complete_1 ++ dktX7_complete_2
def dkwX7_complete_0 : List UInt8 := [42, 3, 181, 0, 89, 42, 180, 0, 227, 154, 0, 9, 42, 4, 182, 0, 221, 172, 42, 27, 182, 1, 93, 61]
abbrev dktX7_complete_0 : List UInt8 := dkwX7_complete_0 ++ dktX7_complete_1
theorem dksX7_complete_0 : cX7_complete.data.toList.drop 0 = dktX7_complete_0 := by decide +kernel
theorem dksX7_complete_1 : cX7_complete.data.toList.drop 24 = dktX7_complete_1 := dk_seg dksX7_complete_0 24 rfl rfl
theorem dksX7_complete_2 : cX7_complete.data.toList.drop 47 = dktX7_complete_2 := dk_seg dksX7_complete_1 23 rfl rfl
theorem dksX7_complete_3 : cX7_complete.data.toList.drop 71 = dktX7_complete_3 := dk_seg dksX7_complete_2 24 rfl rfl
theorem dksX7_complete_4 : cX7_complete.data.toList.drop 93 = dktX7_complete_4 := dk_seg dksX7_complete_3 22 rfl rfl
theorem dksX7_complete_5 : cX7_complete.data.toList.drop 117 = dktX7_complete_5 := dk_seg dksX7_complete_4 24 rfl rfl
theorem dX7_complete_0 : decode cX7_complete 0 = .ok (.aload_n 0, 1) := dk_42 (dk_at dksX7_complete_0 0 rfl rfl)
theorem dX7_complete_1 : decode cX7_complete 1 = .ok (.iconst 0, 1) := dk_3 (dk_at dksX7_complete_0 1 rfl rfl)
theorem dX7_complete_2 : decode cX7_complete 2 = .ok (.putfield 89, 3) := dk_181 0 89 (dk_at dksX7_complete_0 2 rfl rfl)
theorem dX7_complete_5 : decode cX7_complete 5 = .ok (.aload_n 0, 1) := dk_42 (dk_at dksX7_complete_0 5 rfl rfl)
theorem dX7_complete_6 : decode cX7_complete 6 = .ok (.getfield 227, 3) := dk_180 0 227 (dk_at dksX7_complete_0 6 rfl rfl)
theorem dX7_complete_9 : decode cX7_complete 9 = .ok (.ifCond .ne 9, 3) := dk_154 0 9 (dk_at dksX7_complete_0 9 rfl rfl)
theorem dX7_complete_12 : decode cX7_complete 12 = .ok (.aload_n 0, 1) := dk_42 (dk_at dksX7_complete_0 12 rfl rfl)
theorem dX7_complete_13 : decode cX7_complete 13 = .ok (.iconst 1, 1) := dk_4 (dk_at dksX7_complete_0 13 rfl rfl)
theorem dX7_complete_14 : decode cX7_complete 14 = .ok (.invokevirtual 221, 3) := dk_182 0 221 (dk_at dksX7_complete_0 14 rfl rfl)
theorem dX7_complete_17 : decode cX7_complete 17 = .ok (.ireturn, 1) := dk_172 (dk_at dksX7_complete_0 17 rfl rfl)
theorem dX7_complete_18 : decode cX7_complete 18 = .ok (.aload_n 0, 1) := dk_42 (dk_at dksX7_complete_0 18 rfl rfl)
theorem dX7_complete_19 : decode cX7_complete 19 = .ok (.iload_n 1, 1) := dk_27 (dk_at dksX7_complete_0 19 rfl rfl)
theorem dX7_complete_20 : decode cX7_complete 20 = .ok (.invokevirtual 349, 3) := dk_182 1 93 (dk_at dksX7_complete_0 20 rfl rfl)
theorem dX7_complete_23 : decode cX7_complete 23 = .ok (.istore_n 2, 1) := dk_61 (dk_at dksX7_complete_0 23 rfl rfl)
theorem dX7_complete_24 : decode cX7_complete 24 = .ok (.iload_n 2, 1) := dk_28 (dk_at dksX7_complete_1 0 rfl rfl)
theorem dX7_complete_25 : decode cX7_complete 25 = .ok (.ifCond .le 9, 3) := dk_158 0 9 (dk_at dksX7_complete_1 1 rfl rfl)
theorem dX7_complete_28 : decode cX7_complete 28 = .ok (.aload_n 0, 1) := dk_42 (dk_at dksX7_complete_1 4 rfl rfl)
theorem dX7_complete_29 : decode cX7_complete 29 = .ok (.iload_n 2, 1) := dk_28 (dk_at dksX7_complete_1 5 rfl rfl)
theorem dX7_complete_30 : decode cX7_complete 30 = .ok (.invokevirtual 221, 3) := dk_182 0 221 (dk_at dksX7_complete_1 6 rfl rfl)
theorem dX7_complete_33 : decode cX7_complete 33 = .ok (.ireturn, 1) := dk_172 (dk_at dksX7_complete_1 9 rfl rfl)
theorem dX7_complete_34 : decode cX7_complete 34 = .ok (.aload_n 0, 1) := dk_42 (dk_at dksX7_complete_1 10 rfl rfl)
theorem dX7_complete_35 : decode cX7_complete 35 = .ok (.iload_n 1, 1) := dk_27 (dk_at dksX7_complete_1 11 rfl rfl)
theorem dX7_complete_36 : decode cX7_complete 36 = .ok (.invokevirtual 438, 3) := dk_182 1 182 (dk_at dksX7_complete_1 12 rfl rfl)
theorem dX7_complete_39 : decode cX7_complete 39 = .ok (.istore_n 3, 1) := dk_62 (dk_at dksX7_complete_1 15 rfl rfl)
theorem dX7_complete_40 : decode cX7_complete 40 = .ok (.iload_n 3, 1) := dk_29 (dk_at dksX7_complete_1 16 rfl rfl)
theorem dX7_complete_41 : decode cX7_complete 41 = .ok (.iconst (-1), 1) := dk_2 (dk_at dksX7_complete_1 17 rfl rfl)
theorem dX7_complete_42 : decode cX7_complete 42 = .ok (.if_icmp .ne 9, 3) := dk_160 0 9 (dk_at dksX7_complete_1 18 rfl rfl)
theorem dX7_complete_45 : decode cX7_complete 45 = .ok (.aload_n 0, 1) := dk_42 (dk_at dksX7_complete_1 21 rfl rfl)
theorem dX7_complete_46 : decode cX7_complete 46 = .ok (.iconst 5, 1) := dk_8 (dk_at dksX7_complete_1 22 rfl rfl)
theorem dX7_complete_47 : decode cX7_complete 47 = .ok (.invokevirtual 221, 3) := dk_182 0 221 (dk_at dksX7_complete_2 0 rfl rfl)
theorem dX7_complete_50 : decode cX7_complete 50 = .ok (.ireturn, 1) := dk_172 (dk_at dksX7_complete_2 3 rfl rfl)
theorem dX7_complete_51 : decode cX7_complete 51 = .ok (.aload_n 0, 1) := dk_42 (dk_at dksX7_complete_2 4 rfl rfl)
theorem dX7_complete_52 : decode cX7_complete 52 = .ok (.iload_n 1, 1) := dk_27 (dk_at dksX7_complete_2 5 rfl rfl)
theorem dX7_complete_53 : decode cX7_complete 53 = .ok (.iconst 0, 1) := dk_3 (dk_at dksX7_complete_2 6 rfl rfl)
theorem dX7_complete_54 : decode cX7_complete 54 = .ok (.invokevirtual 373, 3) := dk_182 1 117 (dk_at dksX7_complete_2 7 rfl rfl)
theorem dX7_complete_57 : decode cX7_complete 57 = .ok (.istore 4, 2) := dk_54 4 (dk_at dksX7_complete_2 10 rfl rfl)
theorem dX7_complete_59 : decode cX7_complete 59 = .ok (.iload 4, 2) := dk_21 4 (dk_at dksX7_complete_2 12 rfl rfl)
theorem dX7_complete_61 : decode cX7_complete 61 = .ok (.bipush (-3), 2) := dk_16 253 (dk_at dksX7_complete_2 14 rfl rfl)
theorem dX7_complete_63 : decode cX7_complete 63 = .ok (.if_icmp .ne 9, 3) := dk_160 0 9 (dk_at dksX7_complete_2 16 rfl rfl)
theorem dX7_complete_66 : decode cX7_complete 66 = .ok (.aload_n 0, 1) := dk_42 (dk_at dksX7_complete_2 19 rfl rfl)
theorem dX7_complete_67 : decode cX7_complete 67 = .ok (.iconst 3, 1) := dk_6 (dk_at dksX7_complete_2 20 rfl rfl)
theorem dX7_complete_68 : decode cX7_complete 68 = .ok (.invokevirtual 221, 3) := dk_182 0 221 (dk_at dksX7_complete_2 21 rfl rfl)
theorem dX7_complete_71 : decode cX7_complete 71 = .ok (.ireturn, 1) := dk_172 (dk_at dksX7_complete_3 0 rfl rfl)
theorem dX7_complete_72 : decode cX7_complete 72 = .ok (.iload 4, 2) := dk_21 4 (dk_at dksX7_complete_3 1 rfl rfl)
theorem dX7_complete_74 : decode cX7_complete 74 = .ok (.iconst (-1), 1) := dk_2 (dk_at dksX7_complete_3 3 rfl rfl)
theorem dX7_complete_75 : decode cX7_complete 75 = .ok (.if_icmp .ne 10, 3) := dk_160 0 10 (dk_at dksX7_complete_3 4 rfl rfl)
theorem dX7_complete_78 : decode cX7_complete 78 = .ok (.aload_n 0, 1) := dk_42 (dk_at dksX7_complete_3 7 rfl rfl)
theorem dX7_complete_79 : decode cX7_complete 79 = .ok (.bipush (-2), 2) := dk_16 254 (dk_at dksX7_complete_3 8 rfl rfl)
theorem dX7_complete_81 : decode cX7_complete 81 = .ok (.invokevirtual 248, 3) := dk_182 0 248 (dk_at dksX7_complete_3 10 rfl rfl)
theorem dX7_complete_84 : decode cX7_complete 84 = .ok (.ireturn, 1) := dk_172 (dk_at dksX7_complete_3 13 rfl rfl)
theorem dX7_complete_85 : decode cX7_complete 85 = .ok (.iconst 0, 1) := dk_3 (dk_at dksX7_complete_3 14 rfl rfl)
theorem dX7_complete_86 : decode cX7_complete 86 = .ok (.istore 5, 2) := dk_54 5 (dk_at dksX7_complete_3 15 rfl rfl)
theorem dX7_complete_88 : decode cX7_complete 88 = .ok (.iload 5, 2) := dk_21 5 (dk_at dksX7_complete_3 17 rfl rfl)
theorem dX7_complete_90 : decode cX7_complete 90 = .ok (.sipush 4096, 3) := dk_17 16 0 (dk_at dksX7_complete_3 19 rfl rfl)
theorem dX7_complete_93 : decode cX7_complete 93 = .ok (.if_icmp .ge 23, 3) := dk_162 0 23 (dk_at dksX7_complete_4 0 rfl rfl)
theorem dX7_complete_96 : decode cX7_complete 96 = .ok (.aload_n 0, 1) := dk_42 (dk_at dksX7_complete_4 3 rfl rfl)
theorem dX7_complete_97 : decode cX7_complete 97 = .ok (.getfield 31, 3) := dk_180 0 31 (dk_at dksX7_complete_4 4 rfl rfl)
theorem dX7_complete_100 : decode cX7_complete 100 = .ok (.iload 5, 2) := dk_21 5 (dk_at dksX7_complete_4 7 rfl rfl)
theorem dX7_complete_102 : decode cX7_complete 102 = .ok (.aload_n 0, 1) := dk_42 (dk_at dksX7_complete_4 9 rfl rfl)
theorem dX7_complete_103 : decode cX7_complete 103 = .ok (.getfield 37, 3) := dk_180 0 37 (dk_at dksX7_complete_4 10 rfl rfl)
theorem dX7_complete_106 : decode cX7_complete 106 = .ok (.iload 5, 2) := dk_21 5 (dk_at dksX7_complete_4 13 rfl rfl)
theorem dX7_complete_108 : decode cX7_complete 108 = .ok (.iaload, 1) := dk_46 (dk_at dksX7_complete_4 15 rfl rfl)
theorem dX7_complete_109 : decode cX7_complete 109 = .ok (.iastore, 1) := dk_79 (dk_at dksX7_complete_4 16 rfl rfl)
theorem dX7_complete_110 : decode cX7_complete 110 = .ok (.iinc 5 1, 3) := dk_132 5 1 (dk_at dksX7_complete_4 17 rfl rfl)
theorem dX7_complete_113 : decode cX7_complete 113 = .ok (.goto (-25), 3) := dk_167 255 231 (dk_at dksX7_complete_4 20 rfl rfl)
theorem dX7_complete_116 : decode cX7_complete 116 = .ok (.aload_n 0, 1) := dk_42 (dk_at dksX7_complete_4 23 rfl rfl)
theorem dX7_complete_117 : decode cX7_complete 117 = .ok (.iconst 1, 1) := dk_4 (dk_at dksX7_complete_5 0 rfl rfl)
theorem dX7_complete_118 : decode cX7_complete 118 = .ok (.putfield 315, 3) := dk_181 1 59 (dk_at dksX7_complete_5 1 rfl rfl)
theorem dX7_complete_121 : decode cX7_complete 121 = .ok (.aload_n 0, 1) := dk_42 (dk_at dksX7_complete_5 4 rfl rfl)
theorem dX7_complete_122 : decode cX7_complete 122 = .ok (.iload_n 3, 1) := dk_29 (dk_at dksX7_complete_5 5 rfl rfl)
theorem dX7_complete_123 : decode cX7_complete 123 = .ok (.invokevirtual 382, 3) := dk_182 1 126 (dk_at dksX7_complete_5 6 rfl rfl)
theorem dX7_complete_126 : decode cX7_complete 126 = .ok (.pop, 1) := dk_87 (dk_at dksX7_complete_5 9 rfl rfl)
theorem dX7_complete_127 : decode cX7_complete 127 = .ok (.aload_n 0, 1) := dk_42 (dk_at dksX7_complete_5 10 rfl rfl)
theorem dX7_complete_128 : decode cX7_complete 128 = .ok (.iload_n 3, 1) := dk_29 (dk_at dksX7_complete_5 11 rfl rfl)
theorem dX7_complete_129 : decode cX7_complete 129 = .ok (.invokevirtual 248, 3) := dk_182 0 248 (dk_at dksX7_complete_5 12 rfl rfl)
theorem dX7_complete_132 : decode cX7_complete 132 = .ok (.ireturn, 1) := dk_172 (dk_at dksX7_complete_5 15 rfl rfl)
abbrev cX7_freeRegister : ByteArray := prog_10_method_106_code
def yX7_freeRegister : MethodName := ⟨RX7, "freeRegister", "(I)I"⟩
def dkwX7_freeRegister_1 : List UInt8 := [28, 172, 132, 2, 1, 167, 255, 229, 2, 172]
abbrev dktX7_freeRegister_1 : List UInt8 := dkwX7_freeRegister_1 ++ []
def dkwX7_freeRegister_0 : List UInt8 := [3, 61, 28, 16, 8, 162, 0, 27, 27, 28, 122, 4, 126, 154, 0, 13, 42, 28, 182, 1, 14, 153, 0, 5]
abbrev dktX7_freeRegister_0 : List UInt8 := dkwX7_freeRegister_0 ++ dktX7_freeRegister_1
theorem dksX7_freeRegister_0 : cX7_freeRegister.data.toList.drop 0 = dktX7_freeRegister_0 := by decide +kernel
theorem dksX7_freeRegister_1 : cX7_freeRegister.data.toList.drop 24 = dktX7_freeRegister_1 := dk_seg dksX7_freeRegister_0 24 rfl rfl
theorem dX7_freeRegister_0 : decode cX7_freeRegister 0 = .ok (.iconst 0, 1) := dk_3 (dk_at dksX7_freeRegister_0 0 rfl rfl)
theorem dX7_freeRegister_1 : decode cX7_freeRegister 1 = .ok (.istore_n 2, 1) := dk_61 (dk_at dksX7_freeRegister_0 1 rfl rfl)
theorem dX7_freeRegister_2 : decode cX7_freeRegister 2 = .ok (.iload_n 2, 1) := dk_28 (dk_at dksX7_freeRegister_0 2 rfl rfl)
theorem dX7_freeRegister_3 : decode cX7_freeRegister 3 = .ok (.bipush 8, 2) := dk_16 8 (dk_at dksX7_freeRegister_0 3 rfl rfl)
theorem dX7_freeRegister_5 : decode cX7_freeRegister 5 = .ok (.if_icmp .ge 27, 3) := dk_162 0 27 (dk_at dksX7_freeRegister_0 5 rfl rfl)
theorem dX7_freeRegister_8 : decode cX7_freeRegister 8 = .ok (.iload_n 1, 1) := dk_27 (dk_at dksX7_freeRegister_0 8 rfl rfl)
theorem dX7_freeRegister_9 : decode cX7_freeRegister 9 = .ok (.iload_n 2, 1) := dk_28 (dk_at dksX7_freeRegister_0 9 rfl rfl)
theorem dX7_freeRegister_10 : decode cX7_freeRegister 10 = .ok (.ishr, 1) := dk_122 (dk_at dksX7_freeRegister_0 10 rfl rfl)
theorem dX7_freeRegister_11 : decode cX7_freeRegister 11 = .ok (.iconst 1, 1) := dk_4 (dk_at dksX7_freeRegister_0 11 rfl rfl)
theorem dX7_freeRegister_12 : decode cX7_freeRegister 12 = .ok (.iand, 1) := dk_126 (dk_at dksX7_freeRegister_0 12 rfl rfl)
theorem dX7_freeRegister_13 : decode cX7_freeRegister 13 = .ok (.ifCond .ne 13, 3) := dk_154 0 13 (dk_at dksX7_freeRegister_0 13 rfl rfl)
theorem dX7_freeRegister_16 : decode cX7_freeRegister 16 = .ok (.aload_n 0, 1) := dk_42 (dk_at dksX7_freeRegister_0 16 rfl rfl)
theorem dX7_freeRegister_17 : decode cX7_freeRegister 17 = .ok (.iload_n 2, 1) := dk_28 (dk_at dksX7_freeRegister_0 17 rfl rfl)
theorem dX7_freeRegister_18 : decode cX7_freeRegister 18 = .ok (.invokevirtual 270, 3) := dk_182 1 14 (dk_at dksX7_freeRegister_0 18 rfl rfl)
theorem dX7_freeRegister_21 : decode cX7_freeRegister 21 = .ok (.ifCond .eq 5, 3) := dk_153 0 5 (dk_at dksX7_freeRegister_0 21 rfl rfl)
theorem dX7_freeRegister_24 : decode cX7_freeRegister 24 = .ok (.iload_n 2, 1) := dk_28 (dk_at dksX7_freeRegister_1 0 rfl rfl)
theorem dX7_freeRegister_25 : decode cX7_freeRegister 25 = .ok (.ireturn, 1) := dk_172 (dk_at dksX7_freeRegister_1 1 rfl rfl)
theorem dX7_freeRegister_26 : decode cX7_freeRegister 26 = .ok (.iinc 2 1, 3) := dk_132 2 1 (dk_at dksX7_freeRegister_1 2 rfl rfl)
theorem dX7_freeRegister_29 : decode cX7_freeRegister 29 = .ok (.goto (-27), 3) := dk_167 255 229 (dk_at dksX7_freeRegister_1 5 rfl rfl)
theorem dX7_freeRegister_32 : decode cX7_freeRegister 32 = .ok (.iconst (-1), 1) := dk_2 (dk_at dksX7_freeRegister_1 8 rfl rfl)
theorem dX7_freeRegister_33 : decode cX7_freeRegister 33 = .ok (.ireturn, 1) := dk_172 (dk_at dksX7_freeRegister_1 9 rfl rfl)
abbrev cX7_order : ByteArray := prog_10_method_108_code
def yX7_order : MethodName := ⟨RX7, "order", "(III)I"⟩
def dkwX7_order_4 : List UInt8 := [3, 167, 0, 4, 4, 182, 0, 248, 172]
abbrev dktX7_order_4 : List UInt8 := dkwX7_order_4 ++ []
def dkwX7_order_3 : List UInt8 := [27, 181, 0, 233, 42, 28, 181, 0, 236, 42, 29, 181, 0, 239, 42, 182, 0, 245, 42, 21, 4, 153, 0, 7]
abbrev dktX7_order_3 : List UInt8 := dkwX7_order_3 ++ dktX7_order_4
def dkwX7_order_2 : List UInt8 := [160, 0, 15, 42, 180, 0, 239, 29, 160, 0, 7, 4, 167, 0, 4, 3, 54, 4, 42, 2, 182, 1, 120, 42]
abbrev dktX7_order_2 : List UInt8 := dkwX7_order_2 ++ dktX7_order_3
def dkwX7_order_1 : List UInt8 := [154, 0, 9, 42, 5, 182, 0, 221, 172, 42, 180, 0, 233, 27, 160, 0, 23, 42, 180, 0, 236, 28]
abbrev dktX7_order_1 : List UInt8 := dkwX7_order_1 ++ dktX7_order_2
def dkwX7_order_0 : List UInt8 := [42, 3, 181, 0, 89, 42, 180, 0, 227, 154, 0, 9, 42, 4, 182, 0, 221, 172, 27, 28, 29, 184, 1, 56]
abbrev dktX7_order_0 : List UInt8 := dkwX7_order_0 ++ dktX7_order_1
theorem dksX7_order_0 : cX7_order.data.toList.drop 0 = dktX7_order_0 := by decide +kernel
theorem dksX7_order_1 : cX7_order.data.toList.drop 24 = dktX7_order_1 := dk_seg dksX7_order_0 24 rfl rfl
theorem dksX7_order_2 : cX7_order.data.toList.drop 46 = dktX7_order_2 := dk_seg dksX7_order_1 22 rfl rfl
theorem dksX7_order_3 : cX7_order.data.toList.drop 70 = dktX7_order_3 := dk_seg dksX7_order_2 24 rfl rfl
theorem dksX7_order_4 : cX7_order.data.toList.drop 94 = dktX7_order_4 := dk_seg dksX7_order_3 24 rfl rfl
theorem dX7_order_0 : decode cX7_order 0 = .ok (.aload_n 0, 1) := dk_42 (dk_at dksX7_order_0 0 rfl rfl)
theorem dX7_order_1 : decode cX7_order 1 = .ok (.iconst 0, 1) := dk_3 (dk_at dksX7_order_0 1 rfl rfl)
theorem dX7_order_2 : decode cX7_order 2 = .ok (.putfield 89, 3) := dk_181 0 89 (dk_at dksX7_order_0 2 rfl rfl)
theorem dX7_order_5 : decode cX7_order 5 = .ok (.aload_n 0, 1) := dk_42 (dk_at dksX7_order_0 5 rfl rfl)
theorem dX7_order_6 : decode cX7_order 6 = .ok (.getfield 227, 3) := dk_180 0 227 (dk_at dksX7_order_0 6 rfl rfl)
theorem dX7_order_9 : decode cX7_order 9 = .ok (.ifCond .ne 9, 3) := dk_154 0 9 (dk_at dksX7_order_0 9 rfl rfl)
theorem dX7_order_12 : decode cX7_order 12 = .ok (.aload_n 0, 1) := dk_42 (dk_at dksX7_order_0 12 rfl rfl)
theorem dX7_order_13 : decode cX7_order 13 = .ok (.iconst 1, 1) := dk_4 (dk_at dksX7_order_0 13 rfl rfl)
theorem dX7_order_14 : decode cX7_order 14 = .ok (.invokevirtual 221, 3) := dk_182 0 221 (dk_at dksX7_order_0 14 rfl rfl)
theorem dX7_order_17 : decode cX7_order 17 = .ok (.ireturn, 1) := dk_172 (dk_at dksX7_order_0 17 rfl rfl)
theorem dX7_order_18 : decode cX7_order 18 = .ok (.iload_n 1, 1) := dk_27 (dk_at dksX7_order_0 18 rfl rfl)
theorem dX7_order_19 : decode cX7_order 19 = .ok (.iload_n 2, 1) := dk_28 (dk_at dksX7_order_0 19 rfl rfl)
theorem dX7_order_20 : decode cX7_order 20 = .ok (.iload_n 3, 1) := dk_29 (dk_at dksX7_order_0 20 rfl rfl)
theorem dX7_order_21 : decode cX7_order 21 = .ok (.invokestatic 312, 3) := dk_184 1 56 (dk_at dksX7_order_0 21 rfl rfl)
theorem dX7_order_24 : decode cX7_order 24 = .ok (.ifCond .ne 9, 3) := dk_154 0 9 (dk_at dksX7_order_1 0 rfl rfl)
theorem dX7_order_27 : decode cX7_order 27 = .ok (.aload_n 0, 1) := dk_42 (dk_at dksX7_order_1 3 rfl rfl)
theorem dX7_order_28 : decode cX7_order 28 = .ok (.iconst 2, 1) := dk_5 (dk_at dksX7_order_1 4 rfl rfl)
theorem dX7_order_29 : decode cX7_order 29 = .ok (.invokevirtual 221, 3) := dk_182 0 221 (dk_at dksX7_order_1 5 rfl rfl)
theorem dX7_order_32 : decode cX7_order 32 = .ok (.ireturn, 1) := dk_172 (dk_at dksX7_order_1 8 rfl rfl)
theorem dX7_order_33 : decode cX7_order 33 = .ok (.aload_n 0, 1) := dk_42 (dk_at dksX7_order_1 9 rfl rfl)
theorem dX7_order_34 : decode cX7_order 34 = .ok (.getfield 233, 3) := dk_180 0 233 (dk_at dksX7_order_1 10 rfl rfl)
theorem dX7_order_37 : decode cX7_order 37 = .ok (.iload_n 1, 1) := dk_27 (dk_at dksX7_order_1 13 rfl rfl)
theorem dX7_order_38 : decode cX7_order 38 = .ok (.if_icmp .ne 23, 3) := dk_160 0 23 (dk_at dksX7_order_1 14 rfl rfl)
theorem dX7_order_41 : decode cX7_order 41 = .ok (.aload_n 0, 1) := dk_42 (dk_at dksX7_order_1 17 rfl rfl)
theorem dX7_order_42 : decode cX7_order 42 = .ok (.getfield 236, 3) := dk_180 0 236 (dk_at dksX7_order_1 18 rfl rfl)
theorem dX7_order_45 : decode cX7_order 45 = .ok (.iload_n 2, 1) := dk_28 (dk_at dksX7_order_1 21 rfl rfl)
theorem dX7_order_46 : decode cX7_order 46 = .ok (.if_icmp .ne 15, 3) := dk_160 0 15 (dk_at dksX7_order_2 0 rfl rfl)
theorem dX7_order_49 : decode cX7_order 49 = .ok (.aload_n 0, 1) := dk_42 (dk_at dksX7_order_2 3 rfl rfl)
theorem dX7_order_50 : decode cX7_order 50 = .ok (.getfield 239, 3) := dk_180 0 239 (dk_at dksX7_order_2 4 rfl rfl)
theorem dX7_order_53 : decode cX7_order 53 = .ok (.iload_n 3, 1) := dk_29 (dk_at dksX7_order_2 7 rfl rfl)
theorem dX7_order_54 : decode cX7_order 54 = .ok (.if_icmp .ne 7, 3) := dk_160 0 7 (dk_at dksX7_order_2 8 rfl rfl)
theorem dX7_order_57 : decode cX7_order 57 = .ok (.iconst 1, 1) := dk_4 (dk_at dksX7_order_2 11 rfl rfl)
theorem dX7_order_58 : decode cX7_order 58 = .ok (.goto 4, 3) := dk_167 0 4 (dk_at dksX7_order_2 12 rfl rfl)
theorem dX7_order_61 : decode cX7_order 61 = .ok (.iconst 0, 1) := dk_3 (dk_at dksX7_order_2 15 rfl rfl)
theorem dX7_order_62 : decode cX7_order 62 = .ok (.istore 4, 2) := dk_54 4 (dk_at dksX7_order_2 16 rfl rfl)
theorem dX7_order_64 : decode cX7_order 64 = .ok (.aload_n 0, 1) := dk_42 (dk_at dksX7_order_2 18 rfl rfl)
theorem dX7_order_65 : decode cX7_order 65 = .ok (.iconst (-1), 1) := dk_2 (dk_at dksX7_order_2 19 rfl rfl)
theorem dX7_order_66 : decode cX7_order 66 = .ok (.invokevirtual 376, 3) := dk_182 1 120 (dk_at dksX7_order_2 20 rfl rfl)
theorem dX7_order_69 : decode cX7_order 69 = .ok (.aload_n 0, 1) := dk_42 (dk_at dksX7_order_2 23 rfl rfl)
theorem dX7_order_70 : decode cX7_order 70 = .ok (.iload_n 1, 1) := dk_27 (dk_at dksX7_order_3 0 rfl rfl)
theorem dX7_order_71 : decode cX7_order 71 = .ok (.putfield 233, 3) := dk_181 0 233 (dk_at dksX7_order_3 1 rfl rfl)
theorem dX7_order_74 : decode cX7_order 74 = .ok (.aload_n 0, 1) := dk_42 (dk_at dksX7_order_3 4 rfl rfl)
theorem dX7_order_75 : decode cX7_order 75 = .ok (.iload_n 2, 1) := dk_28 (dk_at dksX7_order_3 5 rfl rfl)
theorem dX7_order_76 : decode cX7_order 76 = .ok (.putfield 236, 3) := dk_181 0 236 (dk_at dksX7_order_3 6 rfl rfl)
theorem dX7_order_79 : decode cX7_order 79 = .ok (.aload_n 0, 1) := dk_42 (dk_at dksX7_order_3 9 rfl rfl)
theorem dX7_order_80 : decode cX7_order 80 = .ok (.iload_n 3, 1) := dk_29 (dk_at dksX7_order_3 10 rfl rfl)
theorem dX7_order_81 : decode cX7_order 81 = .ok (.putfield 239, 3) := dk_181 0 239 (dk_at dksX7_order_3 11 rfl rfl)
theorem dX7_order_84 : decode cX7_order 84 = .ok (.aload_n 0, 1) := dk_42 (dk_at dksX7_order_3 14 rfl rfl)
theorem dX7_order_85 : decode cX7_order 85 = .ok (.invokevirtual 245, 3) := dk_182 0 245 (dk_at dksX7_order_3 15 rfl rfl)
theorem dX7_order_88 : decode cX7_order 88 = .ok (.aload_n 0, 1) := dk_42 (dk_at dksX7_order_3 18 rfl rfl)
theorem dX7_order_89 : decode cX7_order 89 = .ok (.iload 4, 2) := dk_21 4 (dk_at dksX7_order_3 19 rfl rfl)
theorem dX7_order_91 : decode cX7_order 91 = .ok (.ifCond .eq 7, 3) := dk_153 0 7 (dk_at dksX7_order_3 21 rfl rfl)
theorem dX7_order_94 : decode cX7_order 94 = .ok (.iconst 0, 1) := dk_3 (dk_at dksX7_order_4 0 rfl rfl)
theorem dX7_order_95 : decode cX7_order 95 = .ok (.goto 4, 3) := dk_167 0 4 (dk_at dksX7_order_4 1 rfl rfl)
theorem dX7_order_98 : decode cX7_order 98 = .ok (.iconst 1, 1) := dk_4 (dk_at dksX7_order_4 4 rfl rfl)
theorem dX7_order_99 : decode cX7_order 99 = .ok (.invokevirtual 248, 3) := dk_182 0 248 (dk_at dksX7_order_4 5 rfl rfl)
theorem dX7_order_102 : decode cX7_order 102 = .ok (.ireturn, 1) := dk_172 (dk_at dksX7_order_4 8 rfl rfl)
abbrev cX7_undo : ByteArray := prog_10_method_109_code
def yX7_undo : MethodName := ⟨RX7, "undo", "()Z"⟩
def dkwX7_undo_6 : List UInt8 := [172]
abbrev dktX7_undo_6 : List UInt8 := dkwX7_undo_6 ++ []
def dkwX7_undo_5 : List UInt8 := [42, 42, 180, 0, 64, 42, 180, 0, 242, 46, 181, 0, 239, 42, 182, 0, 245, 42, 3, 182, 0, 248, 87, 4]
abbrev dktX7_undo_5 : List UInt8 := dkwX7_undo_5 ++ dktX7_undo_6
def dkwX7_undo_4 : List UInt8 := [180, 0, 58, 42, 180, 0, 242, 46, 181, 0, 233, 42, 42, 180, 0, 61, 42, 180, 0, 242, 46, 181, 0, 236]
abbrev dktX7_undo_4 : List UInt8 := dkwX7_undo_4 ++ dktX7_undo_5
def dkwX7_undo_3 : List UInt8 := [42, 180, 0, 52, 17, 16, 0, 42, 180, 0, 242, 104, 28, 96, 46, 79, 132, 2, 1, 167, 255, 214, 42, 42]
abbrev dktX7_undo_3 : List UInt8 := dkwX7_undo_3 ++ dktX7_undo_4
def dkwX7_undo_2 : List UInt8 := [61, 27, 2, 159, 0, 43, 28, 17, 16, 0, 162, 0, 36, 42, 180, 0, 14, 17, 16, 0, 27, 104, 28, 96]
abbrev dktX7_undo_2 : List UInt8 := dkwX7_undo_2 ++ dktX7_undo_3
def dkwX7_undo_1 : List UInt8 := [87, 3, 172, 42, 89, 180, 0, 242, 4, 100, 181, 0, 242, 42, 180, 0, 55, 42, 180, 0, 242, 46, 60, 3]
abbrev dktX7_undo_1 : List UInt8 := dkwX7_undo_1 ++ dktX7_undo_2
def dkwX7_undo_0 : List UInt8 := [42, 3, 181, 0, 89, 42, 180, 0, 227, 153, 0, 10, 42, 180, 0, 242, 154, 0, 11, 42, 4, 182, 0, 221]
abbrev dktX7_undo_0 : List UInt8 := dkwX7_undo_0 ++ dktX7_undo_1
theorem dksX7_undo_0 : cX7_undo.data.toList.drop 0 = dktX7_undo_0 := by decide +kernel
theorem dksX7_undo_1 : cX7_undo.data.toList.drop 24 = dktX7_undo_1 := dk_seg dksX7_undo_0 24 rfl rfl
theorem dksX7_undo_2 : cX7_undo.data.toList.drop 48 = dktX7_undo_2 := dk_seg dksX7_undo_1 24 rfl rfl
theorem dksX7_undo_3 : cX7_undo.data.toList.drop 72 = dktX7_undo_3 := dk_seg dksX7_undo_2 24 rfl rfl
theorem dksX7_undo_4 : cX7_undo.data.toList.drop 96 = dktX7_undo_4 := dk_seg dksX7_undo_3 24 rfl rfl
theorem dksX7_undo_5 : cX7_undo.data.toList.drop 120 = dktX7_undo_5 := dk_seg dksX7_undo_4 24 rfl rfl
theorem dksX7_undo_6 : cX7_undo.data.toList.drop 144 = dktX7_undo_6 := dk_seg dksX7_undo_5 24 rfl rfl
theorem dX7_undo_0 : decode cX7_undo 0 = .ok (.aload_n 0, 1) := dk_42 (dk_at dksX7_undo_0 0 rfl rfl)
theorem dX7_undo_1 : decode cX7_undo 1 = .ok (.iconst 0, 1) := dk_3 (dk_at dksX7_undo_0 1 rfl rfl)
theorem dX7_undo_2 : decode cX7_undo 2 = .ok (.putfield 89, 3) := dk_181 0 89 (dk_at dksX7_undo_0 2 rfl rfl)
theorem dX7_undo_5 : decode cX7_undo 5 = .ok (.aload_n 0, 1) := dk_42 (dk_at dksX7_undo_0 5 rfl rfl)
theorem dX7_undo_6 : decode cX7_undo 6 = .ok (.getfield 227, 3) := dk_180 0 227 (dk_at dksX7_undo_0 6 rfl rfl)
theorem dX7_undo_9 : decode cX7_undo 9 = .ok (.ifCond .eq 10, 3) := dk_153 0 10 (dk_at dksX7_undo_0 9 rfl rfl)
theorem dX7_undo_12 : decode cX7_undo 12 = .ok (.aload_n 0, 1) := dk_42 (dk_at dksX7_undo_0 12 rfl rfl)
theorem dX7_undo_13 : decode cX7_undo 13 = .ok (.getfield 242, 3) := dk_180 0 242 (dk_at dksX7_undo_0 13 rfl rfl)
theorem dX7_undo_16 : decode cX7_undo 16 = .ok (.ifCond .ne 11, 3) := dk_154 0 11 (dk_at dksX7_undo_0 16 rfl rfl)
theorem dX7_undo_19 : decode cX7_undo 19 = .ok (.aload_n 0, 1) := dk_42 (dk_at dksX7_undo_0 19 rfl rfl)
theorem dX7_undo_20 : decode cX7_undo 20 = .ok (.iconst 1, 1) := dk_4 (dk_at dksX7_undo_0 20 rfl rfl)
theorem dX7_undo_21 : decode cX7_undo 21 = .ok (.invokevirtual 221, 3) := dk_182 0 221 (dk_at dksX7_undo_0 21 rfl rfl)
theorem dX7_undo_24 : decode cX7_undo 24 = .ok (.pop, 1) := dk_87 (dk_at dksX7_undo_1 0 rfl rfl)
theorem dX7_undo_25 : decode cX7_undo 25 = .ok (.iconst 0, 1) := dk_3 (dk_at dksX7_undo_1 1 rfl rfl)
theorem dX7_undo_26 : decode cX7_undo 26 = .ok (.ireturn, 1) := dk_172 (dk_at dksX7_undo_1 2 rfl rfl)
theorem dX7_undo_27 : decode cX7_undo 27 = .ok (.aload_n 0, 1) := dk_42 (dk_at dksX7_undo_1 3 rfl rfl)
theorem dX7_undo_28 : decode cX7_undo 28 = .ok (.dup, 1) := dk_89 (dk_at dksX7_undo_1 4 rfl rfl)
theorem dX7_undo_29 : decode cX7_undo 29 = .ok (.getfield 242, 3) := dk_180 0 242 (dk_at dksX7_undo_1 5 rfl rfl)
theorem dX7_undo_32 : decode cX7_undo 32 = .ok (.iconst 1, 1) := dk_4 (dk_at dksX7_undo_1 8 rfl rfl)
theorem dX7_undo_33 : decode cX7_undo 33 = .ok (.isub, 1) := dk_100 (dk_at dksX7_undo_1 9 rfl rfl)
theorem dX7_undo_34 : decode cX7_undo 34 = .ok (.putfield 242, 3) := dk_181 0 242 (dk_at dksX7_undo_1 10 rfl rfl)
theorem dX7_undo_37 : decode cX7_undo 37 = .ok (.aload_n 0, 1) := dk_42 (dk_at dksX7_undo_1 13 rfl rfl)
theorem dX7_undo_38 : decode cX7_undo 38 = .ok (.getfield 55, 3) := dk_180 0 55 (dk_at dksX7_undo_1 14 rfl rfl)
theorem dX7_undo_41 : decode cX7_undo 41 = .ok (.aload_n 0, 1) := dk_42 (dk_at dksX7_undo_1 17 rfl rfl)
theorem dX7_undo_42 : decode cX7_undo 42 = .ok (.getfield 242, 3) := dk_180 0 242 (dk_at dksX7_undo_1 18 rfl rfl)
theorem dX7_undo_45 : decode cX7_undo 45 = .ok (.iaload, 1) := dk_46 (dk_at dksX7_undo_1 21 rfl rfl)
theorem dX7_undo_46 : decode cX7_undo 46 = .ok (.istore_n 1, 1) := dk_60 (dk_at dksX7_undo_1 22 rfl rfl)
theorem dX7_undo_47 : decode cX7_undo 47 = .ok (.iconst 0, 1) := dk_3 (dk_at dksX7_undo_1 23 rfl rfl)
theorem dX7_undo_48 : decode cX7_undo 48 = .ok (.istore_n 2, 1) := dk_61 (dk_at dksX7_undo_2 0 rfl rfl)
theorem dX7_undo_49 : decode cX7_undo 49 = .ok (.iload_n 1, 1) := dk_27 (dk_at dksX7_undo_2 1 rfl rfl)
theorem dX7_undo_50 : decode cX7_undo 50 = .ok (.iconst (-1), 1) := dk_2 (dk_at dksX7_undo_2 2 rfl rfl)
theorem dX7_undo_51 : decode cX7_undo 51 = .ok (.if_icmp .eq 43, 3) := dk_159 0 43 (dk_at dksX7_undo_2 3 rfl rfl)
theorem dX7_undo_54 : decode cX7_undo 54 = .ok (.iload_n 2, 1) := dk_28 (dk_at dksX7_undo_2 6 rfl rfl)
theorem dX7_undo_55 : decode cX7_undo 55 = .ok (.sipush 4096, 3) := dk_17 16 0 (dk_at dksX7_undo_2 7 rfl rfl)
theorem dX7_undo_58 : decode cX7_undo 58 = .ok (.if_icmp .ge 36, 3) := dk_162 0 36 (dk_at dksX7_undo_2 10 rfl rfl)
theorem dX7_undo_61 : decode cX7_undo 61 = .ok (.aload_n 0, 1) := dk_42 (dk_at dksX7_undo_2 13 rfl rfl)
theorem dX7_undo_62 : decode cX7_undo 62 = .ok (.getfield 14, 3) := dk_180 0 14 (dk_at dksX7_undo_2 14 rfl rfl)
theorem dX7_undo_65 : decode cX7_undo 65 = .ok (.sipush 4096, 3) := dk_17 16 0 (dk_at dksX7_undo_2 17 rfl rfl)
theorem dX7_undo_68 : decode cX7_undo 68 = .ok (.iload_n 1, 1) := dk_27 (dk_at dksX7_undo_2 20 rfl rfl)
theorem dX7_undo_69 : decode cX7_undo 69 = .ok (.imul, 1) := dk_104 (dk_at dksX7_undo_2 21 rfl rfl)
theorem dX7_undo_70 : decode cX7_undo 70 = .ok (.iload_n 2, 1) := dk_28 (dk_at dksX7_undo_2 22 rfl rfl)
theorem dX7_undo_71 : decode cX7_undo 71 = .ok (.iadd, 1) := dk_96 (dk_at dksX7_undo_2 23 rfl rfl)
theorem dX7_undo_72 : decode cX7_undo 72 = .ok (.aload_n 0, 1) := dk_42 (dk_at dksX7_undo_3 0 rfl rfl)
theorem dX7_undo_73 : decode cX7_undo 73 = .ok (.getfield 52, 3) := dk_180 0 52 (dk_at dksX7_undo_3 1 rfl rfl)
theorem dX7_undo_76 : decode cX7_undo 76 = .ok (.sipush 4096, 3) := dk_17 16 0 (dk_at dksX7_undo_3 4 rfl rfl)
theorem dX7_undo_79 : decode cX7_undo 79 = .ok (.aload_n 0, 1) := dk_42 (dk_at dksX7_undo_3 7 rfl rfl)
theorem dX7_undo_80 : decode cX7_undo 80 = .ok (.getfield 242, 3) := dk_180 0 242 (dk_at dksX7_undo_3 8 rfl rfl)
theorem dX7_undo_83 : decode cX7_undo 83 = .ok (.imul, 1) := dk_104 (dk_at dksX7_undo_3 11 rfl rfl)
theorem dX7_undo_84 : decode cX7_undo 84 = .ok (.iload_n 2, 1) := dk_28 (dk_at dksX7_undo_3 12 rfl rfl)
theorem dX7_undo_85 : decode cX7_undo 85 = .ok (.iadd, 1) := dk_96 (dk_at dksX7_undo_3 13 rfl rfl)
theorem dX7_undo_86 : decode cX7_undo 86 = .ok (.iaload, 1) := dk_46 (dk_at dksX7_undo_3 14 rfl rfl)
theorem dX7_undo_87 : decode cX7_undo 87 = .ok (.iastore, 1) := dk_79 (dk_at dksX7_undo_3 15 rfl rfl)
theorem dX7_undo_88 : decode cX7_undo 88 = .ok (.iinc 2 1, 3) := dk_132 2 1 (dk_at dksX7_undo_3 16 rfl rfl)
theorem dX7_undo_91 : decode cX7_undo 91 = .ok (.goto (-42), 3) := dk_167 255 214 (dk_at dksX7_undo_3 19 rfl rfl)
theorem dX7_undo_94 : decode cX7_undo 94 = .ok (.aload_n 0, 1) := dk_42 (dk_at dksX7_undo_3 22 rfl rfl)
theorem dX7_undo_95 : decode cX7_undo 95 = .ok (.aload_n 0, 1) := dk_42 (dk_at dksX7_undo_3 23 rfl rfl)
theorem dX7_undo_96 : decode cX7_undo 96 = .ok (.getfield 58, 3) := dk_180 0 58 (dk_at dksX7_undo_4 0 rfl rfl)
theorem dX7_undo_99 : decode cX7_undo 99 = .ok (.aload_n 0, 1) := dk_42 (dk_at dksX7_undo_4 3 rfl rfl)
theorem dX7_undo_100 : decode cX7_undo 100 = .ok (.getfield 242, 3) := dk_180 0 242 (dk_at dksX7_undo_4 4 rfl rfl)
theorem dX7_undo_103 : decode cX7_undo 103 = .ok (.iaload, 1) := dk_46 (dk_at dksX7_undo_4 7 rfl rfl)
theorem dX7_undo_104 : decode cX7_undo 104 = .ok (.putfield 233, 3) := dk_181 0 233 (dk_at dksX7_undo_4 8 rfl rfl)
theorem dX7_undo_107 : decode cX7_undo 107 = .ok (.aload_n 0, 1) := dk_42 (dk_at dksX7_undo_4 11 rfl rfl)
theorem dX7_undo_108 : decode cX7_undo 108 = .ok (.aload_n 0, 1) := dk_42 (dk_at dksX7_undo_4 12 rfl rfl)
theorem dX7_undo_109 : decode cX7_undo 109 = .ok (.getfield 61, 3) := dk_180 0 61 (dk_at dksX7_undo_4 13 rfl rfl)
theorem dX7_undo_112 : decode cX7_undo 112 = .ok (.aload_n 0, 1) := dk_42 (dk_at dksX7_undo_4 16 rfl rfl)
theorem dX7_undo_113 : decode cX7_undo 113 = .ok (.getfield 242, 3) := dk_180 0 242 (dk_at dksX7_undo_4 17 rfl rfl)
theorem dX7_undo_116 : decode cX7_undo 116 = .ok (.iaload, 1) := dk_46 (dk_at dksX7_undo_4 20 rfl rfl)
theorem dX7_undo_117 : decode cX7_undo 117 = .ok (.putfield 236, 3) := dk_181 0 236 (dk_at dksX7_undo_4 21 rfl rfl)
theorem dX7_undo_120 : decode cX7_undo 120 = .ok (.aload_n 0, 1) := dk_42 (dk_at dksX7_undo_5 0 rfl rfl)
theorem dX7_undo_121 : decode cX7_undo 121 = .ok (.aload_n 0, 1) := dk_42 (dk_at dksX7_undo_5 1 rfl rfl)
theorem dX7_undo_122 : decode cX7_undo 122 = .ok (.getfield 64, 3) := dk_180 0 64 (dk_at dksX7_undo_5 2 rfl rfl)
theorem dX7_undo_125 : decode cX7_undo 125 = .ok (.aload_n 0, 1) := dk_42 (dk_at dksX7_undo_5 5 rfl rfl)
theorem dX7_undo_126 : decode cX7_undo 126 = .ok (.getfield 242, 3) := dk_180 0 242 (dk_at dksX7_undo_5 6 rfl rfl)
theorem dX7_undo_129 : decode cX7_undo 129 = .ok (.iaload, 1) := dk_46 (dk_at dksX7_undo_5 9 rfl rfl)
theorem dX7_undo_130 : decode cX7_undo 130 = .ok (.putfield 239, 3) := dk_181 0 239 (dk_at dksX7_undo_5 10 rfl rfl)
theorem dX7_undo_133 : decode cX7_undo 133 = .ok (.aload_n 0, 1) := dk_42 (dk_at dksX7_undo_5 13 rfl rfl)
theorem dX7_undo_134 : decode cX7_undo 134 = .ok (.invokevirtual 245, 3) := dk_182 0 245 (dk_at dksX7_undo_5 14 rfl rfl)
theorem dX7_undo_137 : decode cX7_undo 137 = .ok (.aload_n 0, 1) := dk_42 (dk_at dksX7_undo_5 17 rfl rfl)
theorem dX7_undo_138 : decode cX7_undo 138 = .ok (.iconst 0, 1) := dk_3 (dk_at dksX7_undo_5 18 rfl rfl)
theorem dX7_undo_139 : decode cX7_undo 139 = .ok (.invokevirtual 248, 3) := dk_182 0 248 (dk_at dksX7_undo_5 19 rfl rfl)
theorem dX7_undo_142 : decode cX7_undo 142 = .ok (.pop, 1) := dk_87 (dk_at dksX7_undo_5 22 rfl rfl)
theorem dX7_undo_143 : decode cX7_undo 143 = .ok (.iconst 1, 1) := dk_4 (dk_at dksX7_undo_5 23 rfl rfl)
theorem dX7_undo_144 : decode cX7_undo 144 = .ok (.ireturn, 1) := dk_172 (dk_at dksX7_undo_6 0 rfl rfl)
abbrev cX7_constant : ByteArray := prog_10_method_110_code
def yX7_constant : MethodName := ⟨RX7, "constant", "(I)I"⟩
def dkwX7_constant_2 : List UInt8 := [29, 172, 132, 2, 1, 132, 3, 1, 167, 255, 209, 42, 4, 181, 0, 89, 3, 172]
abbrev dktX7_constant_2 : List UInt8 := dkwX7_constant_2 ++ []
def dkwX7_constant_1 : List UInt8 := [182, 1, 11, 4, 160, 0, 25, 42, 29, 3, 182, 1, 8, 154, 0, 6, 167, 0, 13, 28, 27, 160, 0, 5]
abbrev dktX7_constant_1 : List UInt8 := dkwX7_constant_1 ++ dktX7_constant_2
def dkwX7_constant_0 : List UInt8 := [42, 3, 181, 0, 89, 3, 61, 3, 62, 42, 180, 0, 227, 153, 0, 46, 29, 16, 8, 162, 0, 40, 42, 29]
abbrev dktX7_constant_0 : List UInt8 := dkwX7_constant_0 ++ dktX7_constant_1
theorem dksX7_constant_0 : cX7_constant.data.toList.drop 0 = dktX7_constant_0 := by decide +kernel
theorem dksX7_constant_1 : cX7_constant.data.toList.drop 24 = dktX7_constant_1 := dk_seg dksX7_constant_0 24 rfl rfl
theorem dksX7_constant_2 : cX7_constant.data.toList.drop 48 = dktX7_constant_2 := dk_seg dksX7_constant_1 24 rfl rfl
theorem dX7_constant_0 : decode cX7_constant 0 = .ok (.aload_n 0, 1) := dk_42 (dk_at dksX7_constant_0 0 rfl rfl)
theorem dX7_constant_1 : decode cX7_constant 1 = .ok (.iconst 0, 1) := dk_3 (dk_at dksX7_constant_0 1 rfl rfl)
theorem dX7_constant_2 : decode cX7_constant 2 = .ok (.putfield 89, 3) := dk_181 0 89 (dk_at dksX7_constant_0 2 rfl rfl)
theorem dX7_constant_5 : decode cX7_constant 5 = .ok (.iconst 0, 1) := dk_3 (dk_at dksX7_constant_0 5 rfl rfl)
theorem dX7_constant_6 : decode cX7_constant 6 = .ok (.istore_n 2, 1) := dk_61 (dk_at dksX7_constant_0 6 rfl rfl)
theorem dX7_constant_7 : decode cX7_constant 7 = .ok (.iconst 0, 1) := dk_3 (dk_at dksX7_constant_0 7 rfl rfl)
theorem dX7_constant_8 : decode cX7_constant 8 = .ok (.istore_n 3, 1) := dk_62 (dk_at dksX7_constant_0 8 rfl rfl)
theorem dX7_constant_9 : decode cX7_constant 9 = .ok (.aload_n 0, 1) := dk_42 (dk_at dksX7_constant_0 9 rfl rfl)
theorem dX7_constant_10 : decode cX7_constant 10 = .ok (.getfield 227, 3) := dk_180 0 227 (dk_at dksX7_constant_0 10 rfl rfl)
theorem dX7_constant_13 : decode cX7_constant 13 = .ok (.ifCond .eq 46, 3) := dk_153 0 46 (dk_at dksX7_constant_0 13 rfl rfl)
theorem dX7_constant_16 : decode cX7_constant 16 = .ok (.iload_n 3, 1) := dk_29 (dk_at dksX7_constant_0 16 rfl rfl)
theorem dX7_constant_17 : decode cX7_constant 17 = .ok (.bipush 8, 2) := dk_16 8 (dk_at dksX7_constant_0 17 rfl rfl)
theorem dX7_constant_19 : decode cX7_constant 19 = .ok (.if_icmp .ge 40, 3) := dk_162 0 40 (dk_at dksX7_constant_0 19 rfl rfl)
theorem dX7_constant_22 : decode cX7_constant 22 = .ok (.aload_n 0, 1) := dk_42 (dk_at dksX7_constant_0 22 rfl rfl)
theorem dX7_constant_23 : decode cX7_constant 23 = .ok (.iload_n 3, 1) := dk_29 (dk_at dksX7_constant_0 23 rfl rfl)
theorem dX7_constant_24 : decode cX7_constant 24 = .ok (.invokevirtual 267, 3) := dk_182 1 11 (dk_at dksX7_constant_1 0 rfl rfl)
theorem dX7_constant_27 : decode cX7_constant 27 = .ok (.iconst 1, 1) := dk_4 (dk_at dksX7_constant_1 3 rfl rfl)
theorem dX7_constant_28 : decode cX7_constant 28 = .ok (.if_icmp .ne 25, 3) := dk_160 0 25 (dk_at dksX7_constant_1 4 rfl rfl)
theorem dX7_constant_31 : decode cX7_constant 31 = .ok (.aload_n 0, 1) := dk_42 (dk_at dksX7_constant_1 7 rfl rfl)
theorem dX7_constant_32 : decode cX7_constant 32 = .ok (.iload_n 3, 1) := dk_29 (dk_at dksX7_constant_1 8 rfl rfl)
theorem dX7_constant_33 : decode cX7_constant 33 = .ok (.iconst 0, 1) := dk_3 (dk_at dksX7_constant_1 9 rfl rfl)
theorem dX7_constant_34 : decode cX7_constant 34 = .ok (.invokevirtual 264, 3) := dk_182 1 8 (dk_at dksX7_constant_1 10 rfl rfl)
theorem dX7_constant_37 : decode cX7_constant 37 = .ok (.ifCond .ne 6, 3) := dk_154 0 6 (dk_at dksX7_constant_1 13 rfl rfl)
theorem dX7_constant_40 : decode cX7_constant 40 = .ok (.goto 13, 3) := dk_167 0 13 (dk_at dksX7_constant_1 16 rfl rfl)
theorem dX7_constant_43 : decode cX7_constant 43 = .ok (.iload_n 2, 1) := dk_28 (dk_at dksX7_constant_1 19 rfl rfl)
theorem dX7_constant_44 : decode cX7_constant 44 = .ok (.iload_n 1, 1) := dk_27 (dk_at dksX7_constant_1 20 rfl rfl)
theorem dX7_constant_45 : decode cX7_constant 45 = .ok (.if_icmp .ne 5, 3) := dk_160 0 5 (dk_at dksX7_constant_1 21 rfl rfl)
theorem dX7_constant_48 : decode cX7_constant 48 = .ok (.iload_n 3, 1) := dk_29 (dk_at dksX7_constant_2 0 rfl rfl)
theorem dX7_constant_49 : decode cX7_constant 49 = .ok (.ireturn, 1) := dk_172 (dk_at dksX7_constant_2 1 rfl rfl)
theorem dX7_constant_50 : decode cX7_constant 50 = .ok (.iinc 2 1, 3) := dk_132 2 1 (dk_at dksX7_constant_2 2 rfl rfl)
theorem dX7_constant_53 : decode cX7_constant 53 = .ok (.iinc 3 1, 3) := dk_132 3 1 (dk_at dksX7_constant_2 5 rfl rfl)
theorem dX7_constant_56 : decode cX7_constant 56 = .ok (.goto (-47), 3) := dk_167 255 209 (dk_at dksX7_constant_2 8 rfl rfl)
theorem dX7_constant_59 : decode cX7_constant 59 = .ok (.aload_n 0, 1) := dk_42 (dk_at dksX7_constant_2 11 rfl rfl)
theorem dX7_constant_60 : decode cX7_constant 60 = .ok (.iconst 1, 1) := dk_4 (dk_at dksX7_constant_2 12 rfl rfl)
theorem dX7_constant_61 : decode cX7_constant 61 = .ok (.putfield 89, 3) := dk_181 0 89 (dk_at dksX7_constant_2 13 rfl rfl)
theorem dX7_constant_64 : decode cX7_constant 64 = .ok (.iconst 0, 1) := dk_3 (dk_at dksX7_constant_2 16 rfl rfl)
theorem dX7_constant_65 : decode cX7_constant 65 = .ok (.ireturn, 1) := dk_172 (dk_at dksX7_constant_2 17 rfl rfl)
abbrev cX7_size : ByteArray := prog_10_method_112_code
def yX7_size : MethodName := ⟨RX7, "size", "(I)I"⟩
def dkwX7_size_3 : List UInt8 := [180, 0, 227, 153, 0, 10, 42, 182, 1, 185, 167, 0, 4, 3, 172, 2, 172]
abbrev dktX7_size_3 : List UInt8 := dkwX7_size_3 ++ []
def dkwX7_size_2 : List UInt8 := [42, 180, 0, 218, 172, 42, 180, 0, 227, 153, 0, 10, 42, 180, 0, 242, 167, 0, 4, 3, 172, 42]
abbrev dktX7_size_2 : List UInt8 := dkwX7_size_2 ++ dktX7_size_3
def dkwX7_size_1 : List UInt8 := [170, 0, 0, 0, 0, 63, 0, 0, 0, 0, 0, 0, 0, 2, 0, 0, 0, 26, 0, 0, 0, 31, 0, 0, 0, 47]
abbrev dktX7_size_1 : List UInt8 := dkwX7_size_1 ++ dktX7_size_2
def dkwX7_size_0 : List UInt8 := [42, 3, 181, 0, 89, 27]
abbrev dktX7_size_0 : List UInt8 := dkwX7_size_0 ++ dktX7_size_1
theorem dksX7_size_0 : cX7_size.data.toList.drop 0 = dktX7_size_0 := by decide +kernel
theorem dksX7_size_1 : cX7_size.data.toList.drop 6 = dktX7_size_1 := dk_seg dksX7_size_0 6 rfl rfl
theorem dksX7_size_2 : cX7_size.data.toList.drop 32 = dktX7_size_2 := dk_seg dksX7_size_1 26 rfl rfl
theorem dksX7_size_3 : cX7_size.data.toList.drop 54 = dktX7_size_3 := dk_seg dksX7_size_2 22 rfl rfl
theorem dX7_size_0 : decode cX7_size 0 = .ok (.aload_n 0, 1) := dk_42 (dk_at dksX7_size_0 0 rfl rfl)
theorem dX7_size_1 : decode cX7_size 1 = .ok (.iconst 0, 1) := dk_3 (dk_at dksX7_size_0 1 rfl rfl)
theorem dX7_size_2 : decode cX7_size 2 = .ok (.putfield 89, 3) := dk_181 0 89 (dk_at dksX7_size_0 2 rfl rfl)
theorem dX7_size_5 : decode cX7_size 5 = .ok (.iload_n 1, 1) := dk_27 (dk_at dksX7_size_0 5 rfl rfl)
theorem dX7_size_6 : decode cX7_size 6 = .ok (.tableswitch 63 0 2 #[26, 31, 47], 26) := by decide +kernel
theorem dX7_size_32 : decode cX7_size 32 = .ok (.aload_n 0, 1) := dk_42 (dk_at dksX7_size_2 0 rfl rfl)
theorem dX7_size_33 : decode cX7_size 33 = .ok (.getfield 218, 3) := dk_180 0 218 (dk_at dksX7_size_2 1 rfl rfl)
theorem dX7_size_36 : decode cX7_size 36 = .ok (.ireturn, 1) := dk_172 (dk_at dksX7_size_2 4 rfl rfl)
theorem dX7_size_37 : decode cX7_size 37 = .ok (.aload_n 0, 1) := dk_42 (dk_at dksX7_size_2 5 rfl rfl)
theorem dX7_size_38 : decode cX7_size 38 = .ok (.getfield 227, 3) := dk_180 0 227 (dk_at dksX7_size_2 6 rfl rfl)
theorem dX7_size_41 : decode cX7_size 41 = .ok (.ifCond .eq 10, 3) := dk_153 0 10 (dk_at dksX7_size_2 9 rfl rfl)
theorem dX7_size_44 : decode cX7_size 44 = .ok (.aload_n 0, 1) := dk_42 (dk_at dksX7_size_2 12 rfl rfl)
theorem dX7_size_45 : decode cX7_size 45 = .ok (.getfield 242, 3) := dk_180 0 242 (dk_at dksX7_size_2 13 rfl rfl)
theorem dX7_size_48 : decode cX7_size 48 = .ok (.goto 4, 3) := dk_167 0 4 (dk_at dksX7_size_2 16 rfl rfl)
theorem dX7_size_51 : decode cX7_size 51 = .ok (.iconst 0, 1) := dk_3 (dk_at dksX7_size_2 19 rfl rfl)
theorem dX7_size_52 : decode cX7_size 52 = .ok (.ireturn, 1) := dk_172 (dk_at dksX7_size_2 20 rfl rfl)
theorem dX7_size_53 : decode cX7_size 53 = .ok (.aload_n 0, 1) := dk_42 (dk_at dksX7_size_2 21 rfl rfl)
theorem dX7_size_54 : decode cX7_size 54 = .ok (.getfield 227, 3) := dk_180 0 227 (dk_at dksX7_size_3 0 rfl rfl)
theorem dX7_size_57 : decode cX7_size 57 = .ok (.ifCond .eq 10, 3) := dk_153 0 10 (dk_at dksX7_size_3 3 rfl rfl)
theorem dX7_size_60 : decode cX7_size 60 = .ok (.aload_n 0, 1) := dk_42 (dk_at dksX7_size_3 6 rfl rfl)
theorem dX7_size_61 : decode cX7_size 61 = .ok (.invokevirtual 441, 3) := dk_182 1 185 (dk_at dksX7_size_3 7 rfl rfl)
theorem dX7_size_64 : decode cX7_size 64 = .ok (.goto 4, 3) := dk_167 0 4 (dk_at dksX7_size_3 10 rfl rfl)
theorem dX7_size_67 : decode cX7_size 67 = .ok (.iconst 0, 1) := dk_3 (dk_at dksX7_size_3 13 rfl rfl)
theorem dX7_size_68 : decode cX7_size 68 = .ok (.ireturn, 1) := dk_172 (dk_at dksX7_size_3 14 rfl rfl)
theorem dX7_size_69 : decode cX7_size 69 = .ok (.iconst (-1), 1) := dk_2 (dk_at dksX7_size_3 15 rfl rfl)
theorem dX7_size_70 : decode cX7_size 70 = .ok (.ireturn, 1) := dk_172 (dk_at dksX7_size_3 16 rfl rfl)
abbrev cX7_allTerms : ByteArray := prog_10_method_111_code
def yX7_allTerms : MethodName := ⟨RX7, "allTerms", "()I"⟩
def dkwX7_allTerms_1 : List UInt8 := [27, 172]
abbrev dktX7_allTerms_1 : List UInt8 := dkwX7_allTerms_1 ++ []
def dkwX7_allTerms_0 : List UInt8 := [3, 60, 3, 61, 28, 16, 8, 162, 0, 17, 27, 42, 28, 182, 1, 11, 96, 60, 132, 2, 1, 167, 255, 239]
abbrev dktX7_allTerms_0 : List UInt8 := dkwX7_allTerms_0 ++ dktX7_allTerms_1
theorem dksX7_allTerms_0 : cX7_allTerms.data.toList.drop 0 = dktX7_allTerms_0 := by decide +kernel
theorem dksX7_allTerms_1 : cX7_allTerms.data.toList.drop 24 = dktX7_allTerms_1 := dk_seg dksX7_allTerms_0 24 rfl rfl
theorem dX7_allTerms_0 : decode cX7_allTerms 0 = .ok (.iconst 0, 1) := dk_3 (dk_at dksX7_allTerms_0 0 rfl rfl)
theorem dX7_allTerms_1 : decode cX7_allTerms 1 = .ok (.istore_n 1, 1) := dk_60 (dk_at dksX7_allTerms_0 1 rfl rfl)
theorem dX7_allTerms_2 : decode cX7_allTerms 2 = .ok (.iconst 0, 1) := dk_3 (dk_at dksX7_allTerms_0 2 rfl rfl)
theorem dX7_allTerms_3 : decode cX7_allTerms 3 = .ok (.istore_n 2, 1) := dk_61 (dk_at dksX7_allTerms_0 3 rfl rfl)
theorem dX7_allTerms_4 : decode cX7_allTerms 4 = .ok (.iload_n 2, 1) := dk_28 (dk_at dksX7_allTerms_0 4 rfl rfl)
theorem dX7_allTerms_5 : decode cX7_allTerms 5 = .ok (.bipush 8, 2) := dk_16 8 (dk_at dksX7_allTerms_0 5 rfl rfl)
theorem dX7_allTerms_7 : decode cX7_allTerms 7 = .ok (.if_icmp .ge 17, 3) := dk_162 0 17 (dk_at dksX7_allTerms_0 7 rfl rfl)
theorem dX7_allTerms_10 : decode cX7_allTerms 10 = .ok (.iload_n 1, 1) := dk_27 (dk_at dksX7_allTerms_0 10 rfl rfl)
theorem dX7_allTerms_11 : decode cX7_allTerms 11 = .ok (.aload_n 0, 1) := dk_42 (dk_at dksX7_allTerms_0 11 rfl rfl)
theorem dX7_allTerms_12 : decode cX7_allTerms 12 = .ok (.iload_n 2, 1) := dk_28 (dk_at dksX7_allTerms_0 12 rfl rfl)
theorem dX7_allTerms_13 : decode cX7_allTerms 13 = .ok (.invokevirtual 267, 3) := dk_182 1 11 (dk_at dksX7_allTerms_0 13 rfl rfl)
theorem dX7_allTerms_16 : decode cX7_allTerms 16 = .ok (.iadd, 1) := dk_96 (dk_at dksX7_allTerms_0 16 rfl rfl)
theorem dX7_allTerms_17 : decode cX7_allTerms 17 = .ok (.istore_n 1, 1) := dk_60 (dk_at dksX7_allTerms_0 17 rfl rfl)
theorem dX7_allTerms_18 : decode cX7_allTerms 18 = .ok (.iinc 2 1, 3) := dk_132 2 1 (dk_at dksX7_allTerms_0 18 rfl rfl)
theorem dX7_allTerms_21 : decode cX7_allTerms 21 = .ok (.goto (-17), 3) := dk_167 255 239 (dk_at dksX7_allTerms_0 21 rfl rfl)
theorem dX7_allTerms_24 : decode cX7_allTerms 24 = .ok (.iload_n 1, 1) := dk_27 (dk_at dksX7_allTerms_1 0 rfl rfl)
theorem dX7_allTerms_25 : decode cX7_allTerms 25 = .ok (.ireturn, 1) := dk_172 (dk_at dksX7_allTerms_1 1 rfl rfl)
abbrev cX7_trouble : ByteArray := prog_10_method_113_code
def yX7_trouble : MethodName := ⟨RX7, "trouble", "()I"⟩
def dkwX7_trouble_0 : List UInt8 := [42, 3, 181, 0, 89, 42, 180, 0, 92, 172]
abbrev dktX7_trouble_0 : List UInt8 := dkwX7_trouble_0 ++ []
theorem dksX7_trouble_0 : cX7_trouble.data.toList.drop 0 = dktX7_trouble_0 := by decide +kernel
theorem dX7_trouble_0 : decode cX7_trouble 0 = .ok (.aload_n 0, 1) := dk_42 (dk_at dksX7_trouble_0 0 rfl rfl)
theorem dX7_trouble_1 : decode cX7_trouble 1 = .ok (.iconst 0, 1) := dk_3 (dk_at dksX7_trouble_0 1 rfl rfl)
theorem dX7_trouble_2 : decode cX7_trouble 2 = .ok (.putfield 89, 3) := dk_181 0 89 (dk_at dksX7_trouble_0 2 rfl rfl)
theorem dX7_trouble_5 : decode cX7_trouble 5 = .ok (.aload_n 0, 1) := dk_42 (dk_at dksX7_trouble_0 5 rfl rfl)
theorem dX7_trouble_6 : decode cX7_trouble 6 = .ok (.getfield 92, 3) := dk_180 0 92 (dk_at dksX7_trouble_0 6 rfl rfl)
theorem dX7_trouble_9 : decode cX7_trouble 9 = .ok (.ireturn, 1) := dk_172 (dk_at dksX7_trouble_0 9 rfl rfl)
theorem q128 : (Jvm.Cond.initialized "TermDeskModel") ∈ lw_all := lw_g (lw_at lw_m1 11 rfl) rfl
theorem q1203 : (Jvm.Cond.instantiable "TermDeskModel" (53 : Nat)) ∈ lw_all := lw_g (lw_at lw_m5 126 rfl) rfl
theorem q1205 : (Jvm.Cond.instanceMethod ({ cls := "TermDeskModel", name := "<init>", desc := "()V" } : Jvm.MethodName)) ∈ lw_all := lw_g (lw_at lw_m5 128 rfl) rfl
theorem q1206 : (Jvm.Cond.code ({ cls := "TermDeskModel", name := "<init>", desc := "()V" } : Jvm.MethodName) prog_10_method_1_code (1 : Nat) (Option.none : Option Jvm.ClassFile.FieldType)) ∈ lw_all := lw_g (lw_at lw_m5 129 rfl) rfl
theorem q1207 : (Jvm.Cond.methodLink "TermDeskModel" (1 : Nat) ({ cls := "java/lang/Object", name := "<init>", desc := "()V" } : Jvm.MethodName)) ∈ lw_all := lw_g (lw_at lw_m5 130 rfl) rfl
theorem q1208 : (Jvm.Cond.constant "TermDeskModel" (13 : Nat) (32768 : Int32)) ∈ lw_all := lw_g (lw_at lw_m5 131 rfl) rfl
theorem q1209 : (Jvm.Cond.constant "TermDeskModel" (67 : Nat) (36864 : Int32)) ∈ lw_all := lw_g (lw_at lw_m5 132 rfl) rfl
theorem q1210 : (Jvm.Cond.fieldLink "TermDeskModel" (89 : Nat) "TermDeskModel" "thrown" "I") ∈ lw_all := lw_g (lw_at lw_m5 133 rfl) rfl
theorem q1211 : (Jvm.Cond.fieldLink "TermDeskModel" (92 : Nat) "TermDeskModel" "trouble" "I") ∈ lw_all := lw_g (lw_at lw_m5 134 rfl) rfl
theorem q1212 : (Jvm.Cond.fieldLink "TermDeskModel" (9 : Nat) "TermDeskModel" "wrongAt" "I") ∈ lw_all := lw_g (lw_at lw_m5 135 rfl) rfl
theorem q1213 : (Jvm.Cond.fieldLink "TermDeskModel" (14 : Nat) "TermDeskModel" "reg" "[I") ∈ lw_all := lw_g (lw_at lw_m5 136 rfl) rfl
theorem q1214 : (Jvm.Cond.fieldLink "TermDeskModel" (18 : Nat) "TermDeskModel" "read" "[I") ∈ lw_all := lw_g (lw_at lw_m5 137 rfl) rfl
theorem q1215 : (Jvm.Cond.fieldLink "TermDeskModel" (231 : Nat) "TermDeskModel" "prime" "I") ∈ lw_all := lw_g (lw_at lw_m5 138 rfl) rfl
theorem q1216 : (Jvm.Cond.fieldLink "TermDeskModel" (233 : Nat) "TermDeskModel" "how" "I") ∈ lw_all := lw_g (lw_at lw_m5 139 rfl) rfl
theorem q1217 : (Jvm.Cond.fieldLink "TermDeskModel" (236 : Nat) "TermDeskModel" "first" "I") ∈ lw_all := lw_g (lw_at lw_m5 140 rfl) rfl
theorem q1218 : (Jvm.Cond.fieldLink "TermDeskModel" (239 : Nat) "TermDeskModel" "second" "I") ∈ lw_all := lw_g (lw_at lw_m5 141 rfl) rfl
theorem q1219 : (Jvm.Cond.fieldLink "TermDeskModel" (162 : Nat) "TermDeskModel" "readPrime" "I") ∈ lw_all := lw_g (lw_at lw_m5 142 rfl) rfl
theorem q1220 : (Jvm.Cond.fieldLink "TermDeskModel" (199 : Nat) "TermDeskModel" "readHow" "I") ∈ lw_all := lw_g (lw_at lw_m5 143 rfl) rfl
theorem q1221 : (Jvm.Cond.fieldLink "TermDeskModel" (205 : Nat) "TermDeskModel" "readFirst" "I") ∈ lw_all := lw_g (lw_at lw_m5 144 rfl) rfl
theorem q1222 : (Jvm.Cond.fieldLink "TermDeskModel" (208 : Nat) "TermDeskModel" "readSecond" "I") ∈ lw_all := lw_g (lw_at lw_m5 145 rfl) rfl
theorem q1223 : (Jvm.Cond.fieldLink "TermDeskModel" (165 : Nat) "TermDeskModel" "readPolys" "I") ∈ lw_all := lw_g (lw_at lw_m5 146 rfl) rfl
theorem q1224 : (Jvm.Cond.fieldLink "TermDeskModel" (227 : Nat) "TermDeskModel" "isThere" "Z") ∈ lw_all := lw_g (lw_at lw_m5 147 rfl) rfl
theorem q1225 : (Jvm.Cond.fieldLink "TermDeskModel" (21 : Nat) "TermDeskModel" "tape" "[B") ∈ lw_all := lw_g (lw_at lw_m5 148 rfl) rfl
theorem q1226 : (Jvm.Cond.fieldLink "TermDeskModel" (218 : Nat) "TermDeskModel" "taped" "I") ∈ lw_all := lw_g (lw_at lw_m5 149 rfl) rfl
theorem q1227 : (Jvm.Cond.fieldLink "TermDeskModel" (99 : Nat) "TermDeskModel" "size" "I") ∈ lw_all := lw_g (lw_at lw_m5 150 rfl) rfl
theorem q1228 : (Jvm.Cond.fieldLink "TermDeskModel" (105 : Nat) "TermDeskModel" "spot" "I") ∈ lw_all := lw_g (lw_at lw_m5 151 rfl) rfl
theorem q1229 : (Jvm.Cond.fieldLink "TermDeskModel" (115 : Nat) "TermDeskModel" "token" "I") ∈ lw_all := lw_g (lw_at lw_m5 152 rfl) rfl
theorem q1230 : (Jvm.Cond.fieldLink "TermDeskModel" (112 : Nat) "TermDeskModel" "at" "I") ∈ lw_all := lw_g (lw_at lw_m5 153 rfl) rfl
theorem q1231 : (Jvm.Cond.fieldLink "TermDeskModel" (132 : Nat) "TermDeskModel" "number" "I") ∈ lw_all := lw_g (lw_at lw_m5 154 rfl) rfl
theorem q1232 : (Jvm.Cond.fieldLink "TermDeskModel" (102 : Nat) "TermDeskModel" "fault" "I") ∈ lw_all := lw_g (lw_at lw_m5 155 rfl) rfl
theorem q1233 : (Jvm.Cond.fieldLink "TermDeskModel" (128 : Nat) "TermDeskModel" "word" "J") ∈ lw_all := lw_g (lw_at lw_m5 156 rfl) rfl
theorem q1234 : (Jvm.Cond.fieldLink "TermDeskModel" (25 : Nat) "TermDeskModel" "along" "[I") ∈ lw_all := lw_g (lw_at lw_m5 157 rfl) rfl
theorem q1235 : (Jvm.Cond.fieldLink "TermDeskModel" (251 : Nat) "TermDeskModel" "laid" "I") ∈ lw_all := lw_g (lw_at lw_m5 158 rfl) rfl
theorem q1236 : (Jvm.Cond.fieldLink "TermDeskModel" (28 : Nat) "TermDeskModel" "keys" "[I") ∈ lw_all := lw_g (lw_at lw_m5 159 rfl) rfl
theorem q1237 : (Jvm.Cond.fieldLink "TermDeskModel" (292 : Nat) "TermDeskModel" "keyMany" "I") ∈ lw_all := lw_g (lw_at lw_m5 160 rfl) rfl
theorem q1238 : (Jvm.Cond.fieldLink "TermDeskModel" (31 : Nat) "TermDeskModel" "work" "[I") ∈ lw_all := lw_g (lw_at lw_m5 161 rfl) rfl
theorem q1239 : (Jvm.Cond.fieldLink "TermDeskModel" (315 : Nat) "TermDeskModel" "hasRoom" "Z") ∈ lw_all := lw_g (lw_at lw_m5 162 rfl) rfl
theorem q1240 : (Jvm.Cond.fieldLink "TermDeskModel" (34 : Nat) "TermDeskModel" "left" "[I") ∈ lw_all := lw_g (lw_at lw_m5 163 rfl) rfl
theorem q1241 : (Jvm.Cond.fieldLink "TermDeskModel" (37 : Nat) "TermDeskModel" "rest" "[I") ∈ lw_all := lw_g (lw_at lw_m5 164 rfl) rfl
theorem q1242 : (Jvm.Cond.fieldLink "TermDeskModel" (40 : Nat) "TermDeskModel" "quotients" "[I") ∈ lw_all := lw_g (lw_at lw_m5 165 rfl) rfl
theorem q1243 : (Jvm.Cond.fieldLink "TermDeskModel" (43 : Nat) "TermDeskModel" "quotientMany" "[I") ∈ lw_all := lw_g (lw_at lw_m5 166 rfl) rfl
theorem q1244 : (Jvm.Cond.fieldLink "TermDeskModel" (46 : Nat) "TermDeskModel" "leads" "[I") ∈ lw_all := lw_g (lw_at lw_m5 167 rfl) rfl
theorem q1245 : (Jvm.Cond.fieldLink "TermDeskModel" (49 : Nat) "TermDeskModel" "inverses" "[I") ∈ lw_all := lw_g (lw_at lw_m5 168 rfl) rfl
theorem q1246 : (Jvm.Cond.fieldLink "TermDeskModel" (325 : Nat) "TermDeskModel" "leftMany" "I") ∈ lw_all := lw_g (lw_at lw_m5 169 rfl) rfl
theorem q1247 : (Jvm.Cond.fieldLink "TermDeskModel" (328 : Nat) "TermDeskModel" "restMany" "I") ∈ lw_all := lw_g (lw_at lw_m5 170 rfl) rfl
theorem q1248 : (Jvm.Cond.fieldLink "TermDeskModel" (331 : Nat) "TermDeskModel" "steps" "I") ∈ lw_all := lw_g (lw_at lw_m5 171 rfl) rfl
theorem q1249 : (Jvm.Cond.fieldLink "TermDeskModel" (340 : Nat) "TermDeskModel" "mostLeft" "I") ∈ lw_all := lw_g (lw_at lw_m5 172 rfl) rfl
theorem q1250 : (Jvm.Cond.fieldLink "TermDeskModel" (52 : Nat) "TermDeskModel" "past" "[I") ∈ lw_all := lw_g (lw_at lw_m5 173 rfl) rfl
theorem q1251 : (Jvm.Cond.fieldLink "TermDeskModel" (55 : Nat) "TermDeskModel" "pastReg" "[I") ∈ lw_all := lw_g (lw_at lw_m5 174 rfl) rfl
theorem q1252 : (Jvm.Cond.fieldLink "TermDeskModel" (58 : Nat) "TermDeskModel" "pastHow" "[I") ∈ lw_all := lw_g (lw_at lw_m5 175 rfl) rfl
theorem q1253 : (Jvm.Cond.fieldLink "TermDeskModel" (61 : Nat) "TermDeskModel" "pastFirst" "[I") ∈ lw_all := lw_g (lw_at lw_m5 176 rfl) rfl
theorem q1254 : (Jvm.Cond.fieldLink "TermDeskModel" (64 : Nat) "TermDeskModel" "pastSecond" "[I") ∈ lw_all := lw_g (lw_at lw_m5 177 rfl) rfl
theorem q1255 : (Jvm.Cond.fieldLink "TermDeskModel" (242 : Nat) "TermDeskModel" "acts" "I") ∈ lw_all := lw_g (lw_at lw_m5 178 rfl) rfl
theorem q1256 : (Jvm.Cond.fieldLink "TermDeskModel" (68 : Nat) "TermDeskModel" "one" "[I") ∈ lw_all := lw_g (lw_at lw_m5 179 rfl) rfl
theorem q1257 : (Jvm.Cond.fieldLink "TermDeskModel" (71 : Nat) "TermDeskModel" "two" "[I") ∈ lw_all := lw_g (lw_at lw_m5 180 rfl) rfl
theorem q1258 : (Jvm.Cond.fieldLink "TermDeskModel" (74 : Nat) "TermDeskModel" "divisor" "[I") ∈ lw_all := lw_g (lw_at lw_m5 181 rfl) rfl
theorem q1259 : (Jvm.Cond.fieldLink "TermDeskModel" (77 : Nat) "TermDeskModel" "rowA" "[I") ∈ lw_all := lw_g (lw_at lw_m5 182 rfl) rfl
theorem q1260 : (Jvm.Cond.fieldLink "TermDeskModel" (80 : Nat) "TermDeskModel" "rowB" "[I") ∈ lw_all := lw_g (lw_at lw_m5 183 rfl) rfl
theorem q1261 : (Jvm.Cond.fieldLink "TermDeskModel" (83 : Nat) "TermDeskModel" "rowC" "[I") ∈ lw_all := lw_g (lw_at lw_m5 184 rfl) rfl
theorem q1262 : (Jvm.Cond.fieldLink "TermDeskModel" (86 : Nat) "TermDeskModel" "bothContent" "[I") ∈ lw_all := lw_g (lw_at lw_m5 185 rfl) rfl
theorem q1263 : (Jvm.Cond.lays "TermDeskModel" "TermDeskModel" "thrown" "I") ∈ lw_all := lw_g (lw_at lw_m5 186 rfl) rfl
theorem q1264 : (Jvm.Cond.soleField "TermDeskModel" "thrown") ∈ lw_all := lw_g (lw_at lw_m5 187 rfl) rfl
theorem q1265 : (Jvm.Cond.lays "TermDeskModel" "TermDeskModel" "trouble" "I") ∈ lw_all := lw_g (lw_at lw_m5 188 rfl) rfl
theorem q1266 : (Jvm.Cond.soleField "TermDeskModel" "trouble") ∈ lw_all := lw_g (lw_at lw_m5 189 rfl) rfl
theorem q1267 : (Jvm.Cond.lays "TermDeskModel" "TermDeskModel" "wrongAt" "I") ∈ lw_all := lw_g (lw_at lw_m5 190 rfl) rfl
theorem q1268 : (Jvm.Cond.soleField "TermDeskModel" "wrongAt") ∈ lw_all := lw_g (lw_at lw_m5 191 rfl) rfl
theorem q1269 : (Jvm.Cond.laysFinal "TermDeskModel" "TermDeskModel" "reg" "[I") ∈ lw_all := lw_g (lw_at lw_m5 192 rfl) rfl
theorem q1270 : (Jvm.Cond.soleField "TermDeskModel" "reg") ∈ lw_all := lw_g (lw_at lw_m5 193 rfl) rfl
theorem q1271 : (Jvm.Cond.laysFinal "TermDeskModel" "TermDeskModel" "read" "[I") ∈ lw_all := lw_g (lw_at lw_m5 194 rfl) rfl
theorem q1272 : (Jvm.Cond.soleField "TermDeskModel" "read") ∈ lw_all := lw_g (lw_at lw_m5 195 rfl) rfl
theorem q1273 : (Jvm.Cond.lays "TermDeskModel" "TermDeskModel" "prime" "I") ∈ lw_all := lw_g (lw_at lw_m5 196 rfl) rfl
theorem q1274 : (Jvm.Cond.soleField "TermDeskModel" "prime") ∈ lw_all := lw_g (lw_at lw_m5 197 rfl) rfl
theorem q1275 : (Jvm.Cond.lays "TermDeskModel" "TermDeskModel" "how" "I") ∈ lw_all := lw_g (lw_at lw_m5 198 rfl) rfl
theorem q1276 : (Jvm.Cond.soleField "TermDeskModel" "how") ∈ lw_all := lw_g (lw_at lw_m5 199 rfl) rfl
theorem q1277 : (Jvm.Cond.lays "TermDeskModel" "TermDeskModel" "first" "I") ∈ lw_all := lw_g (lw_at lw_m5 200 rfl) rfl
theorem q1278 : (Jvm.Cond.soleField "TermDeskModel" "first") ∈ lw_all := lw_g (lw_at lw_m5 201 rfl) rfl
theorem q1279 : (Jvm.Cond.lays "TermDeskModel" "TermDeskModel" "second" "I") ∈ lw_all := lw_g (lw_at lw_m5 202 rfl) rfl
theorem q1280 : (Jvm.Cond.soleField "TermDeskModel" "second") ∈ lw_all := lw_g (lw_at lw_m5 203 rfl) rfl
theorem q1281 : (Jvm.Cond.lays "TermDeskModel" "TermDeskModel" "readPrime" "I") ∈ lw_all := lw_g (lw_at lw_m5 204 rfl) rfl
theorem q1282 : (Jvm.Cond.soleField "TermDeskModel" "readPrime") ∈ lw_all := lw_g (lw_at lw_m5 205 rfl) rfl
theorem q1283 : (Jvm.Cond.lays "TermDeskModel" "TermDeskModel" "readHow" "I") ∈ lw_all := lw_g (lw_at lw_m5 206 rfl) rfl
theorem q1284 : (Jvm.Cond.soleField "TermDeskModel" "readHow") ∈ lw_all := lw_g (lw_at lw_m5 207 rfl) rfl
theorem q1285 : (Jvm.Cond.lays "TermDeskModel" "TermDeskModel" "readFirst" "I") ∈ lw_all := lw_g (lw_at lw_m5 208 rfl) rfl
theorem q1286 : (Jvm.Cond.soleField "TermDeskModel" "readFirst") ∈ lw_all := lw_g (lw_at lw_m5 209 rfl) rfl
theorem q1287 : (Jvm.Cond.lays "TermDeskModel" "TermDeskModel" "readSecond" "I") ∈ lw_all := lw_g (lw_at lw_m5 210 rfl) rfl
theorem q1288 : (Jvm.Cond.soleField "TermDeskModel" "readSecond") ∈ lw_all := lw_g (lw_at lw_m5 211 rfl) rfl
theorem q1289 : (Jvm.Cond.lays "TermDeskModel" "TermDeskModel" "readPolys" "I") ∈ lw_all := lw_g (lw_at lw_m5 212 rfl) rfl
theorem q1290 : (Jvm.Cond.soleField "TermDeskModel" "readPolys") ∈ lw_all := lw_g (lw_at lw_m5 213 rfl) rfl
theorem q1291 : (Jvm.Cond.lays "TermDeskModel" "TermDeskModel" "isThere" "Z") ∈ lw_all := lw_g (lw_at lw_m5 214 rfl) rfl
theorem q1292 : (Jvm.Cond.soleField "TermDeskModel" "isThere") ∈ lw_all := lw_g (lw_at lw_m5 215 rfl) rfl
theorem q1293 : (Jvm.Cond.laysFinal "TermDeskModel" "TermDeskModel" "tape" "[B") ∈ lw_all := lw_g (lw_at lw_m5 216 rfl) rfl
theorem q1294 : (Jvm.Cond.soleField "TermDeskModel" "tape") ∈ lw_all := lw_g (lw_at lw_m5 217 rfl) rfl
theorem q1295 : (Jvm.Cond.lays "TermDeskModel" "TermDeskModel" "taped" "I") ∈ lw_all := lw_g (lw_at lw_m5 218 rfl) rfl
theorem q1296 : (Jvm.Cond.soleField "TermDeskModel" "taped") ∈ lw_all := lw_g (lw_at lw_m5 219 rfl) rfl
theorem q1297 : (Jvm.Cond.lays "TermDeskModel" "TermDeskModel" "size" "I") ∈ lw_all := lw_g (lw_at lw_m5 220 rfl) rfl
theorem q1298 : (Jvm.Cond.soleField "TermDeskModel" "size") ∈ lw_all := lw_g (lw_at lw_m5 221 rfl) rfl
theorem q1299 : (Jvm.Cond.lays "TermDeskModel" "TermDeskModel" "spot" "I") ∈ lw_all := lw_g (lw_at lw_m5 222 rfl) rfl
theorem q1300 : (Jvm.Cond.soleField "TermDeskModel" "spot") ∈ lw_all := lw_g (lw_at lw_m5 223 rfl) rfl
theorem q1301 : (Jvm.Cond.lays "TermDeskModel" "TermDeskModel" "token" "I") ∈ lw_all := lw_g (lw_at lw_m5 224 rfl) rfl
theorem q1302 : (Jvm.Cond.soleField "TermDeskModel" "token") ∈ lw_all := lw_g (lw_at lw_m5 225 rfl) rfl
theorem q1303 : (Jvm.Cond.lays "TermDeskModel" "TermDeskModel" "at" "I") ∈ lw_all := lw_g (lw_at lw_m5 226 rfl) rfl
theorem q1304 : (Jvm.Cond.soleField "TermDeskModel" "at") ∈ lw_all := lw_g (lw_at lw_m5 227 rfl) rfl
theorem q1305 : (Jvm.Cond.lays "TermDeskModel" "TermDeskModel" "number" "I") ∈ lw_all := lw_g (lw_at lw_m5 228 rfl) rfl
theorem q1306 : (Jvm.Cond.soleField "TermDeskModel" "number") ∈ lw_all := lw_g (lw_at lw_m5 229 rfl) rfl
theorem q1307 : (Jvm.Cond.lays "TermDeskModel" "TermDeskModel" "fault" "I") ∈ lw_all := lw_g (lw_at lw_m5 230 rfl) rfl
theorem q1308 : (Jvm.Cond.soleField "TermDeskModel" "fault") ∈ lw_all := lw_g (lw_at lw_m5 231 rfl) rfl
theorem q1309 : (Jvm.Cond.lays "TermDeskModel" "TermDeskModel" "word" "J") ∈ lw_all := lw_g (lw_at lw_m5 232 rfl) rfl
theorem q1310 : (Jvm.Cond.soleField "TermDeskModel" "word") ∈ lw_all := lw_g (lw_at lw_m5 233 rfl) rfl
theorem q1311 : (Jvm.Cond.laysFinal "TermDeskModel" "TermDeskModel" "along" "[I") ∈ lw_all := lw_g (lw_at lw_m5 234 rfl) rfl
theorem q1312 : (Jvm.Cond.soleField "TermDeskModel" "along") ∈ lw_all := lw_g (lw_at lw_m5 235 rfl) rfl
theorem q1313 : (Jvm.Cond.lays "TermDeskModel" "TermDeskModel" "laid" "I") ∈ lw_all := lw_g (lw_at lw_m5 236 rfl) rfl
theorem q1314 : (Jvm.Cond.soleField "TermDeskModel" "laid") ∈ lw_all := lw_g (lw_at lw_m5 237 rfl) rfl
theorem q1315 : (Jvm.Cond.laysFinal "TermDeskModel" "TermDeskModel" "keys" "[I") ∈ lw_all := lw_g (lw_at lw_m5 238 rfl) rfl
theorem q1316 : (Jvm.Cond.soleField "TermDeskModel" "keys") ∈ lw_all := lw_g (lw_at lw_m5 239 rfl) rfl
theorem q1317 : (Jvm.Cond.lays "TermDeskModel" "TermDeskModel" "keyMany" "I") ∈ lw_all := lw_g (lw_at lw_m6 0 rfl) rfl
theorem q1318 : (Jvm.Cond.soleField "TermDeskModel" "keyMany") ∈ lw_all := lw_g (lw_at lw_m6 1 rfl) rfl
theorem q1319 : (Jvm.Cond.laysFinal "TermDeskModel" "TermDeskModel" "work" "[I") ∈ lw_all := lw_g (lw_at lw_m6 2 rfl) rfl
theorem q1320 : (Jvm.Cond.soleField "TermDeskModel" "work") ∈ lw_all := lw_g (lw_at lw_m6 3 rfl) rfl
theorem q1321 : (Jvm.Cond.lays "TermDeskModel" "TermDeskModel" "hasRoom" "Z") ∈ lw_all := lw_g (lw_at lw_m6 4 rfl) rfl
theorem q1322 : (Jvm.Cond.soleField "TermDeskModel" "hasRoom") ∈ lw_all := lw_g (lw_at lw_m6 5 rfl) rfl
theorem q1323 : (Jvm.Cond.laysFinal "TermDeskModel" "TermDeskModel" "left" "[I") ∈ lw_all := lw_g (lw_at lw_m6 6 rfl) rfl
theorem q1324 : (Jvm.Cond.soleField "TermDeskModel" "left") ∈ lw_all := lw_g (lw_at lw_m6 7 rfl) rfl
theorem q1325 : (Jvm.Cond.laysFinal "TermDeskModel" "TermDeskModel" "rest" "[I") ∈ lw_all := lw_g (lw_at lw_m6 8 rfl) rfl
theorem q1326 : (Jvm.Cond.soleField "TermDeskModel" "rest") ∈ lw_all := lw_g (lw_at lw_m6 9 rfl) rfl
theorem q1327 : (Jvm.Cond.laysFinal "TermDeskModel" "TermDeskModel" "quotients" "[I") ∈ lw_all := lw_g (lw_at lw_m6 10 rfl) rfl
theorem q1328 : (Jvm.Cond.soleField "TermDeskModel" "quotients") ∈ lw_all := lw_g (lw_at lw_m6 11 rfl) rfl
theorem q1329 : (Jvm.Cond.laysFinal "TermDeskModel" "TermDeskModel" "quotientMany" "[I") ∈ lw_all := lw_g (lw_at lw_m6 12 rfl) rfl
theorem q1330 : (Jvm.Cond.soleField "TermDeskModel" "quotientMany") ∈ lw_all := lw_g (lw_at lw_m6 13 rfl) rfl
theorem q1331 : (Jvm.Cond.laysFinal "TermDeskModel" "TermDeskModel" "leads" "[I") ∈ lw_all := lw_g (lw_at lw_m6 14 rfl) rfl
theorem q1332 : (Jvm.Cond.soleField "TermDeskModel" "leads") ∈ lw_all := lw_g (lw_at lw_m6 15 rfl) rfl
theorem q1333 : (Jvm.Cond.laysFinal "TermDeskModel" "TermDeskModel" "inverses" "[I") ∈ lw_all := lw_g (lw_at lw_m6 16 rfl) rfl
theorem q1334 : (Jvm.Cond.soleField "TermDeskModel" "inverses") ∈ lw_all := lw_g (lw_at lw_m6 17 rfl) rfl
theorem q1335 : (Jvm.Cond.lays "TermDeskModel" "TermDeskModel" "leftMany" "I") ∈ lw_all := lw_g (lw_at lw_m6 18 rfl) rfl
theorem q1336 : (Jvm.Cond.soleField "TermDeskModel" "leftMany") ∈ lw_all := lw_g (lw_at lw_m6 19 rfl) rfl
theorem q1337 : (Jvm.Cond.lays "TermDeskModel" "TermDeskModel" "restMany" "I") ∈ lw_all := lw_g (lw_at lw_m6 20 rfl) rfl
theorem q1338 : (Jvm.Cond.soleField "TermDeskModel" "restMany") ∈ lw_all := lw_g (lw_at lw_m6 21 rfl) rfl
theorem q1339 : (Jvm.Cond.lays "TermDeskModel" "TermDeskModel" "steps" "I") ∈ lw_all := lw_g (lw_at lw_m6 22 rfl) rfl
theorem q1340 : (Jvm.Cond.soleField "TermDeskModel" "steps") ∈ lw_all := lw_g (lw_at lw_m6 23 rfl) rfl
theorem q1341 : (Jvm.Cond.lays "TermDeskModel" "TermDeskModel" "mostLeft" "I") ∈ lw_all := lw_g (lw_at lw_m6 24 rfl) rfl
theorem q1342 : (Jvm.Cond.soleField "TermDeskModel" "mostLeft") ∈ lw_all := lw_g (lw_at lw_m6 25 rfl) rfl
theorem q1343 : (Jvm.Cond.laysFinal "TermDeskModel" "TermDeskModel" "past" "[I") ∈ lw_all := lw_g (lw_at lw_m6 26 rfl) rfl
theorem q1344 : (Jvm.Cond.soleField "TermDeskModel" "past") ∈ lw_all := lw_g (lw_at lw_m6 27 rfl) rfl
theorem q1345 : (Jvm.Cond.laysFinal "TermDeskModel" "TermDeskModel" "pastReg" "[I") ∈ lw_all := lw_g (lw_at lw_m6 28 rfl) rfl
theorem q1346 : (Jvm.Cond.soleField "TermDeskModel" "pastReg") ∈ lw_all := lw_g (lw_at lw_m6 29 rfl) rfl
theorem q1347 : (Jvm.Cond.laysFinal "TermDeskModel" "TermDeskModel" "pastHow" "[I") ∈ lw_all := lw_g (lw_at lw_m6 30 rfl) rfl
theorem q1348 : (Jvm.Cond.soleField "TermDeskModel" "pastHow") ∈ lw_all := lw_g (lw_at lw_m6 31 rfl) rfl
theorem q1349 : (Jvm.Cond.laysFinal "TermDeskModel" "TermDeskModel" "pastFirst" "[I") ∈ lw_all := lw_g (lw_at lw_m6 32 rfl) rfl
theorem q1350 : (Jvm.Cond.soleField "TermDeskModel" "pastFirst") ∈ lw_all := lw_g (lw_at lw_m6 33 rfl) rfl
theorem q1351 : (Jvm.Cond.laysFinal "TermDeskModel" "TermDeskModel" "pastSecond" "[I") ∈ lw_all := lw_g (lw_at lw_m6 34 rfl) rfl
theorem q1352 : (Jvm.Cond.soleField "TermDeskModel" "pastSecond") ∈ lw_all := lw_g (lw_at lw_m6 35 rfl) rfl
theorem q1353 : (Jvm.Cond.lays "TermDeskModel" "TermDeskModel" "acts" "I") ∈ lw_all := lw_g (lw_at lw_m6 36 rfl) rfl
theorem q1354 : (Jvm.Cond.soleField "TermDeskModel" "acts") ∈ lw_all := lw_g (lw_at lw_m6 37 rfl) rfl
theorem q1355 : (Jvm.Cond.laysFinal "TermDeskModel" "TermDeskModel" "one" "[I") ∈ lw_all := lw_g (lw_at lw_m6 38 rfl) rfl
theorem q1356 : (Jvm.Cond.soleField "TermDeskModel" "one") ∈ lw_all := lw_g (lw_at lw_m6 39 rfl) rfl
theorem q1357 : (Jvm.Cond.laysFinal "TermDeskModel" "TermDeskModel" "two" "[I") ∈ lw_all := lw_g (lw_at lw_m6 40 rfl) rfl
theorem q1358 : (Jvm.Cond.soleField "TermDeskModel" "two") ∈ lw_all := lw_g (lw_at lw_m6 41 rfl) rfl
theorem q1359 : (Jvm.Cond.laysFinal "TermDeskModel" "TermDeskModel" "divisor" "[I") ∈ lw_all := lw_g (lw_at lw_m6 42 rfl) rfl
theorem q1360 : (Jvm.Cond.soleField "TermDeskModel" "divisor") ∈ lw_all := lw_g (lw_at lw_m6 43 rfl) rfl
theorem q1361 : (Jvm.Cond.laysFinal "TermDeskModel" "TermDeskModel" "rowA" "[I") ∈ lw_all := lw_g (lw_at lw_m6 44 rfl) rfl
theorem q1362 : (Jvm.Cond.soleField "TermDeskModel" "rowA") ∈ lw_all := lw_g (lw_at lw_m6 45 rfl) rfl
theorem q1363 : (Jvm.Cond.laysFinal "TermDeskModel" "TermDeskModel" "rowB" "[I") ∈ lw_all := lw_g (lw_at lw_m6 46 rfl) rfl
theorem q1364 : (Jvm.Cond.soleField "TermDeskModel" "rowB") ∈ lw_all := lw_g (lw_at lw_m6 47 rfl) rfl
theorem q1365 : (Jvm.Cond.laysFinal "TermDeskModel" "TermDeskModel" "rowC" "[I") ∈ lw_all := lw_g (lw_at lw_m6 48 rfl) rfl
theorem q1366 : (Jvm.Cond.soleField "TermDeskModel" "rowC") ∈ lw_all := lw_g (lw_at lw_m6 49 rfl) rfl
theorem q1367 : (Jvm.Cond.laysFinal "TermDeskModel" "TermDeskModel" "bothContent" "[I") ∈ lw_all := lw_g (lw_at lw_m6 50 rfl) rfl
theorem q1368 : (Jvm.Cond.soleField "TermDeskModel" "bothContent") ∈ lw_all := lw_g (lw_at lw_m6 51 rfl) rfl
theorem q1369 : (Jvm.Cond.superclass "TermDeskModel" "java/lang/Object") ∈ lw_all := lw_g (lw_at lw_m6 52 rfl) rfl
theorem q1371 : (Jvm.Cond.instanceMethod ({ cls := "TermDeskModel", name := "thrown", desc := "()I" } : Jvm.MethodName)) ∈ lw_all := lw_g (lw_at lw_m6 54 rfl) rfl
theorem q1372 : (Jvm.Cond.selects "TermDeskModel" ({ cls := "TermDeskModel", name := "thrown", desc := "()I" } : Jvm.MethodName) ({ cls := "TermDeskModel", name := "thrown", desc := "()I" } : Jvm.MethodName)) ∈ lw_all := lw_g (lw_at lw_m6 55 rfl) rfl
theorem q1373 : (Jvm.Cond.code ({ cls := "TermDeskModel", name := "thrown", desc := "()I" } : Jvm.MethodName) prog_10_method_2_code (1 : Nat) (Option.some Jvm.ClassFile.FieldType.int)) ∈ lw_all := lw_g (lw_at lw_m6 56 rfl) rfl
theorem q1375 : (Jvm.Cond.instanceMethod ({ cls := "TermDeskModel", name := "feed", desc := "(IIIII)I" } : Jvm.MethodName)) ∈ lw_all := lw_g (lw_at lw_m6 58 rfl) rfl
theorem q1376 : (Jvm.Cond.selects "TermDeskModel" ({ cls := "TermDeskModel", name := "feed", desc := "(IIIII)I" } : Jvm.MethodName) ({ cls := "TermDeskModel", name := "feed", desc := "(IIIII)I" } : Jvm.MethodName)) ∈ lw_all := lw_g (lw_at lw_m6 59 rfl) rfl
theorem q1377 : (Jvm.Cond.code ({ cls := "TermDeskModel", name := "feed", desc := "(IIIII)I" } : Jvm.MethodName) prog_10_method_24_code (8 : Nat) (Option.some Jvm.ClassFile.FieldType.int)) ∈ lw_all := lw_g (lw_at lw_m6 60 rfl) rfl
theorem q1379 : (Jvm.Cond.instanceMethod ({ cls := "TermDeskModel", name := "desk", desc := "(I)I" } : Jvm.MethodName)) ∈ lw_all := lw_g (lw_at lw_m6 62 rfl) rfl
theorem q1380 : (Jvm.Cond.selects "TermDeskModel" ({ cls := "TermDeskModel", name := "desk", desc := "(I)I" } : Jvm.MethodName) ({ cls := "TermDeskModel", name := "desk", desc := "(I)I" } : Jvm.MethodName)) ∈ lw_all := lw_g (lw_at lw_m6 63 rfl) rfl
theorem q1381 : (Jvm.Cond.code ({ cls := "TermDeskModel", name := "desk", desc := "(I)I" } : Jvm.MethodName) prog_10_method_25_code (3 : Nat) (Option.some Jvm.ClassFile.FieldType.int)) ∈ lw_all := lw_g (lw_at lw_m6 64 rfl) rfl
theorem q1382 : (Jvm.Cond.methodLink "TermDeskModel" (221 : Nat) ({ cls := "TermDeskModel", name := "refused", desc := "(I)I" } : Jvm.MethodName)) ∈ lw_all := lw_g (lw_at lw_m6 65 rfl) rfl
theorem q1383 : (Jvm.Cond.privateMethod ({ cls := "TermDeskModel", name := "refused", desc := "(I)I" } : Jvm.MethodName)) ∈ lw_tbl := lw_at lw_m6 66 rfl
theorem q1384 : (Jvm.Cond.instanceMethod ({ cls := "TermDeskModel", name := "refused", desc := "(I)I" } : Jvm.MethodName)) ∈ lw_all := lw_g (lw_at lw_m6 67 rfl) rfl
theorem q1385 : (Jvm.Cond.code ({ cls := "TermDeskModel", name := "refused", desc := "(I)I" } : Jvm.MethodName) prog_10_method_3_code (2 : Nat) (Option.some Jvm.ClassFile.FieldType.int)) ∈ lw_all := lw_g (lw_at lw_m6 68 rfl) rfl
theorem q1386 : (Jvm.Cond.methodLink "TermDeskModel" (224 : Nat) ({ cls := "TermDeskModel", name := "readAll", desc := "()V" } : Jvm.MethodName)) ∈ lw_all := lw_g (lw_at lw_m6 69 rfl) rfl
theorem q1387 : (Jvm.Cond.privateMethod ({ cls := "TermDeskModel", name := "readAll", desc := "()V" } : Jvm.MethodName)) ∈ lw_tbl := lw_at lw_m6 70 rfl
theorem q1388 : (Jvm.Cond.instanceMethod ({ cls := "TermDeskModel", name := "readAll", desc := "()V" } : Jvm.MethodName)) ∈ lw_all := lw_g (lw_at lw_m6 71 rfl) rfl
theorem q1389 : (Jvm.Cond.code ({ cls := "TermDeskModel", name := "readAll", desc := "()V" } : Jvm.MethodName) prog_10_method_17_code (2 : Nat) (Option.none : Option Jvm.ClassFile.FieldType)) ∈ lw_all := lw_g (lw_at lw_m6 72 rfl) rfl
theorem q1390 : (Jvm.Cond.methodLink "TermDeskModel" (153 : Nat) ({ cls := "TermDeskModel", name := "next", desc := "()V" } : Jvm.MethodName)) ∈ lw_all := lw_g (lw_at lw_m6 73 rfl) rfl
theorem q1391 : (Jvm.Cond.privateMethod ({ cls := "TermDeskModel", name := "next", desc := "()V" } : Jvm.MethodName)) ∈ lw_tbl := lw_at lw_m6 74 rfl
theorem q1392 : (Jvm.Cond.instanceMethod ({ cls := "TermDeskModel", name := "next", desc := "()V" } : Jvm.MethodName)) ∈ lw_all := lw_g (lw_at lw_m6 75 rfl) rfl
theorem q1393 : (Jvm.Cond.code ({ cls := "TermDeskModel", name := "next", desc := "()V" } : Jvm.MethodName) prog_10_method_10_code (2 : Nat) (Option.none : Option Jvm.ClassFile.FieldType)) ∈ lw_all := lw_g (lw_at lw_m6 76 rfl) rfl
theorem q1394 : (Jvm.Cond.methodLink "TermDeskModel" (108 : Nat) ({ cls := "TermDeskModel", name := "byteAt", desc := "(I)I" } : Jvm.MethodName)) ∈ lw_all := lw_g (lw_at lw_m6 77 rfl) rfl
theorem q1395 : (Jvm.Cond.privateMethod ({ cls := "TermDeskModel", name := "byteAt", desc := "(I)I" } : Jvm.MethodName)) ∈ lw_tbl := lw_at lw_m6 78 rfl
theorem q1396 : (Jvm.Cond.instanceMethod ({ cls := "TermDeskModel", name := "byteAt", desc := "(I)I" } : Jvm.MethodName)) ∈ lw_all := lw_g (lw_at lw_m6 79 rfl) rfl
theorem q1397 : (Jvm.Cond.code ({ cls := "TermDeskModel", name := "byteAt", desc := "(I)I" } : Jvm.MethodName) prog_10_method_9_code (2 : Nat) (Option.some Jvm.ClassFile.FieldType.int)) ∈ lw_all := lw_g (lw_at lw_m6 80 rfl) rfl
theorem q1398 : (Jvm.Cond.methodLink "TermDeskModel" (118 : Nat) ({ cls := "TermDeskModel", name := "in", desc := "(III)Z" } : Jvm.MethodName)) ∈ lw_all := lw_g (lw_at lw_m6 81 rfl) rfl
theorem q1399 : (Jvm.Cond.static ({ cls := "TermDeskModel", name := "in", desc := "(III)Z" } : Jvm.MethodName)) ∈ lw_all := lw_g (lw_at lw_m6 82 rfl) rfl
theorem q1400 : (Jvm.Cond.code ({ cls := "TermDeskModel", name := "in", desc := "(III)Z" } : Jvm.MethodName) prog_10_method_5_code (3 : Nat) (Option.some Jvm.ClassFile.FieldType.boolean)) ∈ lw_all := lw_g (lw_at lw_m6 83 rfl) rfl
theorem q1401 : (Jvm.Cond.methodLink "TermDeskModel" (122 : Nat) ({ cls := "TermDeskModel", name := "nextWord", desc := "()V" } : Jvm.MethodName)) ∈ lw_all := lw_g (lw_at lw_m6 84 rfl) rfl
theorem q1402 : (Jvm.Cond.privateMethod ({ cls := "TermDeskModel", name := "nextWord", desc := "()V" } : Jvm.MethodName)) ∈ lw_tbl := lw_at lw_m6 85 rfl
theorem q1403 : (Jvm.Cond.instanceMethod ({ cls := "TermDeskModel", name := "nextWord", desc := "()V" } : Jvm.MethodName)) ∈ lw_all := lw_g (lw_at lw_m6 86 rfl) rfl
theorem q1404 : (Jvm.Cond.code ({ cls := "TermDeskModel", name := "nextWord", desc := "()V" } : Jvm.MethodName) prog_10_method_11_code (1 : Nat) (Option.none : Option Jvm.ClassFile.FieldType)) ∈ lw_all := lw_g (lw_at lw_m6 87 rfl) rfl
theorem q1405 : (Jvm.Cond.methodLink "TermDeskModel" (125 : Nat) ({ cls := "TermDeskModel", name := "nextWhole", desc := "()V" } : Jvm.MethodName)) ∈ lw_all := lw_g (lw_at lw_m6 88 rfl) rfl
theorem q1406 : (Jvm.Cond.privateMethod ({ cls := "TermDeskModel", name := "nextWhole", desc := "()V" } : Jvm.MethodName)) ∈ lw_tbl := lw_at lw_m6 89 rfl
theorem q1407 : (Jvm.Cond.instanceMethod ({ cls := "TermDeskModel", name := "nextWhole", desc := "()V" } : Jvm.MethodName)) ∈ lw_all := lw_g (lw_at lw_m6 90 rfl) rfl
theorem q1408 : (Jvm.Cond.code ({ cls := "TermDeskModel", name := "nextWhole", desc := "()V" } : Jvm.MethodName) prog_10_method_12_code (1 : Nat) (Option.none : Option Jvm.ClassFile.FieldType)) ∈ lw_all := lw_g (lw_at lw_m6 91 rfl) rfl
theorem q1409 : (Jvm.Cond.methodLink "TermDeskModel" (168 : Nat) ({ cls := "TermDeskModel", name := "readLine", desc := "()V" } : Jvm.MethodName)) ∈ lw_all := lw_g (lw_at lw_m6 92 rfl) rfl
theorem q1410 : (Jvm.Cond.privateMethod ({ cls := "TermDeskModel", name := "readLine", desc := "()V" } : Jvm.MethodName)) ∈ lw_tbl := lw_at lw_m6 93 rfl
theorem q1411 : (Jvm.Cond.instanceMethod ({ cls := "TermDeskModel", name := "readLine", desc := "()V" } : Jvm.MethodName)) ∈ lw_all := lw_g (lw_at lw_m6 94 rfl) rfl
theorem q1412 : (Jvm.Cond.code ({ cls := "TermDeskModel", name := "readLine", desc := "()V" } : Jvm.MethodName) prog_10_method_18_code (1 : Nat) (Option.none : Option Jvm.ClassFile.FieldType)) ∈ lw_all := lw_g (lw_at lw_m6 95 rfl) rfl
theorem q1413 : (Jvm.Cond.stringRef "TermDeskModel" (171 : Nat) "ring") ∈ lw_tbl := lw_at lw_m6 96 rfl
theorem q1414 : (Jvm.Cond.methodLink "TermDeskModel" (145 : Nat) ({ cls := "TermDeskModel", name := "isWord", desc := "(Ljava/lang/String;)Z" } : Jvm.MethodName)) ∈ lw_all := lw_g (lw_at lw_m6 97 rfl) rfl
theorem q1415 : (Jvm.Cond.privateMethod ({ cls := "TermDeskModel", name := "isWord", desc := "(Ljava/lang/String;)Z" } : Jvm.MethodName)) ∈ lw_tbl := lw_at lw_m6 98 rfl
theorem q1416 : (Jvm.Cond.instanceMethod ({ cls := "TermDeskModel", name := "isWord", desc := "(Ljava/lang/String;)Z" } : Jvm.MethodName)) ∈ lw_all := lw_g (lw_at lw_m6 99 rfl) rfl
theorem q1417 : (Jvm.Cond.code ({ cls := "TermDeskModel", name := "isWord", desc := "(Ljava/lang/String;)Z" } : Jvm.MethodName) prog_10_method_14_code (5 : Nat) (Option.some Jvm.ClassFile.FieldType.boolean)) ∈ lw_all := lw_g (lw_at lw_m6 100 rfl) rfl
theorem q1418 : (Jvm.Cond.methodLink "TermDeskModel" (135 : Nat) ({ cls := "java/lang/String", name := "length", desc := "()I" } : Jvm.MethodName)) ∈ lw_all := lw_g (lw_at lw_m6 101 rfl) rfl
theorem q1426 : (Jvm.Cond.methodLink "TermDeskModel" (141 : Nat) ({ cls := "java/lang/String", name := "charAt", desc := "(I)C" } : Jvm.MethodName)) ∈ lw_all := lw_g (lw_at lw_m6 109 rfl) rfl
theorem q1446 : (Jvm.Cond.methodLink "TermDeskModel" (173 : Nat) ({ cls := "TermDeskModel", name := "readRing", desc := "()V" } : Jvm.MethodName)) ∈ lw_all := lw_g (lw_at lw_m6 129 rfl) rfl
theorem q1447 : (Jvm.Cond.privateMethod ({ cls := "TermDeskModel", name := "readRing", desc := "()V" } : Jvm.MethodName)) ∈ lw_tbl := lw_at lw_m6 130 rfl
theorem q1448 : (Jvm.Cond.instanceMethod ({ cls := "TermDeskModel", name := "readRing", desc := "()V" } : Jvm.MethodName)) ∈ lw_all := lw_g (lw_at lw_m6 131 rfl) rfl
theorem q1449 : (Jvm.Cond.code ({ cls := "TermDeskModel", name := "readRing", desc := "()V" } : Jvm.MethodName) prog_10_method_20_code (2 : Nat) (Option.none : Option Jvm.ClassFile.FieldType)) ∈ lw_all := lw_g (lw_at lw_m6 132 rfl) rfl
theorem q1450 : (Jvm.Cond.methodLink "TermDeskModel" (149 : Nat) ({ cls := "TermDeskModel", name := "flaw", desc := "(I)V" } : Jvm.MethodName)) ∈ lw_all := lw_g (lw_at lw_m6 133 rfl) rfl
theorem q1451 : (Jvm.Cond.privateMethod ({ cls := "TermDeskModel", name := "flaw", desc := "(I)V" } : Jvm.MethodName)) ∈ lw_tbl := lw_at lw_m6 134 rfl
theorem q1452 : (Jvm.Cond.instanceMethod ({ cls := "TermDeskModel", name := "flaw", desc := "(I)V" } : Jvm.MethodName)) ∈ lw_all := lw_g (lw_at lw_m6 135 rfl) rfl
theorem q1453 : (Jvm.Cond.code ({ cls := "TermDeskModel", name := "flaw", desc := "(I)V" } : Jvm.MethodName) prog_10_method_13_code (2 : Nat) (Option.none : Option Jvm.ClassFile.FieldType)) ∈ lw_all := lw_g (lw_at lw_m6 136 rfl) rfl
theorem q1454 : (Jvm.Cond.stringRef "TermDeskModel" (181 : Nat) "prime") ∈ lw_tbl := lw_at lw_m6 137 rfl
theorem q1455 : (Jvm.Cond.methodLink "TermDeskModel" (183 : Nat) ({ cls := "TermDeskModel", name := "needs", desc := "(Ljava/lang/String;)V" } : Jvm.MethodName)) ∈ lw_all := lw_g (lw_at lw_m6 138 rfl) rfl
theorem q1456 : (Jvm.Cond.privateMethod ({ cls := "TermDeskModel", name := "needs", desc := "(Ljava/lang/String;)V" } : Jvm.MethodName)) ∈ lw_tbl := lw_at lw_m6 139 rfl
theorem q1457 : (Jvm.Cond.instanceMethod ({ cls := "TermDeskModel", name := "needs", desc := "(Ljava/lang/String;)V" } : Jvm.MethodName)) ∈ lw_all := lw_g (lw_at lw_m6 140 rfl) rfl
theorem q1458 : (Jvm.Cond.code ({ cls := "TermDeskModel", name := "needs", desc := "(Ljava/lang/String;)V" } : Jvm.MethodName) prog_10_method_15_code (2 : Nat) (Option.none : Option Jvm.ClassFile.FieldType)) ∈ lw_all := lw_g (lw_at lw_m6 141 rfl) rfl
theorem q1459 : (Jvm.Cond.methodLink "TermDeskModel" (187 : Nat) ({ cls := "TermDeskModel", name := "isPrime", desc := "(I)Z" } : Jvm.MethodName)) ∈ lw_all := lw_g (lw_at lw_m6 142 rfl) rfl
theorem q1460 : (Jvm.Cond.static ({ cls := "TermDeskModel", name := "isPrime", desc := "(I)Z" } : Jvm.MethodName)) ∈ lw_all := lw_g (lw_at lw_m6 143 rfl) rfl
theorem q1461 : (Jvm.Cond.code ({ cls := "TermDeskModel", name := "isPrime", desc := "(I)Z" } : Jvm.MethodName) prog_10_method_19_code (2 : Nat) (Option.some Jvm.ClassFile.FieldType.boolean)) ∈ lw_all := lw_g (lw_at lw_m6 144 rfl) rfl
theorem q1462 : (Jvm.Cond.stringRef "TermDeskModel" (191 : Nat) "order") ∈ lw_tbl := lw_at lw_m6 145 rfl
theorem q1463 : (Jvm.Cond.stringRef "TermDeskModel" (193 : Nat) "lex") ∈ lw_tbl := lw_at lw_m6 146 rfl
theorem q1464 : (Jvm.Cond.stringRef "TermDeskModel" (195 : Nat) "deg") ∈ lw_tbl := lw_at lw_m6 147 rfl
theorem q1465 : (Jvm.Cond.stringRef "TermDeskModel" (197 : Nat) "rev") ∈ lw_tbl := lw_at lw_m6 148 rfl
theorem q1466 : (Jvm.Cond.methodLink "TermDeskModel" (202 : Nat) ({ cls := "TermDeskModel", name := "readUnknown", desc := "(II)I" } : Jvm.MethodName)) ∈ lw_all := lw_g (lw_at lw_m6 149 rfl) rfl
theorem q1467 : (Jvm.Cond.privateMethod ({ cls := "TermDeskModel", name := "readUnknown", desc := "(II)I" } : Jvm.MethodName)) ∈ lw_tbl := lw_at lw_m6 150 rfl
theorem q1468 : (Jvm.Cond.instanceMethod ({ cls := "TermDeskModel", name := "readUnknown", desc := "(II)I" } : Jvm.MethodName)) ∈ lw_all := lw_g (lw_at lw_m6 151 rfl) rfl
theorem q1469 : (Jvm.Cond.code ({ cls := "TermDeskModel", name := "readUnknown", desc := "(II)I" } : Jvm.MethodName) prog_10_method_21_code (4 : Nat) (Option.some Jvm.ClassFile.FieldType.int)) ∈ lw_all := lw_g (lw_at lw_m6 152 rfl) rfl
theorem q1470 : (Jvm.Cond.methodLink "TermDeskModel" (211 : Nat) ({ cls := "TermDeskModel", name := "unknownHere", desc := "()I" } : Jvm.MethodName)) ∈ lw_all := lw_g (lw_at lw_m6 153 rfl) rfl
theorem q1471 : (Jvm.Cond.privateMethod ({ cls := "TermDeskModel", name := "unknownHere", desc := "()I" } : Jvm.MethodName)) ∈ lw_tbl := lw_at lw_m6 154 rfl
theorem q1472 : (Jvm.Cond.instanceMethod ({ cls := "TermDeskModel", name := "unknownHere", desc := "()I" } : Jvm.MethodName)) ∈ lw_all := lw_g (lw_at lw_m6 155 rfl) rfl
theorem q1473 : (Jvm.Cond.code ({ cls := "TermDeskModel", name := "unknownHere", desc := "()I" } : Jvm.MethodName) prog_10_method_16_code (1 : Nat) (Option.some Jvm.ClassFile.FieldType.int)) ∈ lw_all := lw_g (lw_at lw_m6 156 rfl) rfl
theorem q1474 : (Jvm.Cond.stringRef "TermDeskModel" (156 : Nat) "x") ∈ lw_tbl := lw_at lw_m6 157 rfl
theorem q1475 : (Jvm.Cond.stringRef "TermDeskModel" (158 : Nat) "y") ∈ lw_tbl := lw_at lw_m6 158 rfl
theorem q1476 : (Jvm.Cond.stringRef "TermDeskModel" (160 : Nat) "z") ∈ lw_tbl := lw_at lw_m6 159 rfl
theorem q1477 : (Jvm.Cond.stringRef "TermDeskModel" (176 : Nat) "poly") ∈ lw_tbl := lw_at lw_m6 160 rfl
theorem q1478 : (Jvm.Cond.methodLink "TermDeskModel" (178 : Nat) ({ cls := "TermDeskModel", name := "readPoly", desc := "()V" } : Jvm.MethodName)) ∈ lw_all := lw_g (lw_at lw_m6 161 rfl) rfl
theorem q1479 : (Jvm.Cond.privateMethod ({ cls := "TermDeskModel", name := "readPoly", desc := "()V" } : Jvm.MethodName)) ∈ lw_tbl := lw_at lw_m6 162 rfl
theorem q1480 : (Jvm.Cond.instanceMethod ({ cls := "TermDeskModel", name := "readPoly", desc := "()V" } : Jvm.MethodName)) ∈ lw_all := lw_g (lw_at lw_m6 163 rfl) rfl
theorem q1481 : (Jvm.Cond.code ({ cls := "TermDeskModel", name := "readPoly", desc := "()V" } : Jvm.MethodName) prog_10_method_22_code (3 : Nat) (Option.none : Option Jvm.ClassFile.FieldType)) ∈ lw_all := lw_g (lw_at lw_m6 164 rfl) rfl
theorem q1482 : (Jvm.Cond.methodLink "TermDeskModel" (214 : Nat) ({ cls := "TermDeskModel", name := "readTerm", desc := "(Z)V" } : Jvm.MethodName)) ∈ lw_all := lw_g (lw_at lw_m6 165 rfl) rfl
theorem q1483 : (Jvm.Cond.privateMethod ({ cls := "TermDeskModel", name := "readTerm", desc := "(Z)V" } : Jvm.MethodName)) ∈ lw_tbl := lw_at lw_m6 166 rfl
theorem q1484 : (Jvm.Cond.instanceMethod ({ cls := "TermDeskModel", name := "readTerm", desc := "(Z)V" } : Jvm.MethodName)) ∈ lw_all := lw_g (lw_at lw_m6 167 rfl) rfl
theorem q1485 : (Jvm.Cond.code ({ cls := "TermDeskModel", name := "readTerm", desc := "(Z)V" } : Jvm.MethodName) prog_10_method_23_code (8 : Nat) (Option.none : Option Jvm.ClassFile.FieldType)) ∈ lw_all := lw_g (lw_at lw_m6 168 rfl) rfl
theorem q1486 : (Jvm.Cond.methodLink "TermDeskModel" (245 : Nat) ({ cls := "TermDeskModel", name := "laysOrder", desc := "()V" } : Jvm.MethodName)) ∈ lw_all := lw_g (lw_at lw_m6 169 rfl) rfl
theorem q1487 : (Jvm.Cond.privateMethod ({ cls := "TermDeskModel", name := "laysOrder", desc := "()V" } : Jvm.MethodName)) ∈ lw_tbl := lw_at lw_m6 170 rfl
theorem q1488 : (Jvm.Cond.instanceMethod ({ cls := "TermDeskModel", name := "laysOrder", desc := "()V" } : Jvm.MethodName)) ∈ lw_all := lw_g (lw_at lw_m6 171 rfl) rfl
theorem q1489 : (Jvm.Cond.code ({ cls := "TermDeskModel", name := "laysOrder", desc := "()V" } : Jvm.MethodName) prog_10_method_30_code (4 : Nat) (Option.none : Option Jvm.ClassFile.FieldType)) ∈ lw_all := lw_g (lw_at lw_m6 172 rfl) rfl
theorem q1490 : (Jvm.Cond.methodLink "TermDeskModel" (257 : Nat) ({ cls := "TermDeskModel", name := "laysKey", desc := "(III)V" } : Jvm.MethodName)) ∈ lw_all := lw_g (lw_at lw_m6 173 rfl) rfl
theorem q1491 : (Jvm.Cond.privateMethod ({ cls := "TermDeskModel", name := "laysKey", desc := "(III)V" } : Jvm.MethodName)) ∈ lw_tbl := lw_at lw_m6 174 rfl
theorem q1492 : (Jvm.Cond.instanceMethod ({ cls := "TermDeskModel", name := "laysKey", desc := "(III)V" } : Jvm.MethodName)) ∈ lw_all := lw_g (lw_at lw_m6 175 rfl) rfl
theorem q1493 : (Jvm.Cond.code ({ cls := "TermDeskModel", name := "laysKey", desc := "(III)V" } : Jvm.MethodName) prog_10_method_29_code (4 : Nat) (Option.none : Option Jvm.ClassFile.FieldType)) ∈ lw_all := lw_g (lw_at lw_m6 176 rfl) rfl
theorem q1494 : (Jvm.Cond.methodLink "TermDeskModel" (254 : Nat) ({ cls := "TermDeskModel", name := "third", desc := "()I" } : Jvm.MethodName)) ∈ lw_all := lw_g (lw_at lw_m6 177 rfl) rfl
theorem q1495 : (Jvm.Cond.privateMethod ({ cls := "TermDeskModel", name := "third", desc := "()I" } : Jvm.MethodName)) ∈ lw_tbl := lw_at lw_m6 178 rfl
theorem q1496 : (Jvm.Cond.instanceMethod ({ cls := "TermDeskModel", name := "third", desc := "()I" } : Jvm.MethodName)) ∈ lw_all := lw_g (lw_at lw_m6 179 rfl) rfl
theorem q1497 : (Jvm.Cond.code ({ cls := "TermDeskModel", name := "third", desc := "()I" } : Jvm.MethodName) prog_10_method_28_code (1 : Nat) (Option.some Jvm.ClassFile.FieldType.int)) ∈ lw_all := lw_g (lw_at lw_m6 180 rfl) rfl
theorem q1498 : (Jvm.Cond.methodLink "TermDeskModel" (248 : Nat) ({ cls := "TermDeskModel", name := "good", desc := "(I)I" } : Jvm.MethodName)) ∈ lw_all := lw_g (lw_at lw_m6 181 rfl) rfl
theorem q1499 : (Jvm.Cond.privateMethod ({ cls := "TermDeskModel", name := "good", desc := "(I)I" } : Jvm.MethodName)) ∈ lw_tbl := lw_at lw_m6 182 rfl
theorem q1500 : (Jvm.Cond.instanceMethod ({ cls := "TermDeskModel", name := "good", desc := "(I)I" } : Jvm.MethodName)) ∈ lw_all := lw_g (lw_at lw_m6 183 rfl) rfl
theorem q1501 : (Jvm.Cond.code ({ cls := "TermDeskModel", name := "good", desc := "(I)I" } : Jvm.MethodName) prog_10_method_4_code (2 : Nat) (Option.some Jvm.ClassFile.FieldType.int)) ∈ lw_all := lw_g (lw_at lw_m6 184 rfl) rfl
theorem q1503 : (Jvm.Cond.instanceMethod ({ cls := "TermDeskModel", name := "fault", desc := "()I" } : Jvm.MethodName)) ∈ lw_all := lw_g (lw_at lw_m6 186 rfl) rfl
theorem q1504 : (Jvm.Cond.selects "TermDeskModel" ({ cls := "TermDeskModel", name := "fault", desc := "()I" } : Jvm.MethodName) ({ cls := "TermDeskModel", name := "fault", desc := "()I" } : Jvm.MethodName)) ∈ lw_all := lw_g (lw_at lw_m6 187 rfl) rfl
theorem q1505 : (Jvm.Cond.code ({ cls := "TermDeskModel", name := "fault", desc := "()I" } : Jvm.MethodName) prog_10_method_26_code (1 : Nat) (Option.some Jvm.ClassFile.FieldType.int)) ∈ lw_all := lw_g (lw_at lw_m6 188 rfl) rfl
theorem q1507 : (Jvm.Cond.instanceMethod ({ cls := "TermDeskModel", name := "where", desc := "()I" } : Jvm.MethodName)) ∈ lw_all := lw_g (lw_at lw_m6 190 rfl) rfl
theorem q1508 : (Jvm.Cond.selects "TermDeskModel" ({ cls := "TermDeskModel", name := "where", desc := "()I" } : Jvm.MethodName) ({ cls := "TermDeskModel", name := "where", desc := "()I" } : Jvm.MethodName)) ∈ lw_all := lw_g (lw_at lw_m6 191 rfl) rfl
theorem q1509 : (Jvm.Cond.code ({ cls := "TermDeskModel", name := "where", desc := "()I" } : Jvm.MethodName) prog_10_method_27_code (1 : Nat) (Option.some Jvm.ClassFile.FieldType.int)) ∈ lw_all := lw_g (lw_at lw_m6 192 rfl) rfl
theorem q1511 : (Jvm.Cond.instanceMethod ({ cls := "TermDeskModel", name := "about", desc := "(I)I" } : Jvm.MethodName)) ∈ lw_all := lw_g (lw_at lw_m6 194 rfl) rfl
theorem q1512 : (Jvm.Cond.selects "TermDeskModel" ({ cls := "TermDeskModel", name := "about", desc := "(I)I" } : Jvm.MethodName) ({ cls := "TermDeskModel", name := "about", desc := "(I)I" } : Jvm.MethodName)) ∈ lw_all := lw_g (lw_at lw_m6 195 rfl) rfl
theorem q1513 : (Jvm.Cond.code ({ cls := "TermDeskModel", name := "about", desc := "(I)I" } : Jvm.MethodName) prog_10_method_41_code (2 : Nat) (Option.some Jvm.ClassFile.FieldType.int)) ∈ lw_all := lw_g (lw_at lw_m6 196 rfl) rfl
theorem q1514 : (Jvm.Cond.methodLink "TermDeskModel" (273 : Nat) ({ cls := "TermDeskModel", name := "notZero", desc := "()I" } : Jvm.MethodName)) ∈ lw_all := lw_g (lw_at lw_m6 197 rfl) rfl
theorem q1515 : (Jvm.Cond.privateMethod ({ cls := "TermDeskModel", name := "notZero", desc := "()I" } : Jvm.MethodName)) ∈ lw_tbl := lw_at lw_m6 198 rfl
theorem q1516 : (Jvm.Cond.instanceMethod ({ cls := "TermDeskModel", name := "notZero", desc := "()I" } : Jvm.MethodName)) ∈ lw_all := lw_g (lw_at lw_m6 199 rfl) rfl
theorem q1517 : (Jvm.Cond.code ({ cls := "TermDeskModel", name := "notZero", desc := "()I" } : Jvm.MethodName) prog_10_method_40_code (3 : Nat) (Option.some Jvm.ClassFile.FieldType.int)) ∈ lw_all := lw_g (lw_at lw_m6 200 rfl) rfl
theorem q1518 : (Jvm.Cond.methodLink "TermDeskModel" (270 : Nat) ({ cls := "TermDeskModel", name := "isZero", desc := "(I)Z" } : Jvm.MethodName)) ∈ lw_all := lw_g (lw_at lw_m6 201 rfl) rfl
theorem q1519 : (Jvm.Cond.privateMethod ({ cls := "TermDeskModel", name := "isZero", desc := "(I)Z" } : Jvm.MethodName)) ∈ lw_tbl := lw_at lw_m6 202 rfl
theorem q1520 : (Jvm.Cond.instanceMethod ({ cls := "TermDeskModel", name := "isZero", desc := "(I)Z" } : Jvm.MethodName)) ∈ lw_all := lw_g (lw_at lw_m6 203 rfl) rfl
theorem q1521 : (Jvm.Cond.code ({ cls := "TermDeskModel", name := "isZero", desc := "(I)Z" } : Jvm.MethodName) prog_10_method_38_code (2 : Nat) (Option.some Jvm.ClassFile.FieldType.boolean)) ∈ lw_all := lw_g (lw_at lw_m6 204 rfl) rfl
theorem q1522 : (Jvm.Cond.methodLink "TermDeskModel" (267 : Nat) ({ cls := "TermDeskModel", name := "termsOf", desc := "(I)I" } : Jvm.MethodName)) ∈ lw_all := lw_g (lw_at lw_m6 205 rfl) rfl
theorem q1523 : (Jvm.Cond.privateMethod ({ cls := "TermDeskModel", name := "termsOf", desc := "(I)I" } : Jvm.MethodName)) ∈ lw_tbl := lw_at lw_m6 206 rfl
theorem q1524 : (Jvm.Cond.instanceMethod ({ cls := "TermDeskModel", name := "termsOf", desc := "(I)I" } : Jvm.MethodName)) ∈ lw_all := lw_g (lw_at lw_m6 207 rfl) rfl
theorem q1525 : (Jvm.Cond.code ({ cls := "TermDeskModel", name := "termsOf", desc := "(I)I" } : Jvm.MethodName) prog_10_method_37_code (4 : Nat) (Option.some Jvm.ClassFile.FieldType.int)) ∈ lw_all := lw_g (lw_at lw_m6 208 rfl) rfl
theorem q1526 : (Jvm.Cond.methodLink "TermDeskModel" (264 : Nat) ({ cls := "TermDeskModel", name := "coef", desc := "(II)I" } : Jvm.MethodName)) ∈ lw_all := lw_g (lw_at lw_m6 209 rfl) rfl
theorem q1527 : (Jvm.Cond.privateMethod ({ cls := "TermDeskModel", name := "coef", desc := "(II)I" } : Jvm.MethodName)) ∈ lw_tbl := lw_at lw_m6 210 rfl
theorem q1528 : (Jvm.Cond.instanceMethod ({ cls := "TermDeskModel", name := "coef", desc := "(II)I" } : Jvm.MethodName)) ∈ lw_all := lw_g (lw_at lw_m6 211 rfl) rfl
theorem q1529 : (Jvm.Cond.code ({ cls := "TermDeskModel", name := "coef", desc := "(II)I" } : Jvm.MethodName) prog_10_method_36_code (3 : Nat) (Option.some Jvm.ClassFile.FieldType.int)) ∈ lw_all := lw_g (lw_at lw_m6 212 rfl) rfl
theorem q1531 : (Jvm.Cond.instanceMethod ({ cls := "TermDeskModel", name := "terms", desc := "(I)I" } : Jvm.MethodName)) ∈ lw_all := lw_g (lw_at lw_m6 214 rfl) rfl
theorem q1532 : (Jvm.Cond.selects "TermDeskModel" ({ cls := "TermDeskModel", name := "terms", desc := "(I)I" } : Jvm.MethodName) ({ cls := "TermDeskModel", name := "terms", desc := "(I)I" } : Jvm.MethodName)) ∈ lw_all := lw_g (lw_at lw_m6 215 rfl) rfl
theorem q1533 : (Jvm.Cond.code ({ cls := "TermDeskModel", name := "terms", desc := "(I)I" } : Jvm.MethodName) prog_10_method_42_code (2 : Nat) (Option.some Jvm.ClassFile.FieldType.int)) ∈ lw_all := lw_g (lw_at lw_m6 216 rfl) rfl
theorem q1534 : (Jvm.Cond.methodLink "TermDeskModel" (276 : Nat) ({ cls := "TermDeskModel", name := "isReg", desc := "(I)Z" } : Jvm.MethodName)) ∈ lw_all := lw_g (lw_at lw_m6 217 rfl) rfl
theorem q1535 : (Jvm.Cond.privateMethod ({ cls := "TermDeskModel", name := "isReg", desc := "(I)Z" } : Jvm.MethodName)) ∈ lw_tbl := lw_at lw_m6 218 rfl
theorem q1536 : (Jvm.Cond.instanceMethod ({ cls := "TermDeskModel", name := "isReg", desc := "(I)Z" } : Jvm.MethodName)) ∈ lw_all := lw_g (lw_at lw_m6 219 rfl) rfl
theorem q1537 : (Jvm.Cond.code ({ cls := "TermDeskModel", name := "isReg", desc := "(I)Z" } : Jvm.MethodName) prog_10_method_32_code (2 : Nat) (Option.some Jvm.ClassFile.FieldType.boolean)) ∈ lw_all := lw_g (lw_at lw_m6 220 rfl) rfl
theorem q1539 : (Jvm.Cond.instanceMethod ({ cls := "TermDeskModel", name := "term", desc := "(III)I" } : Jvm.MethodName)) ∈ lw_all := lw_g (lw_at lw_m6 222 rfl) rfl
theorem q1540 : (Jvm.Cond.selects "TermDeskModel" ({ cls := "TermDeskModel", name := "term", desc := "(III)I" } : Jvm.MethodName) ({ cls := "TermDeskModel", name := "term", desc := "(III)I" } : Jvm.MethodName)) ∈ lw_all := lw_g (lw_at lw_m6 223 rfl) rfl
theorem q1541 : (Jvm.Cond.code ({ cls := "TermDeskModel", name := "term", desc := "(III)I" } : Jvm.MethodName) prog_10_method_43_code (7 : Nat) (Option.some Jvm.ClassFile.FieldType.int)) ∈ lw_all := lw_g (lw_at lw_m6 224 rfl) rfl
theorem q1542 : (Jvm.Cond.methodLink "TermDeskModel" (261 : Nat) ({ cls := "TermDeskModel", name := "degreeOf", desc := "(I)I" } : Jvm.MethodName)) ∈ lw_all := lw_g (lw_at lw_m6 225 rfl) rfl
theorem q1543 : (Jvm.Cond.static ({ cls := "TermDeskModel", name := "degreeOf", desc := "(I)I" } : Jvm.MethodName)) ∈ lw_all := lw_g (lw_at lw_m6 226 rfl) rfl
theorem q1544 : (Jvm.Cond.code ({ cls := "TermDeskModel", name := "degreeOf", desc := "(I)I" } : Jvm.MethodName) prog_10_method_7_code (1 : Nat) (Option.some Jvm.ClassFile.FieldType.int)) ∈ lw_all := lw_g (lw_at lw_m6 227 rfl) rfl
theorem q1545 : (Jvm.Cond.methodLink "TermDeskModel" (95 : Nat) ({ cls := "TermDeskModel", name := "exponent", desc := "(II)I" } : Jvm.MethodName)) ∈ lw_all := lw_g (lw_at lw_m6 228 rfl) rfl
theorem q1546 : (Jvm.Cond.static ({ cls := "TermDeskModel", name := "exponent", desc := "(II)I" } : Jvm.MethodName)) ∈ lw_all := lw_g (lw_at lw_m6 229 rfl) rfl
theorem q1547 : (Jvm.Cond.code ({ cls := "TermDeskModel", name := "exponent", desc := "(II)I" } : Jvm.MethodName) prog_10_method_6_code (2 : Nat) (Option.some Jvm.ClassFile.FieldType.int)) ∈ lw_all := lw_g (lw_at lw_m6 230 rfl) rfl
theorem q1549 : (Jvm.Cond.instanceMethod ({ cls := "TermDeskModel", name := "degree", desc := "(I)I" } : Jvm.MethodName)) ∈ lw_all := lw_g (lw_at lw_m6 232 rfl) rfl
theorem q1550 : (Jvm.Cond.selects "TermDeskModel" ({ cls := "TermDeskModel", name := "degree", desc := "(I)I" } : Jvm.MethodName) ({ cls := "TermDeskModel", name := "degree", desc := "(I)I" } : Jvm.MethodName)) ∈ lw_all := lw_g (lw_at lw_m6 233 rfl) rfl
theorem q1551 : (Jvm.Cond.code ({ cls := "TermDeskModel", name := "degree", desc := "(I)I" } : Jvm.MethodName) prog_10_method_44_code (4 : Nat) (Option.some Jvm.ClassFile.FieldType.int)) ∈ lw_all := lw_g (lw_at lw_m6 234 rfl) rfl
theorem q1553 : (Jvm.Cond.instanceMethod ({ cls := "TermDeskModel", name := "degreeIn", desc := "(II)I" } : Jvm.MethodName)) ∈ lw_all := lw_g (lw_at lw_m6 236 rfl) rfl
theorem q1554 : (Jvm.Cond.selects "TermDeskModel" ({ cls := "TermDeskModel", name := "degreeIn", desc := "(II)I" } : Jvm.MethodName) ({ cls := "TermDeskModel", name := "degreeIn", desc := "(II)I" } : Jvm.MethodName)) ∈ lw_all := lw_g (lw_at lw_m6 237 rfl) rfl
theorem q1555 : (Jvm.Cond.code ({ cls := "TermDeskModel", name := "degreeIn", desc := "(II)I" } : Jvm.MethodName) prog_10_method_46_code (3 : Nat) (Option.some Jvm.ClassFile.FieldType.int)) ∈ lw_all := lw_g (lw_at lw_m6 238 rfl) rfl
theorem q1556 : (Jvm.Cond.methodLink "TermDeskModel" (279 : Nat) ({ cls := "TermDeskModel", name := "isUnknown", desc := "(I)Z" } : Jvm.MethodName)) ∈ lw_all := lw_g (lw_at lw_m6 239 rfl) rfl
theorem q1557 : (Jvm.Cond.static ({ cls := "TermDeskModel", name := "isUnknown", desc := "(I)Z" } : Jvm.MethodName)) ∈ lw_all := lw_g (lw_at lw_m7 0 rfl) rfl
theorem q1558 : (Jvm.Cond.code ({ cls := "TermDeskModel", name := "isUnknown", desc := "(I)Z" } : Jvm.MethodName) prog_10_method_33_code (1 : Nat) (Option.some Jvm.ClassFile.FieldType.boolean)) ∈ lw_all := lw_g (lw_at lw_m7 1 rfl) rfl
theorem q1559 : (Jvm.Cond.methodLink "TermDeskModel" (282 : Nat) ({ cls := "TermDeskModel", name := "degreeBy", desc := "(II)I" } : Jvm.MethodName)) ∈ lw_all := lw_g (lw_at lw_m7 2 rfl) rfl
theorem q1560 : (Jvm.Cond.privateMethod ({ cls := "TermDeskModel", name := "degreeBy", desc := "(II)I" } : Jvm.MethodName)) ∈ lw_tbl := lw_at lw_m7 3 rfl
theorem q1561 : (Jvm.Cond.instanceMethod ({ cls := "TermDeskModel", name := "degreeBy", desc := "(II)I" } : Jvm.MethodName)) ∈ lw_all := lw_g (lw_at lw_m7 4 rfl) rfl
theorem q1562 : (Jvm.Cond.code ({ cls := "TermDeskModel", name := "degreeBy", desc := "(II)I" } : Jvm.MethodName) prog_10_method_45_code (5 : Nat) (Option.some Jvm.ClassFile.FieldType.int)) ∈ lw_all := lw_g (lw_at lw_m7 5 rfl) rfl
theorem q1564 : (Jvm.Cond.instanceMethod ({ cls := "TermDeskModel", name := "coefficient", desc := "(IIII)I" } : Jvm.MethodName)) ∈ lw_all := lw_g (lw_at lw_m7 7 rfl) rfl
theorem q1565 : (Jvm.Cond.selects "TermDeskModel" ({ cls := "TermDeskModel", name := "coefficient", desc := "(IIII)I" } : Jvm.MethodName) ({ cls := "TermDeskModel", name := "coefficient", desc := "(IIII)I" } : Jvm.MethodName)) ∈ lw_all := lw_g (lw_at lw_m7 8 rfl) rfl
theorem q1566 : (Jvm.Cond.code ({ cls := "TermDeskModel", name := "coefficient", desc := "(IIII)I" } : Jvm.MethodName) prog_10_method_47_code (5 : Nat) (Option.some Jvm.ClassFile.FieldType.int)) ∈ lw_all := lw_g (lw_at lw_m7 9 rfl) rfl
theorem q1567 : (Jvm.Cond.methodLink "TermDeskModel" (285 : Nat) ({ cls := "TermDeskModel", name := "isExponent", desc := "(I)Z" } : Jvm.MethodName)) ∈ lw_all := lw_g (lw_at lw_m7 10 rfl) rfl
theorem q1568 : (Jvm.Cond.static ({ cls := "TermDeskModel", name := "isExponent", desc := "(I)Z" } : Jvm.MethodName)) ∈ lw_all := lw_g (lw_at lw_m7 11 rfl) rfl
theorem q1569 : (Jvm.Cond.code ({ cls := "TermDeskModel", name := "isExponent", desc := "(I)Z" } : Jvm.MethodName) prog_10_method_35_code (1 : Nat) (Option.some Jvm.ClassFile.FieldType.boolean)) ∈ lw_all := lw_g (lw_at lw_m7 12 rfl) rfl
theorem q1570 : (Jvm.Cond.methodLink "TermDeskModel" (288 : Nat) ({ cls := "TermDeskModel", name := "keyOf", desc := "(III)I" } : Jvm.MethodName)) ∈ lw_all := lw_g (lw_at lw_m7 13 rfl) rfl
theorem q1571 : (Jvm.Cond.static ({ cls := "TermDeskModel", name := "keyOf", desc := "(III)I" } : Jvm.MethodName)) ∈ lw_all := lw_g (lw_at lw_m7 14 rfl) rfl
theorem q1572 : (Jvm.Cond.code ({ cls := "TermDeskModel", name := "keyOf", desc := "(III)I" } : Jvm.MethodName) prog_10_method_8_code (3 : Nat) (Option.some Jvm.ClassFile.FieldType.int)) ∈ lw_all := lw_g (lw_at lw_m7 15 rfl) rfl
theorem q1574 : (Jvm.Cond.instanceMethod ({ cls := "TermDeskModel", name := "value", desc := "(IIII)I" } : Jvm.MethodName)) ∈ lw_all := lw_g (lw_at lw_m7 17 rfl) rfl
theorem q1575 : (Jvm.Cond.selects "TermDeskModel" ({ cls := "TermDeskModel", name := "value", desc := "(IIII)I" } : Jvm.MethodName) ({ cls := "TermDeskModel", name := "value", desc := "(IIII)I" } : Jvm.MethodName)) ∈ lw_all := lw_g (lw_at lw_m7 18 rfl) rfl
theorem q1576 : (Jvm.Cond.code ({ cls := "TermDeskModel", name := "value", desc := "(IIII)I" } : Jvm.MethodName) prog_10_method_51_code (5 : Nat) (Option.some Jvm.ClassFile.FieldType.int)) ∈ lw_all := lw_g (lw_at lw_m7 19 rfl) rfl
theorem q1577 : (Jvm.Cond.methodLink "TermDeskModel" (298 : Nat) ({ cls := "TermDeskModel", name := "isValue", desc := "(I)Z" } : Jvm.MethodName)) ∈ lw_all := lw_g (lw_at lw_m7 20 rfl) rfl
theorem q1578 : (Jvm.Cond.privateMethod ({ cls := "TermDeskModel", name := "isValue", desc := "(I)Z" } : Jvm.MethodName)) ∈ lw_tbl := lw_at lw_m7 21 rfl
theorem q1579 : (Jvm.Cond.instanceMethod ({ cls := "TermDeskModel", name := "isValue", desc := "(I)Z" } : Jvm.MethodName)) ∈ lw_all := lw_g (lw_at lw_m7 22 rfl) rfl
theorem q1580 : (Jvm.Cond.code ({ cls := "TermDeskModel", name := "isValue", desc := "(I)Z" } : Jvm.MethodName) prog_10_method_34_code (2 : Nat) (Option.some Jvm.ClassFile.FieldType.boolean)) ∈ lw_all := lw_g (lw_at lw_m7 23 rfl) rfl
theorem q1581 : (Jvm.Cond.methodLink "TermDeskModel" (301 : Nat) ({ cls := "TermDeskModel", name := "laysKeys", desc := "(I)V" } : Jvm.MethodName)) ∈ lw_all := lw_g (lw_at lw_m7 24 rfl) rfl
theorem q1582 : (Jvm.Cond.privateMethod ({ cls := "TermDeskModel", name := "laysKeys", desc := "(I)V" } : Jvm.MethodName)) ∈ lw_tbl := lw_at lw_m7 25 rfl
theorem q1583 : (Jvm.Cond.instanceMethod ({ cls := "TermDeskModel", name := "laysKeys", desc := "(I)V" } : Jvm.MethodName)) ∈ lw_all := lw_g (lw_at lw_m7 26 rfl) rfl
theorem q1584 : (Jvm.Cond.code ({ cls := "TermDeskModel", name := "laysKeys", desc := "(I)V" } : Jvm.MethodName) prog_10_method_49_code (3 : Nat) (Option.none : Option Jvm.ClassFile.FieldType)) ∈ lw_all := lw_g (lw_at lw_m7 27 rfl) rfl
theorem q1585 : (Jvm.Cond.methodLink "TermDeskModel" (304 : Nat) ({ cls := "TermDeskModel", name := "valueOf", desc := "(IIII)I" } : Jvm.MethodName)) ∈ lw_all := lw_g (lw_at lw_m7 28 rfl) rfl
theorem q1586 : (Jvm.Cond.privateMethod ({ cls := "TermDeskModel", name := "valueOf", desc := "(IIII)I" } : Jvm.MethodName)) ∈ lw_tbl := lw_at lw_m7 29 rfl
theorem q1587 : (Jvm.Cond.instanceMethod ({ cls := "TermDeskModel", name := "valueOf", desc := "(IIII)I" } : Jvm.MethodName)) ∈ lw_all := lw_g (lw_at lw_m7 30 rfl) rfl
theorem q1588 : (Jvm.Cond.code ({ cls := "TermDeskModel", name := "valueOf", desc := "(IIII)I" } : Jvm.MethodName) prog_10_method_50_code (9 : Nat) (Option.some Jvm.ClassFile.FieldType.int)) ∈ lw_all := lw_g (lw_at lw_m7 31 rfl) rfl
theorem q1589 : (Jvm.Cond.methodLink "TermDeskModel" (295 : Nat) ({ cls := "TermDeskModel", name := "power", desc := "(II)I" } : Jvm.MethodName)) ∈ lw_all := lw_g (lw_at lw_m7 32 rfl) rfl
theorem q1590 : (Jvm.Cond.privateMethod ({ cls := "TermDeskModel", name := "power", desc := "(II)I" } : Jvm.MethodName)) ∈ lw_tbl := lw_at lw_m7 33 rfl
theorem q1591 : (Jvm.Cond.instanceMethod ({ cls := "TermDeskModel", name := "power", desc := "(II)I" } : Jvm.MethodName)) ∈ lw_all := lw_g (lw_at lw_m7 34 rfl) rfl
theorem q1592 : (Jvm.Cond.code ({ cls := "TermDeskModel", name := "power", desc := "(II)I" } : Jvm.MethodName) prog_10_method_48_code (5 : Nat) (Option.some Jvm.ClassFile.FieldType.int)) ∈ lw_all := lw_g (lw_at lw_m7 35 rfl) rfl
theorem q1594 : (Jvm.Cond.instanceMethod ({ cls := "TermDeskModel", name := "roots", desc := "(I)I" } : Jvm.MethodName)) ∈ lw_all := lw_g (lw_at lw_m7 37 rfl) rfl
theorem q1595 : (Jvm.Cond.selects "TermDeskModel" ({ cls := "TermDeskModel", name := "roots", desc := "(I)I" } : Jvm.MethodName) ({ cls := "TermDeskModel", name := "roots", desc := "(I)I" } : Jvm.MethodName)) ∈ lw_all := lw_g (lw_at lw_m7 38 rfl) rfl
theorem q1596 : (Jvm.Cond.code ({ cls := "TermDeskModel", name := "roots", desc := "(I)I" } : Jvm.MethodName) prog_10_method_52_code (9 : Nat) (Option.some Jvm.ClassFile.FieldType.int)) ∈ lw_all := lw_g (lw_at lw_m7 39 rfl) rfl
theorem q1598 : (Jvm.Cond.instanceMethod ({ cls := "TermDeskModel", name := "same", desc := "(II)I" } : Jvm.MethodName)) ∈ lw_all := lw_g (lw_at lw_m7 41 rfl) rfl
theorem q1599 : (Jvm.Cond.selects "TermDeskModel" ({ cls := "TermDeskModel", name := "same", desc := "(II)I" } : Jvm.MethodName) ({ cls := "TermDeskModel", name := "same", desc := "(II)I" } : Jvm.MethodName)) ∈ lw_all := lw_g (lw_at lw_m7 42 rfl) rfl
theorem q1600 : (Jvm.Cond.code ({ cls := "TermDeskModel", name := "same", desc := "(II)I" } : Jvm.MethodName) prog_10_method_53_code (5 : Nat) (Option.some Jvm.ClassFile.FieldType.int)) ∈ lw_all := lw_g (lw_at lw_m7 43 rfl) rfl
theorem q1602 : (Jvm.Cond.instanceMethod ({ cls := "TermDeskModel", name := "ahead", desc := "(IIIIII)I" } : Jvm.MethodName)) ∈ lw_all := lw_g (lw_at lw_m7 45 rfl) rfl
theorem q1603 : (Jvm.Cond.selects "TermDeskModel" ({ cls := "TermDeskModel", name := "ahead", desc := "(IIIIII)I" } : Jvm.MethodName) ({ cls := "TermDeskModel", name := "ahead", desc := "(IIIIII)I" } : Jvm.MethodName)) ∈ lw_all := lw_g (lw_at lw_m7 46 rfl) rfl
theorem q1604 : (Jvm.Cond.code ({ cls := "TermDeskModel", name := "ahead", desc := "(IIIIII)I" } : Jvm.MethodName) prog_10_method_54_code (9 : Nat) (Option.some Jvm.ClassFile.FieldType.int)) ∈ lw_all := lw_g (lw_at lw_m7 47 rfl) rfl
theorem q1605 : (Jvm.Cond.methodLink "TermDeskModel" (308 : Nat) ({ cls := "TermDeskModel", name := "compares", desc := "(IIIII)I" } : Jvm.MethodName)) ∈ lw_all := lw_g (lw_at lw_m7 48 rfl) rfl
theorem q1606 : (Jvm.Cond.static ({ cls := "TermDeskModel", name := "compares", desc := "(IIIII)I" } : Jvm.MethodName)) ∈ lw_all := lw_g (lw_at lw_m7 49 rfl) rfl
theorem q1607 : (Jvm.Cond.code ({ cls := "TermDeskModel", name := "compares", desc := "(IIIII)I" } : Jvm.MethodName) prog_10_method_31_code (9 : Nat) (Option.some Jvm.ClassFile.FieldType.int)) ∈ lw_all := lw_g (lw_at lw_m7 50 rfl) rfl
theorem q1609 : (Jvm.Cond.instanceMethod ({ cls := "TermDeskModel", name := "leadBy", desc := "(IIII)I" } : Jvm.MethodName)) ∈ lw_all := lw_g (lw_at lw_m7 52 rfl) rfl
theorem q1610 : (Jvm.Cond.selects "TermDeskModel" ({ cls := "TermDeskModel", name := "leadBy", desc := "(IIII)I" } : Jvm.MethodName) ({ cls := "TermDeskModel", name := "leadBy", desc := "(IIII)I" } : Jvm.MethodName)) ∈ lw_all := lw_g (lw_at lw_m7 53 rfl) rfl
theorem q1611 : (Jvm.Cond.code ({ cls := "TermDeskModel", name := "leadBy", desc := "(IIII)I" } : Jvm.MethodName) prog_10_method_56_code (7 : Nat) (Option.some Jvm.ClassFile.FieldType.int)) ∈ lw_all := lw_g (lw_at lw_m7 54 rfl) rfl
theorem q1612 : (Jvm.Cond.methodLink "TermDeskModel" (312 : Nat) ({ cls := "TermDeskModel", name := "isOrder", desc := "(III)Z" } : Jvm.MethodName)) ∈ lw_all := lw_g (lw_at lw_m7 55 rfl) rfl
theorem q1613 : (Jvm.Cond.static ({ cls := "TermDeskModel", name := "isOrder", desc := "(III)Z" } : Jvm.MethodName)) ∈ lw_all := lw_g (lw_at lw_m7 56 rfl) rfl
theorem q1614 : (Jvm.Cond.code ({ cls := "TermDeskModel", name := "isOrder", desc := "(III)Z" } : Jvm.MethodName) prog_10_method_55_code (3 : Nat) (Option.some Jvm.ClassFile.FieldType.boolean)) ∈ lw_all := lw_g (lw_at lw_m7 57 rfl) rfl
theorem q1616 : (Jvm.Cond.instanceMethod ({ cls := "TermDeskModel", name := "divided", desc := "(III)I" } : Jvm.MethodName)) ∈ lw_all := lw_g (lw_at lw_m7 59 rfl) rfl
theorem q1617 : (Jvm.Cond.selects "TermDeskModel" ({ cls := "TermDeskModel", name := "divided", desc := "(III)I" } : Jvm.MethodName) ({ cls := "TermDeskModel", name := "divided", desc := "(III)I" } : Jvm.MethodName)) ∈ lw_all := lw_g (lw_at lw_m7 60 rfl) rfl
theorem q1618 : (Jvm.Cond.code ({ cls := "TermDeskModel", name := "divided", desc := "(III)I" } : Jvm.MethodName) prog_10_method_69_code (7 : Nat) (Option.some Jvm.ClassFile.FieldType.int)) ∈ lw_all := lw_g (lw_at lw_m7 61 rfl) rfl
theorem q1619 : (Jvm.Cond.methodLink "TermDeskModel" (352 : Nat) ({ cls := "TermDeskModel", name := "refusesDivision", desc := "(II)I" } : Jvm.MethodName)) ∈ lw_all := lw_g (lw_at lw_m7 62 rfl) rfl
theorem q1620 : (Jvm.Cond.privateMethod ({ cls := "TermDeskModel", name := "refusesDivision", desc := "(II)I" } : Jvm.MethodName)) ∈ lw_tbl := lw_at lw_m7 63 rfl
theorem q1621 : (Jvm.Cond.instanceMethod ({ cls := "TermDeskModel", name := "refusesDivision", desc := "(II)I" } : Jvm.MethodName)) ∈ lw_all := lw_g (lw_at lw_m7 64 rfl) rfl
theorem q1622 : (Jvm.Cond.code ({ cls := "TermDeskModel", name := "refusesDivision", desc := "(II)I" } : Jvm.MethodName) prog_10_method_68_code (3 : Nat) (Option.some Jvm.ClassFile.FieldType.int)) ∈ lw_all := lw_g (lw_at lw_m7 65 rfl) rfl
theorem q1623 : (Jvm.Cond.methodLink "TermDeskModel" (349 : Nat) ({ cls := "TermDeskModel", name := "refusesSet", desc := "(I)I" } : Jvm.MethodName)) ∈ lw_all := lw_g (lw_at lw_m7 66 rfl) rfl
theorem q1624 : (Jvm.Cond.privateMethod ({ cls := "TermDeskModel", name := "refusesSet", desc := "(I)I" } : Jvm.MethodName)) ∈ lw_tbl := lw_at lw_m7 67 rfl
theorem q1625 : (Jvm.Cond.instanceMethod ({ cls := "TermDeskModel", name := "refusesSet", desc := "(I)I" } : Jvm.MethodName)) ∈ lw_all := lw_g (lw_at lw_m7 68 rfl) rfl
theorem q1626 : (Jvm.Cond.code ({ cls := "TermDeskModel", name := "refusesSet", desc := "(I)I" } : Jvm.MethodName) prog_10_method_64_code (3 : Nat) (Option.some Jvm.ClassFile.FieldType.int)) ∈ lw_all := lw_g (lw_at lw_m7 69 rfl) rfl
theorem q1627 : (Jvm.Cond.methodLink "TermDeskModel" (355 : Nat) ({ cls := "TermDeskModel", name := "laysRegister", desc := "(I)V" } : Jvm.MethodName)) ∈ lw_all := lw_g (lw_at lw_m7 70 rfl) rfl
theorem q1628 : (Jvm.Cond.privateMethod ({ cls := "TermDeskModel", name := "laysRegister", desc := "(I)V" } : Jvm.MethodName)) ∈ lw_tbl := lw_at lw_m7 71 rfl
theorem q1629 : (Jvm.Cond.instanceMethod ({ cls := "TermDeskModel", name := "laysRegister", desc := "(I)V" } : Jvm.MethodName)) ∈ lw_all := lw_g (lw_at lw_m7 72 rfl) rfl
theorem q1630 : (Jvm.Cond.code ({ cls := "TermDeskModel", name := "laysRegister", desc := "(I)V" } : Jvm.MethodName) prog_10_method_62_code (3 : Nat) (Option.none : Option Jvm.ClassFile.FieldType)) ∈ lw_all := lw_g (lw_at lw_m7 73 rfl) rfl
theorem q1631 : (Jvm.Cond.methodLink "TermDeskModel" (358 : Nat) ({ cls := "TermDeskModel", name := "dividesBy", desc := "(I)Z" } : Jvm.MethodName)) ∈ lw_all := lw_g (lw_at lw_m7 74 rfl) rfl
theorem q1632 : (Jvm.Cond.privateMethod ({ cls := "TermDeskModel", name := "dividesBy", desc := "(I)Z" } : Jvm.MethodName)) ∈ lw_tbl := lw_at lw_m7 75 rfl
theorem q1633 : (Jvm.Cond.instanceMethod ({ cls := "TermDeskModel", name := "dividesBy", desc := "(I)Z" } : Jvm.MethodName)) ∈ lw_all := lw_g (lw_at lw_m7 76 rfl) rfl
theorem q1634 : (Jvm.Cond.code ({ cls := "TermDeskModel", name := "dividesBy", desc := "(I)Z" } : Jvm.MethodName) prog_10_method_66_code (3 : Nat) (Option.some Jvm.ClassFile.FieldType.boolean)) ∈ lw_all := lw_g (lw_at lw_m7 77 rfl) rfl
theorem q1635 : (Jvm.Cond.methodLink "TermDeskModel" (334 : Nat) ({ cls := "TermDeskModel", name := "leadOf", desc := "(I)I" } : Jvm.MethodName)) ∈ lw_all := lw_g (lw_at lw_m7 78 rfl) rfl
theorem q1636 : (Jvm.Cond.privateMethod ({ cls := "TermDeskModel", name := "leadOf", desc := "(I)I" } : Jvm.MethodName)) ∈ lw_tbl := lw_at lw_m7 79 rfl
theorem q1637 : (Jvm.Cond.instanceMethod ({ cls := "TermDeskModel", name := "leadOf", desc := "(I)I" } : Jvm.MethodName)) ∈ lw_all := lw_g (lw_at lw_m7 80 rfl) rfl
theorem q1638 : (Jvm.Cond.code ({ cls := "TermDeskModel", name := "leadOf", desc := "(I)I" } : Jvm.MethodName) prog_10_method_39_code (3 : Nat) (Option.some Jvm.ClassFile.FieldType.int)) ∈ lw_all := lw_g (lw_at lw_m7 81 rfl) rfl
theorem q1639 : (Jvm.Cond.methodLink "TermDeskModel" (337 : Nat) ({ cls := "TermDeskModel", name := "inverse", desc := "(I)I" } : Jvm.MethodName)) ∈ lw_all := lw_g (lw_at lw_m7 82 rfl) rfl
theorem q1640 : (Jvm.Cond.privateMethod ({ cls := "TermDeskModel", name := "inverse", desc := "(I)I" } : Jvm.MethodName)) ∈ lw_tbl := lw_at lw_m7 83 rfl
theorem q1641 : (Jvm.Cond.instanceMethod ({ cls := "TermDeskModel", name := "inverse", desc := "(I)I" } : Jvm.MethodName)) ∈ lw_all := lw_g (lw_at lw_m7 84 rfl) rfl
theorem q1642 : (Jvm.Cond.code ({ cls := "TermDeskModel", name := "inverse", desc := "(I)I" } : Jvm.MethodName) prog_10_method_61_code (3 : Nat) (Option.some Jvm.ClassFile.FieldType.int)) ∈ lw_all := lw_g (lw_at lw_m7 85 rfl) rfl
theorem q1643 : (Jvm.Cond.methodLink "TermDeskModel" (343 : Nat) ({ cls := "TermDeskModel", name := "divisorOf", desc := "(II)I" } : Jvm.MethodName)) ∈ lw_all := lw_g (lw_at lw_m7 86 rfl) rfl
theorem q1644 : (Jvm.Cond.privateMethod ({ cls := "TermDeskModel", name := "divisorOf", desc := "(II)I" } : Jvm.MethodName)) ∈ lw_tbl := lw_at lw_m7 87 rfl
theorem q1645 : (Jvm.Cond.instanceMethod ({ cls := "TermDeskModel", name := "divisorOf", desc := "(II)I" } : Jvm.MethodName)) ∈ lw_all := lw_g (lw_at lw_m7 88 rfl) rfl
theorem q1646 : (Jvm.Cond.code ({ cls := "TermDeskModel", name := "divisorOf", desc := "(II)I" } : Jvm.MethodName) prog_10_method_65_code (4 : Nat) (Option.some Jvm.ClassFile.FieldType.int)) ∈ lw_all := lw_g (lw_at lw_m7 89 rfl) rfl
theorem q1647 : (Jvm.Cond.methodLink "TermDeskModel" (321 : Nat) ({ cls := "TermDeskModel", name := "isUnder", desc := "(II)Z" } : Jvm.MethodName)) ∈ lw_all := lw_g (lw_at lw_m7 90 rfl) rfl
theorem q1648 : (Jvm.Cond.static ({ cls := "TermDeskModel", name := "isUnder", desc := "(II)Z" } : Jvm.MethodName)) ∈ lw_all := lw_g (lw_at lw_m7 91 rfl) rfl
theorem q1649 : (Jvm.Cond.code ({ cls := "TermDeskModel", name := "isUnder", desc := "(II)Z" } : Jvm.MethodName) prog_10_method_63_code (3 : Nat) (Option.some Jvm.ClassFile.FieldType.boolean)) ∈ lw_all := lw_g (lw_at lw_m7 92 rfl) rfl
theorem q1650 : (Jvm.Cond.methodLink "TermDeskModel" (346 : Nat) ({ cls := "TermDeskModel", name := "goesOn", desc := "(II)Z" } : Jvm.MethodName)) ∈ lw_all := lw_g (lw_at lw_m7 93 rfl) rfl
theorem q1651 : (Jvm.Cond.privateMethod ({ cls := "TermDeskModel", name := "goesOn", desc := "(II)Z" } : Jvm.MethodName)) ∈ lw_tbl := lw_at lw_m7 94 rfl
theorem q1652 : (Jvm.Cond.instanceMethod ({ cls := "TermDeskModel", name := "goesOn", desc := "(II)Z" } : Jvm.MethodName)) ∈ lw_all := lw_g (lw_at lw_m7 95 rfl) rfl
theorem q1653 : (Jvm.Cond.code ({ cls := "TermDeskModel", name := "goesOn", desc := "(II)Z" } : Jvm.MethodName) prog_10_method_67_code (7 : Nat) (Option.some Jvm.ClassFile.FieldType.boolean)) ∈ lw_all := lw_g (lw_at lw_m7 96 rfl) rfl
theorem q1654 : (Jvm.Cond.methodLink "TermDeskModel" (318 : Nat) ({ cls := "TermDeskModel", name := "sum", desc := "(II)I" } : Jvm.MethodName)) ∈ lw_all := lw_g (lw_at lw_m7 97 rfl) rfl
theorem q1655 : (Jvm.Cond.static ({ cls := "TermDeskModel", name := "sum", desc := "(II)I" } : Jvm.MethodName)) ∈ lw_all := lw_g (lw_at lw_m7 98 rfl) rfl
theorem q1656 : (Jvm.Cond.code ({ cls := "TermDeskModel", name := "sum", desc := "(II)I" } : Jvm.MethodName) prog_10_method_60_code (5 : Nat) (Option.some Jvm.ClassFile.FieldType.int)) ∈ lw_all := lw_g (lw_at lw_m7 99 rfl) rfl
theorem q1658 : (Jvm.Cond.instanceMethod ({ cls := "TermDeskModel", name := "divides", desc := "(II)I" } : Jvm.MethodName)) ∈ lw_all := lw_g (lw_at lw_m7 101 rfl) rfl
theorem q1659 : (Jvm.Cond.selects "TermDeskModel" ({ cls := "TermDeskModel", name := "divides", desc := "(II)I" } : Jvm.MethodName) ({ cls := "TermDeskModel", name := "divides", desc := "(II)I" } : Jvm.MethodName)) ∈ lw_all := lw_g (lw_at lw_m7 102 rfl) rfl
theorem q1660 : (Jvm.Cond.code ({ cls := "TermDeskModel", name := "divides", desc := "(II)I" } : Jvm.MethodName) prog_10_method_70_code (3 : Nat) (Option.some Jvm.ClassFile.FieldType.int)) ∈ lw_all := lw_g (lw_at lw_m7 103 rfl) rfl
theorem q1662 : (Jvm.Cond.instanceMethod ({ cls := "TermDeskModel", name := "missing", desc := "(I)I" } : Jvm.MethodName)) ∈ lw_all := lw_g (lw_at lw_m7 105 rfl) rfl
theorem q1663 : (Jvm.Cond.selects "TermDeskModel" ({ cls := "TermDeskModel", name := "missing", desc := "(I)I" } : Jvm.MethodName) ({ cls := "TermDeskModel", name := "missing", desc := "(I)I" } : Jvm.MethodName)) ∈ lw_all := lw_g (lw_at lw_m7 106 rfl) rfl
theorem q1664 : (Jvm.Cond.code ({ cls := "TermDeskModel", name := "missing", desc := "(I)I" } : Jvm.MethodName) prog_10_method_73_code (5 : Nat) (Option.some Jvm.ClassFile.FieldType.int)) ∈ lw_all := lw_g (lw_at lw_m7 107 rfl) rfl
theorem q1665 : (Jvm.Cond.methodLink "TermDeskModel" (373 : Nat) ({ cls := "TermDeskModel", name := "firstMissing", desc := "(II)I" } : Jvm.MethodName)) ∈ lw_all := lw_g (lw_at lw_m7 108 rfl) rfl
theorem q1666 : (Jvm.Cond.privateMethod ({ cls := "TermDeskModel", name := "firstMissing", desc := "(II)I" } : Jvm.MethodName)) ∈ lw_tbl := lw_at lw_m7 109 rfl
theorem q1667 : (Jvm.Cond.instanceMethod ({ cls := "TermDeskModel", name := "firstMissing", desc := "(II)I" } : Jvm.MethodName)) ∈ lw_all := lw_g (lw_at lw_m7 110 rfl) rfl
theorem q1668 : (Jvm.Cond.code ({ cls := "TermDeskModel", name := "firstMissing", desc := "(II)I" } : Jvm.MethodName) prog_10_method_72_code (6 : Nat) (Option.some Jvm.ClassFile.FieldType.int)) ∈ lw_all := lw_g (lw_at lw_m7 111 rfl) rfl
theorem q1669 : (Jvm.Cond.methodLink "TermDeskModel" (370 : Nat) ({ cls := "TermDeskModel", name := "laysPair", desc := "(II)Z" } : Jvm.MethodName)) ∈ lw_all := lw_g (lw_at lw_m7 112 rfl) rfl
theorem q1670 : (Jvm.Cond.privateMethod ({ cls := "TermDeskModel", name := "laysPair", desc := "(II)Z" } : Jvm.MethodName)) ∈ lw_tbl := lw_at lw_m7 113 rfl
theorem q1671 : (Jvm.Cond.instanceMethod ({ cls := "TermDeskModel", name := "laysPair", desc := "(II)Z" } : Jvm.MethodName)) ∈ lw_all := lw_g (lw_at lw_m7 114 rfl) rfl
theorem q1672 : (Jvm.Cond.code ({ cls := "TermDeskModel", name := "laysPair", desc := "(II)Z" } : Jvm.MethodName) prog_10_method_71_code (8 : Nat) (Option.some Jvm.ClassFile.FieldType.boolean)) ∈ lw_all := lw_g (lw_at lw_m7 115 rfl) rfl
theorem q1673 : (Jvm.Cond.methodLink "TermDeskModel" (361 : Nat) ({ cls := "TermDeskModel", name := "clears", desc := "()V" } : Jvm.MethodName)) ∈ lw_all := lw_g (lw_at lw_m7 116 rfl) rfl
theorem q1674 : (Jvm.Cond.privateMethod ({ cls := "TermDeskModel", name := "clears", desc := "()V" } : Jvm.MethodName)) ∈ lw_tbl := lw_at lw_m7 117 rfl
theorem q1675 : (Jvm.Cond.instanceMethod ({ cls := "TermDeskModel", name := "clears", desc := "()V" } : Jvm.MethodName)) ∈ lw_all := lw_g (lw_at lw_m7 118 rfl) rfl
theorem q1676 : (Jvm.Cond.code ({ cls := "TermDeskModel", name := "clears", desc := "()V" } : Jvm.MethodName) prog_10_method_57_code (2 : Nat) (Option.none : Option Jvm.ClassFile.FieldType)) ∈ lw_all := lw_g (lw_at lw_m7 119 rfl) rfl
theorem q1677 : (Jvm.Cond.methodLink "TermDeskModel" (364 : Nat) ({ cls := "TermDeskModel", name := "puts", desc := "(III)V" } : Jvm.MethodName)) ∈ lw_all := lw_g (lw_at lw_m7 120 rfl) rfl
theorem q1678 : (Jvm.Cond.privateMethod ({ cls := "TermDeskModel", name := "puts", desc := "(III)V" } : Jvm.MethodName)) ∈ lw_tbl := lw_at lw_m7 121 rfl
theorem q1679 : (Jvm.Cond.instanceMethod ({ cls := "TermDeskModel", name := "puts", desc := "(III)V" } : Jvm.MethodName)) ∈ lw_all := lw_g (lw_at lw_m7 122 rfl) rfl
theorem q1680 : (Jvm.Cond.code ({ cls := "TermDeskModel", name := "puts", desc := "(III)V" } : Jvm.MethodName) prog_10_method_59_code (6 : Nat) (Option.none : Option Jvm.ClassFile.FieldType)) ∈ lw_all := lw_g (lw_at lw_m7 123 rfl) rfl
theorem q1681 : (Jvm.Cond.methodLink "TermDeskModel" (367 : Nat) ({ cls := "TermDeskModel", name := "workTerms", desc := "()I" } : Jvm.MethodName)) ∈ lw_all := lw_g (lw_at lw_m7 124 rfl) rfl
theorem q1682 : (Jvm.Cond.privateMethod ({ cls := "TermDeskModel", name := "workTerms", desc := "()I" } : Jvm.MethodName)) ∈ lw_tbl := lw_at lw_m7 125 rfl
theorem q1683 : (Jvm.Cond.instanceMethod ({ cls := "TermDeskModel", name := "workTerms", desc := "()I" } : Jvm.MethodName)) ∈ lw_all := lw_g (lw_at lw_m7 126 rfl) rfl
theorem q1684 : (Jvm.Cond.code ({ cls := "TermDeskModel", name := "workTerms", desc := "()I" } : Jvm.MethodName) prog_10_method_58_code (3 : Nat) (Option.some Jvm.ClassFile.FieldType.int)) ∈ lw_all := lw_g (lw_at lw_m7 127 rfl) rfl
theorem q1686 : (Jvm.Cond.instanceMethod ({ cls := "TermDeskModel", name := "add", desc := "(III)I" } : Jvm.MethodName)) ∈ lw_all := lw_g (lw_at lw_m7 129 rfl) rfl
theorem q1687 : (Jvm.Cond.selects "TermDeskModel" ({ cls := "TermDeskModel", name := "add", desc := "(III)I" } : Jvm.MethodName) ({ cls := "TermDeskModel", name := "add", desc := "(III)I" } : Jvm.MethodName)) ∈ lw_all := lw_g (lw_at lw_m7 130 rfl) rfl
theorem q1688 : (Jvm.Cond.code ({ cls := "TermDeskModel", name := "add", desc := "(III)I" } : Jvm.MethodName) prog_10_method_77_code (4 : Nat) (Option.some Jvm.ClassFile.FieldType.int)) ∈ lw_all := lw_g (lw_at lw_m7 131 rfl) rfl
theorem q1689 : (Jvm.Cond.methodLink "TermDeskModel" (379 : Nat) ({ cls := "TermDeskModel", name := "areRegs", desc := "(III)Z" } : Jvm.MethodName)) ∈ lw_all := lw_g (lw_at lw_m7 132 rfl) rfl
theorem q1690 : (Jvm.Cond.privateMethod ({ cls := "TermDeskModel", name := "areRegs", desc := "(III)Z" } : Jvm.MethodName)) ∈ lw_tbl := lw_at lw_m7 133 rfl
theorem q1691 : (Jvm.Cond.instanceMethod ({ cls := "TermDeskModel", name := "areRegs", desc := "(III)Z" } : Jvm.MethodName)) ∈ lw_all := lw_g (lw_at lw_m7 134 rfl) rfl
theorem q1692 : (Jvm.Cond.code ({ cls := "TermDeskModel", name := "areRegs", desc := "(III)Z" } : Jvm.MethodName) prog_10_method_76_code (4 : Nat) (Option.some Jvm.ClassFile.FieldType.boolean)) ∈ lw_all := lw_g (lw_at lw_m7 135 rfl) rfl
theorem q1693 : (Jvm.Cond.methodLink "TermDeskModel" (382 : Nat) ({ cls := "TermDeskModel", name := "lays", desc := "(I)I" } : Jvm.MethodName)) ∈ lw_all := lw_g (lw_at lw_m7 136 rfl) rfl
theorem q1694 : (Jvm.Cond.privateMethod ({ cls := "TermDeskModel", name := "lays", desc := "(I)I" } : Jvm.MethodName)) ∈ lw_tbl := lw_at lw_m7 137 rfl
theorem q1695 : (Jvm.Cond.instanceMethod ({ cls := "TermDeskModel", name := "lays", desc := "(I)I" } : Jvm.MethodName)) ∈ lw_all := lw_g (lw_at lw_m7 138 rfl) rfl
theorem q1696 : (Jvm.Cond.code ({ cls := "TermDeskModel", name := "lays", desc := "(I)I" } : Jvm.MethodName) prog_10_method_75_code (3 : Nat) (Option.some Jvm.ClassFile.FieldType.int)) ∈ lw_all := lw_g (lw_at lw_m7 139 rfl) rfl
theorem q1697 : (Jvm.Cond.methodLink "TermDeskModel" (376 : Nat) ({ cls := "TermDeskModel", name := "remembers", desc := "(I)V" } : Jvm.MethodName)) ∈ lw_all := lw_g (lw_at lw_m7 140 rfl) rfl
theorem q1698 : (Jvm.Cond.privateMethod ({ cls := "TermDeskModel", name := "remembers", desc := "(I)V" } : Jvm.MethodName)) ∈ lw_tbl := lw_at lw_m7 141 rfl
theorem q1699 : (Jvm.Cond.instanceMethod ({ cls := "TermDeskModel", name := "remembers", desc := "(I)V" } : Jvm.MethodName)) ∈ lw_all := lw_g (lw_at lw_m7 142 rfl) rfl
theorem q1700 : (Jvm.Cond.code ({ cls := "TermDeskModel", name := "remembers", desc := "(I)V" } : Jvm.MethodName) prog_10_method_74_code (3 : Nat) (Option.none : Option Jvm.ClassFile.FieldType)) ∈ lw_all := lw_g (lw_at lw_m7 143 rfl) rfl
theorem q1702 : (Jvm.Cond.instanceMethod ({ cls := "TermDeskModel", name := "less", desc := "(III)I" } : Jvm.MethodName)) ∈ lw_all := lw_g (lw_at lw_m7 145 rfl) rfl
theorem q1703 : (Jvm.Cond.selects "TermDeskModel" ({ cls := "TermDeskModel", name := "less", desc := "(III)I" } : Jvm.MethodName) ({ cls := "TermDeskModel", name := "less", desc := "(III)I" } : Jvm.MethodName)) ∈ lw_all := lw_g (lw_at lw_m7 146 rfl) rfl
theorem q1704 : (Jvm.Cond.code ({ cls := "TermDeskModel", name := "less", desc := "(III)I" } : Jvm.MethodName) prog_10_method_78_code (4 : Nat) (Option.some Jvm.ClassFile.FieldType.int)) ∈ lw_all := lw_g (lw_at lw_m7 147 rfl) rfl
theorem q1706 : (Jvm.Cond.instanceMethod ({ cls := "TermDeskModel", name := "times", desc := "(III)I" } : Jvm.MethodName)) ∈ lw_all := lw_g (lw_at lw_m7 149 rfl) rfl
theorem q1707 : (Jvm.Cond.selects "TermDeskModel" ({ cls := "TermDeskModel", name := "times", desc := "(III)I" } : Jvm.MethodName) ({ cls := "TermDeskModel", name := "times", desc := "(III)I" } : Jvm.MethodName)) ∈ lw_all := lw_g (lw_at lw_m7 150 rfl) rfl
theorem q1708 : (Jvm.Cond.code ({ cls := "TermDeskModel", name := "times", desc := "(III)I" } : Jvm.MethodName) prog_10_method_79_code (5 : Nat) (Option.some Jvm.ClassFile.FieldType.int)) ∈ lw_all := lw_g (lw_at lw_m7 151 rfl) rfl
theorem q1710 : (Jvm.Cond.instanceMethod ({ cls := "TermDeskModel", name := "scale", desc := "(IIIIII)I" } : Jvm.MethodName)) ∈ lw_all := lw_g (lw_at lw_m7 153 rfl) rfl
theorem q1711 : (Jvm.Cond.selects "TermDeskModel" ({ cls := "TermDeskModel", name := "scale", desc := "(IIIIII)I" } : Jvm.MethodName) ({ cls := "TermDeskModel", name := "scale", desc := "(IIIIII)I" } : Jvm.MethodName)) ∈ lw_all := lw_g (lw_at lw_m7 154 rfl) rfl
theorem q1712 : (Jvm.Cond.code ({ cls := "TermDeskModel", name := "scale", desc := "(IIIIII)I" } : Jvm.MethodName) prog_10_method_80_code (7 : Nat) (Option.some Jvm.ClassFile.FieldType.int)) ∈ lw_all := lw_g (lw_at lw_m7 155 rfl) rfl
theorem q1714 : (Jvm.Cond.instanceMethod ({ cls := "TermDeskModel", name := "monic", desc := "(II)I" } : Jvm.MethodName)) ∈ lw_all := lw_g (lw_at lw_m7 157 rfl) rfl
theorem q1715 : (Jvm.Cond.selects "TermDeskModel" ({ cls := "TermDeskModel", name := "monic", desc := "(II)I" } : Jvm.MethodName) ({ cls := "TermDeskModel", name := "monic", desc := "(II)I" } : Jvm.MethodName)) ∈ lw_all := lw_g (lw_at lw_m7 158 rfl) rfl
theorem q1716 : (Jvm.Cond.code ({ cls := "TermDeskModel", name := "monic", desc := "(II)I" } : Jvm.MethodName) prog_10_method_81_code (3 : Nat) (Option.some Jvm.ClassFile.FieldType.int)) ∈ lw_all := lw_g (lw_at lw_m7 159 rfl) rfl
theorem q1718 : (Jvm.Cond.instanceMethod ({ cls := "TermDeskModel", name := "derive", desc := "(III)I" } : Jvm.MethodName)) ∈ lw_all := lw_g (lw_at lw_m7 161 rfl) rfl
theorem q1719 : (Jvm.Cond.selects "TermDeskModel" ({ cls := "TermDeskModel", name := "derive", desc := "(III)I" } : Jvm.MethodName) ({ cls := "TermDeskModel", name := "derive", desc := "(III)I" } : Jvm.MethodName)) ∈ lw_all := lw_g (lw_at lw_m7 162 rfl) rfl
theorem q1720 : (Jvm.Cond.code ({ cls := "TermDeskModel", name := "derive", desc := "(III)I" } : Jvm.MethodName) prog_10_method_82_code (6 : Nat) (Option.some Jvm.ClassFile.FieldType.int)) ∈ lw_all := lw_g (lw_at lw_m7 163 rfl) rfl
theorem q1722 : (Jvm.Cond.instanceMethod ({ cls := "TermDeskModel", name := "put", desc := "(IIII)I" } : Jvm.MethodName)) ∈ lw_all := lw_g (lw_at lw_m7 165 rfl) rfl
theorem q1723 : (Jvm.Cond.selects "TermDeskModel" ({ cls := "TermDeskModel", name := "put", desc := "(IIII)I" } : Jvm.MethodName) ({ cls := "TermDeskModel", name := "put", desc := "(IIII)I" } : Jvm.MethodName)) ∈ lw_all := lw_g (lw_at lw_m7 166 rfl) rfl
theorem q1724 : (Jvm.Cond.code ({ cls := "TermDeskModel", name := "put", desc := "(IIII)I" } : Jvm.MethodName) prog_10_method_83_code (8 : Nat) (Option.some Jvm.ClassFile.FieldType.int)) ∈ lw_all := lw_g (lw_at lw_m7 167 rfl) rfl
theorem q1726 : (Jvm.Cond.instanceMethod ({ cls := "TermDeskModel", name := "swap", desc := "(IIII)I" } : Jvm.MethodName)) ∈ lw_all := lw_g (lw_at lw_m7 169 rfl) rfl
theorem q1727 : (Jvm.Cond.selects "TermDeskModel" ({ cls := "TermDeskModel", name := "swap", desc := "(IIII)I" } : Jvm.MethodName) ({ cls := "TermDeskModel", name := "swap", desc := "(IIII)I" } : Jvm.MethodName)) ∈ lw_all := lw_g (lw_at lw_m7 170 rfl) rfl
theorem q1728 : (Jvm.Cond.code ({ cls := "TermDeskModel", name := "swap", desc := "(IIII)I" } : Jvm.MethodName) prog_10_method_84_code (8 : Nat) (Option.some Jvm.ClassFile.FieldType.int)) ∈ lw_all := lw_g (lw_at lw_m7 171 rfl) rfl
theorem q1730 : (Jvm.Cond.instanceMethod ({ cls := "TermDeskModel", name := "rest", desc := "(III)I" } : Jvm.MethodName)) ∈ lw_all := lw_g (lw_at lw_m7 173 rfl) rfl
theorem q1731 : (Jvm.Cond.selects "TermDeskModel" ({ cls := "TermDeskModel", name := "rest", desc := "(III)I" } : Jvm.MethodName) ({ cls := "TermDeskModel", name := "rest", desc := "(III)I" } : Jvm.MethodName)) ∈ lw_all := lw_g (lw_at lw_m7 174 rfl) rfl
theorem q1732 : (Jvm.Cond.code ({ cls := "TermDeskModel", name := "rest", desc := "(III)I" } : Jvm.MethodName) prog_10_method_85_code (6 : Nat) (Option.some Jvm.ClassFile.FieldType.int)) ∈ lw_all := lw_g (lw_at lw_m7 175 rfl) rfl
theorem q1734 : (Jvm.Cond.instanceMethod ({ cls := "TermDeskModel", name := "quotient", desc := "(IIII)I" } : Jvm.MethodName)) ∈ lw_all := lw_g (lw_at lw_m7 177 rfl) rfl
theorem q1735 : (Jvm.Cond.selects "TermDeskModel" ({ cls := "TermDeskModel", name := "quotient", desc := "(IIII)I" } : Jvm.MethodName) ({ cls := "TermDeskModel", name := "quotient", desc := "(IIII)I" } : Jvm.MethodName)) ∈ lw_all := lw_g (lw_at lw_m7 178 rfl) rfl
theorem q1736 : (Jvm.Cond.code ({ cls := "TermDeskModel", name := "quotient", desc := "(IIII)I" } : Jvm.MethodName) prog_10_method_86_code (7 : Nat) (Option.some Jvm.ClassFile.FieldType.int)) ∈ lw_all := lw_g (lw_at lw_m7 179 rfl) rfl
theorem q1738 : (Jvm.Cond.instanceMethod ({ cls := "TermDeskModel", name := "pair", desc := "(III)I" } : Jvm.MethodName)) ∈ lw_all := lw_g (lw_at lw_m7 181 rfl) rfl
theorem q1739 : (Jvm.Cond.selects "TermDeskModel" ({ cls := "TermDeskModel", name := "pair", desc := "(III)I" } : Jvm.MethodName) ({ cls := "TermDeskModel", name := "pair", desc := "(III)I" } : Jvm.MethodName)) ∈ lw_all := lw_g (lw_at lw_m7 182 rfl) rfl
theorem q1740 : (Jvm.Cond.code ({ cls := "TermDeskModel", name := "pair", desc := "(III)I" } : Jvm.MethodName) prog_10_method_87_code (4 : Nat) (Option.some Jvm.ClassFile.FieldType.int)) ∈ lw_all := lw_g (lw_at lw_m7 183 rfl) rfl
theorem q1742 : (Jvm.Cond.instanceMethod ({ cls := "TermDeskModel", name := "common", desc := "(III)I" } : Jvm.MethodName)) ∈ lw_all := lw_g (lw_at lw_m7 185 rfl) rfl
theorem q1743 : (Jvm.Cond.selects "TermDeskModel" ({ cls := "TermDeskModel", name := "common", desc := "(III)I" } : Jvm.MethodName) ({ cls := "TermDeskModel", name := "common", desc := "(III)I" } : Jvm.MethodName)) ∈ lw_all := lw_g (lw_at lw_m7 186 rfl) rfl
theorem q1744 : (Jvm.Cond.code ({ cls := "TermDeskModel", name := "common", desc := "(III)I" } : Jvm.MethodName) prog_10_method_103_code (4 : Nat) (Option.some Jvm.ClassFile.FieldType.int)) ∈ lw_all := lw_g (lw_at lw_m7 187 rfl) rfl
theorem q1745 : (Jvm.Cond.methodLink "TermDeskModel" (422 : Nat) ({ cls := "TermDeskModel", name := "hasThird", desc := "(I)Z" } : Jvm.MethodName)) ∈ lw_all := lw_g (lw_at lw_m7 188 rfl) rfl
theorem q1746 : (Jvm.Cond.privateMethod ({ cls := "TermDeskModel", name := "hasThird", desc := "(I)Z" } : Jvm.MethodName)) ∈ lw_tbl := lw_at lw_m7 189 rfl
theorem q1747 : (Jvm.Cond.instanceMethod ({ cls := "TermDeskModel", name := "hasThird", desc := "(I)Z" } : Jvm.MethodName)) ∈ lw_all := lw_g (lw_at lw_m7 190 rfl) rfl
theorem q1748 : (Jvm.Cond.code ({ cls := "TermDeskModel", name := "hasThird", desc := "(I)Z" } : Jvm.MethodName) prog_10_method_102_code (2 : Nat) (Option.some Jvm.ClassFile.FieldType.boolean)) ∈ lw_all := lw_g (lw_at lw_m7 191 rfl) rfl
theorem q1749 : (Jvm.Cond.methodLink "TermDeskModel" (425 : Nat) ({ cls := "TermDeskModel", name := "laysRows", desc := "(I[I)V" } : Jvm.MethodName)) ∈ lw_all := lw_g (lw_at lw_m7 192 rfl) rfl
theorem q1750 : (Jvm.Cond.privateMethod ({ cls := "TermDeskModel", name := "laysRows", desc := "(I[I)V" } : Jvm.MethodName)) ∈ lw_tbl := lw_at lw_m7 193 rfl
theorem q1751 : (Jvm.Cond.instanceMethod ({ cls := "TermDeskModel", name := "laysRows", desc := "(I[I)V" } : Jvm.MethodName)) ∈ lw_all := lw_g (lw_at lw_m7 194 rfl) rfl
theorem q1752 : (Jvm.Cond.code ({ cls := "TermDeskModel", name := "laysRows", desc := "(I[I)V" } : Jvm.MethodName) prog_10_method_90_code (5 : Nat) (Option.none : Option Jvm.ClassFile.FieldType)) ∈ lw_all := lw_g (lw_at lw_m7 195 rfl) rfl
theorem q1753 : (Jvm.Cond.methodLink "TermDeskModel" (429 : Nat) ({ cls := "TermDeskModel", name := "meetsRows", desc := "()V" } : Jvm.MethodName)) ∈ lw_all := lw_g (lw_at lw_m7 196 rfl) rfl
theorem q1754 : (Jvm.Cond.privateMethod ({ cls := "TermDeskModel", name := "meetsRows", desc := "()V" } : Jvm.MethodName)) ∈ lw_tbl := lw_at lw_m7 197 rfl
theorem q1755 : (Jvm.Cond.instanceMethod ({ cls := "TermDeskModel", name := "meetsRows", desc := "()V" } : Jvm.MethodName)) ∈ lw_all := lw_g (lw_at lw_m7 198 rfl) rfl
theorem q1756 : (Jvm.Cond.code ({ cls := "TermDeskModel", name := "meetsRows", desc := "()V" } : Jvm.MethodName) prog_10_method_99_code (6 : Nat) (Option.none : Option Jvm.ClassFile.FieldType)) ∈ lw_all := lw_g (lw_at lw_m7 199 rfl) rfl
theorem q1757 : (Jvm.Cond.methodLink "TermDeskModel" (412 : Nat) ({ cls := "TermDeskModel", name := "degreeX", desc := "([I)I" } : Jvm.MethodName)) ∈ lw_all := lw_g (lw_at lw_m7 200 rfl) rfl
theorem q1758 : (Jvm.Cond.static ({ cls := "TermDeskModel", name := "degreeX", desc := "([I)I" } : Jvm.MethodName)) ∈ lw_all := lw_g (lw_at lw_m7 201 rfl) rfl
theorem q1759 : (Jvm.Cond.code ({ cls := "TermDeskModel", name := "degreeX", desc := "([I)I" } : Jvm.MethodName) prog_10_method_89_code (2 : Nat) (Option.some Jvm.ClassFile.FieldType.int)) ∈ lw_all := lw_g (lw_at lw_m7 202 rfl) rfl
theorem q1760 : (Jvm.Cond.methodLink "TermDeskModel" (385 : Nat) ({ cls := "TermDeskModel", name := "heightOf", desc := "([II)I" } : Jvm.MethodName)) ∈ lw_all := lw_g (lw_at lw_m7 203 rfl) rfl
theorem q1761 : (Jvm.Cond.static ({ cls := "TermDeskModel", name := "heightOf", desc := "([II)I" } : Jvm.MethodName)) ∈ lw_all := lw_g (lw_at lw_m7 204 rfl) rfl
theorem q1762 : (Jvm.Cond.code ({ cls := "TermDeskModel", name := "heightOf", desc := "([II)I" } : Jvm.MethodName) prog_10_method_88_code (3 : Nat) (Option.some Jvm.ClassFile.FieldType.int)) ∈ lw_all := lw_g (lw_at lw_m7 205 rfl) rfl
theorem q1763 : (Jvm.Cond.methodLink "TermDeskModel" (405 : Nat) ({ cls := "TermDeskModel", name := "contentOf", desc := "([I[I)V" } : Jvm.MethodName)) ∈ lw_all := lw_g (lw_at lw_m7 206 rfl) rfl
theorem q1764 : (Jvm.Cond.privateMethod ({ cls := "TermDeskModel", name := "contentOf", desc := "([I[I)V" } : Jvm.MethodName)) ∈ lw_tbl := lw_at lw_m7 207 rfl
theorem q1765 : (Jvm.Cond.instanceMethod ({ cls := "TermDeskModel", name := "contentOf", desc := "([I[I)V" } : Jvm.MethodName)) ∈ lw_all := lw_g (lw_at lw_m7 208 rfl) rfl
theorem q1766 : (Jvm.Cond.code ({ cls := "TermDeskModel", name := "contentOf", desc := "([I[I)V" } : Jvm.MethodName) prog_10_method_96_code (4 : Nat) (Option.none : Option Jvm.ClassFile.FieldType)) ∈ lw_all := lw_g (lw_at lw_m7 209 rfl) rfl
theorem q1767 : (Jvm.Cond.methodLink "TermDeskModel" (397 : Nat) ({ cls := "TermDeskModel", name := "copies", desc := "([II[I)V" } : Jvm.MethodName)) ∈ lw_all := lw_g (lw_at lw_m7 210 rfl) rfl
theorem q1768 : (Jvm.Cond.static ({ cls := "TermDeskModel", name := "copies", desc := "([II[I)V" } : Jvm.MethodName)) ∈ lw_all := lw_g (lw_at lw_m7 211 rfl) rfl
theorem q1769 : (Jvm.Cond.code ({ cls := "TermDeskModel", name := "copies", desc := "([II[I)V" } : Jvm.MethodName) prog_10_method_91_code (4 : Nat) (Option.none : Option Jvm.ClassFile.FieldType)) ∈ lw_all := lw_g (lw_at lw_m7 212 rfl) rfl
theorem q1770 : (Jvm.Cond.methodLink "TermDeskModel" (401 : Nat) ({ cls := "TermDeskModel", name := "meets", desc := "([I[I)V" } : Jvm.MethodName)) ∈ lw_all := lw_g (lw_at lw_m7 213 rfl) rfl
theorem q1771 : (Jvm.Cond.privateMethod ({ cls := "TermDeskModel", name := "meets", desc := "([I[I)V" } : Jvm.MethodName)) ∈ lw_tbl := lw_at lw_m7 214 rfl
theorem q1772 : (Jvm.Cond.instanceMethod ({ cls := "TermDeskModel", name := "meets", desc := "([I[I)V" } : Jvm.MethodName)) ∈ lw_all := lw_g (lw_at lw_m7 215 rfl) rfl
theorem q1773 : (Jvm.Cond.code ({ cls := "TermDeskModel", name := "meets", desc := "([I[I)V" } : Jvm.MethodName) prog_10_method_95_code (9 : Nat) (Option.none : Option Jvm.ClassFile.FieldType)) ∈ lw_all := lw_g (lw_at lw_m7 216 rfl) rfl
theorem q1774 : (Jvm.Cond.methodLink "TermDeskModel" (389 : Nat) ({ cls := "TermDeskModel", name := "leaves", desc := "([II[II)I" } : Jvm.MethodName)) ∈ lw_all := lw_g (lw_at lw_m7 217 rfl) rfl
theorem q1775 : (Jvm.Cond.privateMethod ({ cls := "TermDeskModel", name := "leaves", desc := "([II[II)I" } : Jvm.MethodName)) ∈ lw_tbl := lw_at lw_m7 218 rfl
theorem q1776 : (Jvm.Cond.instanceMethod ({ cls := "TermDeskModel", name := "leaves", desc := "([II[II)I" } : Jvm.MethodName)) ∈ lw_all := lw_g (lw_at lw_m7 219 rfl) rfl
theorem q1777 : (Jvm.Cond.code ({ cls := "TermDeskModel", name := "leaves", desc := "([II[II)I" } : Jvm.MethodName) prog_10_method_92_code (9 : Nat) (Option.some Jvm.ClassFile.FieldType.int)) ∈ lw_all := lw_g (lw_at lw_m7 220 rfl) rfl
theorem q1778 : (Jvm.Cond.methodLink "TermDeskModel" (393 : Nat) ({ cls := "TermDeskModel", name := "monics", desc := "([I)V" } : Jvm.MethodName)) ∈ lw_all := lw_g (lw_at lw_m7 221 rfl) rfl
theorem q1779 : (Jvm.Cond.privateMethod ({ cls := "TermDeskModel", name := "monics", desc := "([I)V" } : Jvm.MethodName)) ∈ lw_tbl := lw_at lw_m7 222 rfl
theorem q1780 : (Jvm.Cond.instanceMethod ({ cls := "TermDeskModel", name := "monics", desc := "([I)V" } : Jvm.MethodName)) ∈ lw_all := lw_g (lw_at lw_m7 223 rfl) rfl
theorem q1781 : (Jvm.Cond.code ({ cls := "TermDeskModel", name := "monics", desc := "([I)V" } : Jvm.MethodName) prog_10_method_94_code (5 : Nat) (Option.none : Option Jvm.ClassFile.FieldType)) ∈ lw_all := lw_g (lw_at lw_m7 224 rfl) rfl
theorem q1782 : (Jvm.Cond.methodLink "TermDeskModel" (416 : Nat) ({ cls := "TermDeskModel", name := "primitives", desc := "([I)V" } : Jvm.MethodName)) ∈ lw_all := lw_g (lw_at lw_m7 225 rfl) rfl
theorem q1783 : (Jvm.Cond.privateMethod ({ cls := "TermDeskModel", name := "primitives", desc := "([I)V" } : Jvm.MethodName)) ∈ lw_tbl := lw_at lw_m7 226 rfl
theorem q1784 : (Jvm.Cond.instanceMethod ({ cls := "TermDeskModel", name := "primitives", desc := "([I)V" } : Jvm.MethodName)) ∈ lw_all := lw_g (lw_at lw_m7 227 rfl) rfl
theorem q1785 : (Jvm.Cond.code ({ cls := "TermDeskModel", name := "primitives", desc := "([I)V" } : Jvm.MethodName) prog_10_method_97_code (4 : Nat) (Option.none : Option Jvm.ClassFile.FieldType)) ∈ lw_all := lw_g (lw_at lw_m7 228 rfl) rfl
theorem q1786 : (Jvm.Cond.methodLink "TermDeskModel" (408 : Nat) ({ cls := "TermDeskModel", name := "goesBy", desc := "([I[I[I)V" } : Jvm.MethodName)) ∈ lw_all := lw_g (lw_at lw_m7 229 rfl) rfl
theorem q1787 : (Jvm.Cond.privateMethod ({ cls := "TermDeskModel", name := "goesBy", desc := "([I[I[I)V" } : Jvm.MethodName)) ∈ lw_tbl := lw_at lw_m7 230 rfl
theorem q1788 : (Jvm.Cond.instanceMethod ({ cls := "TermDeskModel", name := "goesBy", desc := "([I[I[I)V" } : Jvm.MethodName)) ∈ lw_all := lw_g (lw_at lw_m7 231 rfl) rfl
theorem q1789 : (Jvm.Cond.code ({ cls := "TermDeskModel", name := "goesBy", desc := "([I[I[I)V" } : Jvm.MethodName) prog_10_method_93_code (9 : Nat) (Option.none : Option Jvm.ClassFile.FieldType)) ∈ lw_all := lw_g (lw_at lw_m7 232 rfl) rfl
theorem q1790 : (Jvm.Cond.methodLink "TermDeskModel" (419 : Nat) ({ cls := "TermDeskModel", name := "takesOff", desc := "([I[I)V" } : Jvm.MethodName)) ∈ lw_all := lw_g (lw_at lw_m7 233 rfl) rfl
theorem q1791 : (Jvm.Cond.privateMethod ({ cls := "TermDeskModel", name := "takesOff", desc := "([I[I)V" } : Jvm.MethodName)) ∈ lw_tbl := lw_at lw_m7 234 rfl
theorem q1792 : (Jvm.Cond.instanceMethod ({ cls := "TermDeskModel", name := "takesOff", desc := "([I[I)V" } : Jvm.MethodName)) ∈ lw_all := lw_g (lw_at lw_m7 235 rfl) rfl
theorem q1793 : (Jvm.Cond.code ({ cls := "TermDeskModel", name := "takesOff", desc := "([I[I)V" } : Jvm.MethodName) prog_10_method_98_code (13 : Nat) (Option.none : Option Jvm.ClassFile.FieldType)) ∈ lw_all := lw_g (lw_at lw_m7 236 rfl) rfl
theorem q1794 : (Jvm.Cond.methodLink "TermDeskModel" (432 : Nat) ({ cls := "TermDeskModel", name := "laysWork", desc := "([I)V" } : Jvm.MethodName)) ∈ lw_all := lw_g (lw_at lw_m7 237 rfl) rfl
theorem q1795 : (Jvm.Cond.privateMethod ({ cls := "TermDeskModel", name := "laysWork", desc := "([I)V" } : Jvm.MethodName)) ∈ lw_tbl := lw_at lw_m7 238 rfl
theorem q1796 : (Jvm.Cond.instanceMethod ({ cls := "TermDeskModel", name := "laysWork", desc := "([I)V" } : Jvm.MethodName)) ∈ lw_all := lw_g (lw_at lw_m7 239 rfl) rfl
theorem q1797 : (Jvm.Cond.code ({ cls := "TermDeskModel", name := "laysWork", desc := "([I)V" } : Jvm.MethodName) prog_10_method_100_code (4 : Nat) (Option.none : Option Jvm.ClassFile.FieldType)) ∈ lw_all := lw_g (lw_at lw_m8 0 rfl) rfl
theorem q1798 : (Jvm.Cond.methodLink "TermDeskModel" (435 : Nat) ({ cls := "TermDeskModel", name := "monicWork", desc := "()V" } : Jvm.MethodName)) ∈ lw_all := lw_g (lw_at lw_m8 1 rfl) rfl
theorem q1799 : (Jvm.Cond.privateMethod ({ cls := "TermDeskModel", name := "monicWork", desc := "()V" } : Jvm.MethodName)) ∈ lw_tbl := lw_at lw_m8 2 rfl
theorem q1800 : (Jvm.Cond.instanceMethod ({ cls := "TermDeskModel", name := "monicWork", desc := "()V" } : Jvm.MethodName)) ∈ lw_all := lw_g (lw_at lw_m8 3 rfl) rfl
theorem q1801 : (Jvm.Cond.code ({ cls := "TermDeskModel", name := "monicWork", desc := "()V" } : Jvm.MethodName) prog_10_method_101_code (4 : Nat) (Option.none : Option Jvm.ClassFile.FieldType)) ∈ lw_all := lw_g (lw_at lw_m8 4 rfl) rfl
theorem q1803 : (Jvm.Cond.instanceMethod ({ cls := "TermDeskModel", name := "content", desc := "(II)I" } : Jvm.MethodName)) ∈ lw_all := lw_g (lw_at lw_m8 6 rfl) rfl
theorem q1804 : (Jvm.Cond.selects "TermDeskModel" ({ cls := "TermDeskModel", name := "content", desc := "(II)I" } : Jvm.MethodName) ({ cls := "TermDeskModel", name := "content", desc := "(II)I" } : Jvm.MethodName)) ∈ lw_all := lw_g (lw_at lw_m8 7 rfl) rfl
theorem q1805 : (Jvm.Cond.code ({ cls := "TermDeskModel", name := "content", desc := "(II)I" } : Jvm.MethodName) prog_10_method_104_code (4 : Nat) (Option.some Jvm.ClassFile.FieldType.int)) ∈ lw_all := lw_g (lw_at lw_m8 8 rfl) rfl
theorem q1807 : (Jvm.Cond.instanceMethod ({ cls := "TermDeskModel", name := "primitive", desc := "(II)I" } : Jvm.MethodName)) ∈ lw_all := lw_g (lw_at lw_m8 10 rfl) rfl
theorem q1808 : (Jvm.Cond.selects "TermDeskModel" ({ cls := "TermDeskModel", name := "primitive", desc := "(II)I" } : Jvm.MethodName) ({ cls := "TermDeskModel", name := "primitive", desc := "(II)I" } : Jvm.MethodName)) ∈ lw_all := lw_g (lw_at lw_m8 11 rfl) rfl
theorem q1809 : (Jvm.Cond.code ({ cls := "TermDeskModel", name := "primitive", desc := "(II)I" } : Jvm.MethodName) prog_10_method_105_code (3 : Nat) (Option.some Jvm.ClassFile.FieldType.int)) ∈ lw_all := lw_g (lw_at lw_m8 12 rfl) rfl
theorem q1811 : (Jvm.Cond.instanceMethod ({ cls := "TermDeskModel", name := "complete", desc := "(I)I" } : Jvm.MethodName)) ∈ lw_all := lw_g (lw_at lw_m8 14 rfl) rfl
theorem q1812 : (Jvm.Cond.selects "TermDeskModel" ({ cls := "TermDeskModel", name := "complete", desc := "(I)I" } : Jvm.MethodName) ({ cls := "TermDeskModel", name := "complete", desc := "(I)I" } : Jvm.MethodName)) ∈ lw_all := lw_g (lw_at lw_m8 15 rfl) rfl
theorem q1813 : (Jvm.Cond.code ({ cls := "TermDeskModel", name := "complete", desc := "(I)I" } : Jvm.MethodName) prog_10_method_107_code (6 : Nat) (Option.some Jvm.ClassFile.FieldType.int)) ∈ lw_all := lw_g (lw_at lw_m8 16 rfl) rfl
theorem q1814 : (Jvm.Cond.methodLink "TermDeskModel" (438 : Nat) ({ cls := "TermDeskModel", name := "freeRegister", desc := "(I)I" } : Jvm.MethodName)) ∈ lw_all := lw_g (lw_at lw_m8 17 rfl) rfl
theorem q1815 : (Jvm.Cond.privateMethod ({ cls := "TermDeskModel", name := "freeRegister", desc := "(I)I" } : Jvm.MethodName)) ∈ lw_tbl := lw_at lw_m8 18 rfl
theorem q1816 : (Jvm.Cond.instanceMethod ({ cls := "TermDeskModel", name := "freeRegister", desc := "(I)I" } : Jvm.MethodName)) ∈ lw_all := lw_g (lw_at lw_m8 19 rfl) rfl
theorem q1817 : (Jvm.Cond.code ({ cls := "TermDeskModel", name := "freeRegister", desc := "(I)I" } : Jvm.MethodName) prog_10_method_106_code (3 : Nat) (Option.some Jvm.ClassFile.FieldType.int)) ∈ lw_all := lw_g (lw_at lw_m8 20 rfl) rfl
theorem q1819 : (Jvm.Cond.instanceMethod ({ cls := "TermDeskModel", name := "order", desc := "(III)I" } : Jvm.MethodName)) ∈ lw_all := lw_g (lw_at lw_m8 22 rfl) rfl
theorem q1820 : (Jvm.Cond.selects "TermDeskModel" ({ cls := "TermDeskModel", name := "order", desc := "(III)I" } : Jvm.MethodName) ({ cls := "TermDeskModel", name := "order", desc := "(III)I" } : Jvm.MethodName)) ∈ lw_all := lw_g (lw_at lw_m8 23 rfl) rfl
theorem q1821 : (Jvm.Cond.code ({ cls := "TermDeskModel", name := "order", desc := "(III)I" } : Jvm.MethodName) prog_10_method_108_code (5 : Nat) (Option.some Jvm.ClassFile.FieldType.int)) ∈ lw_all := lw_g (lw_at lw_m8 24 rfl) rfl
theorem q1823 : (Jvm.Cond.instanceMethod ({ cls := "TermDeskModel", name := "undo", desc := "()Z" } : Jvm.MethodName)) ∈ lw_all := lw_g (lw_at lw_m8 26 rfl) rfl
theorem q1824 : (Jvm.Cond.selects "TermDeskModel" ({ cls := "TermDeskModel", name := "undo", desc := "()Z" } : Jvm.MethodName) ({ cls := "TermDeskModel", name := "undo", desc := "()Z" } : Jvm.MethodName)) ∈ lw_all := lw_g (lw_at lw_m8 27 rfl) rfl
theorem q1825 : (Jvm.Cond.code ({ cls := "TermDeskModel", name := "undo", desc := "()Z" } : Jvm.MethodName) prog_10_method_109_code (3 : Nat) (Option.some Jvm.ClassFile.FieldType.boolean)) ∈ lw_all := lw_g (lw_at lw_m8 28 rfl) rfl
theorem q1827 : (Jvm.Cond.instanceMethod ({ cls := "TermDeskModel", name := "constant", desc := "(I)I" } : Jvm.MethodName)) ∈ lw_all := lw_g (lw_at lw_m8 30 rfl) rfl
theorem q1828 : (Jvm.Cond.selects "TermDeskModel" ({ cls := "TermDeskModel", name := "constant", desc := "(I)I" } : Jvm.MethodName) ({ cls := "TermDeskModel", name := "constant", desc := "(I)I" } : Jvm.MethodName)) ∈ lw_all := lw_g (lw_at lw_m8 31 rfl) rfl
theorem q1829 : (Jvm.Cond.code ({ cls := "TermDeskModel", name := "constant", desc := "(I)I" } : Jvm.MethodName) prog_10_method_110_code (4 : Nat) (Option.some Jvm.ClassFile.FieldType.int)) ∈ lw_all := lw_g (lw_at lw_m8 32 rfl) rfl
theorem q1831 : (Jvm.Cond.instanceMethod ({ cls := "TermDeskModel", name := "size", desc := "(I)I" } : Jvm.MethodName)) ∈ lw_all := lw_g (lw_at lw_m8 34 rfl) rfl
theorem q1832 : (Jvm.Cond.selects "TermDeskModel" ({ cls := "TermDeskModel", name := "size", desc := "(I)I" } : Jvm.MethodName) ({ cls := "TermDeskModel", name := "size", desc := "(I)I" } : Jvm.MethodName)) ∈ lw_all := lw_g (lw_at lw_m8 35 rfl) rfl
theorem q1833 : (Jvm.Cond.code ({ cls := "TermDeskModel", name := "size", desc := "(I)I" } : Jvm.MethodName) prog_10_method_112_code (2 : Nat) (Option.some Jvm.ClassFile.FieldType.int)) ∈ lw_all := lw_g (lw_at lw_m8 36 rfl) rfl
theorem q1834 : (Jvm.Cond.methodLink "TermDeskModel" (441 : Nat) ({ cls := "TermDeskModel", name := "allTerms", desc := "()I" } : Jvm.MethodName)) ∈ lw_all := lw_g (lw_at lw_m8 37 rfl) rfl
theorem q1835 : (Jvm.Cond.privateMethod ({ cls := "TermDeskModel", name := "allTerms", desc := "()I" } : Jvm.MethodName)) ∈ lw_tbl := lw_at lw_m8 38 rfl
theorem q1836 : (Jvm.Cond.instanceMethod ({ cls := "TermDeskModel", name := "allTerms", desc := "()I" } : Jvm.MethodName)) ∈ lw_all := lw_g (lw_at lw_m8 39 rfl) rfl
theorem q1837 : (Jvm.Cond.code ({ cls := "TermDeskModel", name := "allTerms", desc := "()I" } : Jvm.MethodName) prog_10_method_111_code (3 : Nat) (Option.some Jvm.ClassFile.FieldType.int)) ∈ lw_all := lw_g (lw_at lw_m8 40 rfl) rfl
theorem q1839 : (Jvm.Cond.instanceMethod ({ cls := "TermDeskModel", name := "trouble", desc := "()I" } : Jvm.MethodName)) ∈ lw_all := lw_g (lw_at lw_m8 42 rfl) rfl
theorem q1840 : (Jvm.Cond.selects "TermDeskModel" ({ cls := "TermDeskModel", name := "trouble", desc := "()I" } : Jvm.MethodName) ({ cls := "TermDeskModel", name := "trouble", desc := "()I" } : Jvm.MethodName)) ∈ lw_all := lw_g (lw_at lw_m8 43 rfl) rfl
theorem q1841 : (Jvm.Cond.code ({ cls := "TermDeskModel", name := "trouble", desc := "()I" } : Jvm.MethodName) prog_10_method_113_code (1 : Nat) (Option.some Jvm.ClassFile.FieldType.int)) ∈ lw_all := lw_g (lw_at lw_m8 44 rfl) rfl
theorem q1850 : (Jvm.Cond.castable "TermDeskModel" "java/lang/Object") ∈ lw_tbl := lw_at lw_m8 53 rfl
theorem in_X7 : ∀ w ∈ wsX70, w ∈ lw_all := lw_in wsX70 [1263, 1265, 1267, 1269, 1271, 1273, 1275, 1277, 1279, 1281, 1283, 1285, 1287, 1289, 1291, 1293, 1295, 1297, 1299, 1301, 1303, 1305, 1307, 1309, 1311, 1313, 1315, 1317, 1319, 1321, 1323, 1325, 1327, 1329, 1331, 1333, 1335, 1337, 1339, 1341, 1343, 1345, 1347, 1349, 1351, 1353, 1355, 1357, 1359, 1361, 1363, 1365, 1367] (by decide +kernel) (by decide +kernel)
