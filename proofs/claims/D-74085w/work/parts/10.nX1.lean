/-! TermDesk -/
set_option maxRecDepth 100000
def RX1 : String := "TermDesk"
def TX1 : u_T := fun k => match k with
  | 0 => ("TermDesk", "prime", "I", false)
  | 1 => ("TermDesk", "how", "I", false)
  | 2 => ("TermDesk", "first", "I", false)
  | 3 => ("TermDesk", "second", "I", false)
  | 4 => ("TermDesk", "order", "LTermDesk$Order;", false)
  | 5 => ("TermDesk", "inverse", "[I", true)
  | 6 => ("TermDesk", "all", "[I", true)
  | 7 => ("TermDesk", "out", "LTermDesk$Row;", true)
  | 8 => ("TermDesk", "division", "LTermDesk$Division;", true)
  | 9 => ("TermDesk", "one", "[[I", false)
  | 10 => ("TermDesk", "other", "[[I", false)
  | 11 => ("TermDesk", "first0", "[I", true)
  | 12 => ("TermDesk", "second0", "[I", true)
  | 13 => ("TermDesk", "between", "[I", true)
  | 14 => ("TermDesk", "nothing", "[I", true)
  | 15 => ("TermDesk", "tape", "[B", true)
  | 16 => ("TermDesk", "taped", "I", false)
  | 17 => ("TermDesk", "scanner", "LTermDesk$Scanner;", true)
  | 18 => ("TermDesk", "registers", "[LTermDesk$Poly;", false)
  | 19 => ("TermDesk", "undone", "[[LTermDesk$Poly;", true)
  | 20 => ("TermDesk", "orderWas", "[I", true)
  | 21 => ("TermDesk", "isTold", "Z", false)
  | 22 => ("TermDesk", "undoMany", "I", false)
  | 23 => ("TermDesk", "trouble", "I", false)
  | 24 => ("TermDesk", "fault", "I", false)
  | _ => ("TermDesk", "where", "I", false)
def tyX1 : Nat → FieldType := fun k => match k with
  | 0 => .int
  | 1 => .int
  | 2 => .int
  | 3 => .int
  | 4 => .object "TermDesk$Order"
  | 5 => .array .int
  | 6 => .array .int
  | 7 => .object "TermDesk$Row"
  | 8 => .object "TermDesk$Division"
  | 9 => .array (.array .int)
  | 10 => .array (.array .int)
  | 11 => .array .int
  | 12 => .array .int
  | 13 => .array .int
  | 14 => .array .int
  | 15 => .array .byte
  | 16 => .int
  | 17 => .object "TermDesk$Scanner"
  | 18 => .array (.object "TermDesk$Poly")
  | 19 => .array (.array (.object "TermDesk$Poly"))
  | 20 => .array .int
  | 21 => .boolean
  | 22 => .int
  | 23 => .int
  | 24 => .int
  | _ => .int
abbrev wsX10 : List Cond := u_ws RX1 TX1 26
set_option maxRecDepth 100000 in
theorem nmX1 : ∀ a, a < 26 → ∀ b, b < 26 → a ≠ b → (TX1 a).2.1 ≠ (TX1 b).2.1 := by decide +kernel
set_option maxRecDepth 100000 in
theorem tyX1_ok : ∀ k, k < 26 → parseFieldDescriptor (TX1 k).2.2.1 = some (tyX1 k) := by decide +kernel
abbrev cX1_init : ByteArray := prog_1_method_32_code
def yX1_init : MethodName := ⟨RX1, "<init>", "()V"⟩
def dkwX1_init_7 : List UInt8 := [2, 181, 0, 244, 42, 180, 0, 232, 187, 0, 47, 89, 183, 0, 117, 184, 0, 247, 177]
abbrev dktX1_init_7 : List UInt8 := dkwX1_init_7 ++ []
def dkwX1_init_6 : List UInt8 := [189, 0, 47, 181, 0, 232, 42, 16, 8, 189, 0, 236, 181, 0, 237, 42, 16, 8, 188, 10, 181, 0, 241, 42]
abbrev dktX1_init_6 : List UInt8 := dkwX1_init_6 ++ dktX1_init_7
def dkwX1_init_5 : List UInt8 := [17, 2, 188, 188, 8, 181, 0, 221, 42, 187, 0, 225, 89, 42, 183, 0, 227, 181, 0, 228, 42, 16, 8]
abbrev dktX1_init_5 : List UInt8 := dkwX1_init_5 ++ dktX1_init_6
def dkwX1_init_4 : List UInt8 := [188, 10, 181, 0, 153, 42, 17, 9, 0, 188, 10, 181, 0, 141, 42, 4, 188, 10, 181, 0, 175, 42]
abbrev dktX1_init_4 : List UInt8 := dkwX1_init_4 ++ dktX1_init_5
def dkwX1_init_3 : List UInt8 := [17, 9, 0, 197, 0, 220, 2, 181, 0, 193, 42, 17, 9, 0, 188, 10, 181, 0, 150, 42, 17, 9, 0]
abbrev dktX1_init_3 : List UInt8 := dkwX1_init_3 ++ dktX1_init_4
def dkwX1_init_2 : List UInt8 := [42, 183, 0, 213, 181, 0, 216, 42, 16, 16, 17, 9, 0, 197, 0, 220, 2, 181, 0, 185, 42, 16, 16]
abbrev dktX1_init_2 : List UInt8 := dkwX1_init_2 ++ dktX1_init_3
def dkwX1_init_1 : List UInt8 := [17, 16, 0, 188, 10, 181, 0, 13, 42, 187, 0, 57, 89, 183, 0, 210, 181, 0, 83, 42, 187, 0, 211, 89]
abbrev dktX1_init_1 : List UInt8 := dkwX1_init_1 ++ dktX1_init_2
def dkwX1_init_0 : List UInt8 := [42, 183, 0, 207, 42, 5, 181, 0, 23, 42, 4, 181, 0, 33, 42, 16, 98, 188, 10, 181, 0, 43, 42]
abbrev dktX1_init_0 : List UInt8 := dkwX1_init_0 ++ dktX1_init_1
theorem dksX1_init_0 : cX1_init.data.toList.drop 0 = dktX1_init_0 := by decide +kernel
theorem dksX1_init_1 : cX1_init.data.toList.drop 23 = dktX1_init_1 := dk_seg dksX1_init_0 23 rfl rfl
theorem dksX1_init_2 : cX1_init.data.toList.drop 47 = dktX1_init_2 := dk_seg dksX1_init_1 24 rfl rfl
theorem dksX1_init_3 : cX1_init.data.toList.drop 70 = dktX1_init_3 := dk_seg dksX1_init_2 23 rfl rfl
theorem dksX1_init_4 : cX1_init.data.toList.drop 93 = dktX1_init_4 := dk_seg dksX1_init_3 23 rfl rfl
theorem dksX1_init_5 : cX1_init.data.toList.drop 115 = dktX1_init_5 := dk_seg dksX1_init_4 22 rfl rfl
theorem dksX1_init_6 : cX1_init.data.toList.drop 138 = dktX1_init_6 := dk_seg dksX1_init_5 23 rfl rfl
theorem dksX1_init_7 : cX1_init.data.toList.drop 162 = dktX1_init_7 := dk_seg dksX1_init_6 24 rfl rfl
theorem dX1_init_0 : decode cX1_init 0 = .ok (.aload_n 0, 1) := dk_42 (dk_at dksX1_init_0 0 rfl rfl)
theorem dX1_init_1 : decode cX1_init 1 = .ok (.invokespecial 207, 3) := dk_183 0 207 (dk_at dksX1_init_0 1 rfl rfl)
theorem dX1_init_4 : decode cX1_init 4 = .ok (.aload_n 0, 1) := dk_42 (dk_at dksX1_init_0 4 rfl rfl)
theorem dX1_init_5 : decode cX1_init 5 = .ok (.iconst 2, 1) := dk_5 (dk_at dksX1_init_0 5 rfl rfl)
theorem dX1_init_6 : decode cX1_init 6 = .ok (.putfield 23, 3) := dk_181 0 23 (dk_at dksX1_init_0 6 rfl rfl)
theorem dX1_init_9 : decode cX1_init 9 = .ok (.aload_n 0, 1) := dk_42 (dk_at dksX1_init_0 9 rfl rfl)
theorem dX1_init_10 : decode cX1_init 10 = .ok (.iconst 1, 1) := dk_4 (dk_at dksX1_init_0 10 rfl rfl)
theorem dX1_init_11 : decode cX1_init 11 = .ok (.putfield 33, 3) := dk_181 0 33 (dk_at dksX1_init_0 11 rfl rfl)
theorem dX1_init_14 : decode cX1_init 14 = .ok (.aload_n 0, 1) := dk_42 (dk_at dksX1_init_0 14 rfl rfl)
theorem dX1_init_15 : decode cX1_init 15 = .ok (.bipush 98, 2) := dk_16 98 (dk_at dksX1_init_0 15 rfl rfl)
theorem dX1_init_17 : decode cX1_init 17 = .ok (.newarray .int, 2) := dk_188_10 (dk_at dksX1_init_0 17 rfl rfl)
theorem dX1_init_19 : decode cX1_init 19 = .ok (.putfield 43, 3) := dk_181 0 43 (dk_at dksX1_init_0 19 rfl rfl)
theorem dX1_init_22 : decode cX1_init 22 = .ok (.aload_n 0, 1) := dk_42 (dk_at dksX1_init_0 22 rfl rfl)
theorem dX1_init_23 : decode cX1_init 23 = .ok (.sipush 4096, 3) := dk_17 16 0 (dk_at dksX1_init_1 0 rfl rfl)
theorem dX1_init_26 : decode cX1_init 26 = .ok (.newarray .int, 2) := dk_188_10 (dk_at dksX1_init_1 3 rfl rfl)
theorem dX1_init_28 : decode cX1_init 28 = .ok (.putfield 13, 3) := dk_181 0 13 (dk_at dksX1_init_1 5 rfl rfl)
theorem dX1_init_31 : decode cX1_init 31 = .ok (.aload_n 0, 1) := dk_42 (dk_at dksX1_init_1 8 rfl rfl)
theorem dX1_init_32 : decode cX1_init 32 = .ok (.new 57, 3) := dk_187 0 57 (dk_at dksX1_init_1 9 rfl rfl)
theorem dX1_init_35 : decode cX1_init 35 = .ok (.dup, 1) := dk_89 (dk_at dksX1_init_1 12 rfl rfl)
theorem dX1_init_36 : decode cX1_init 36 = .ok (.invokespecial 210, 3) := dk_183 0 210 (dk_at dksX1_init_1 13 rfl rfl)
theorem dX1_init_39 : decode cX1_init 39 = .ok (.putfield 83, 3) := dk_181 0 83 (dk_at dksX1_init_1 16 rfl rfl)
theorem dX1_init_42 : decode cX1_init 42 = .ok (.aload_n 0, 1) := dk_42 (dk_at dksX1_init_1 19 rfl rfl)
theorem dX1_init_43 : decode cX1_init 43 = .ok (.new 211, 3) := dk_187 0 211 (dk_at dksX1_init_1 20 rfl rfl)
theorem dX1_init_46 : decode cX1_init 46 = .ok (.dup, 1) := dk_89 (dk_at dksX1_init_1 23 rfl rfl)
theorem dX1_init_47 : decode cX1_init 47 = .ok (.aload_n 0, 1) := dk_42 (dk_at dksX1_init_2 0 rfl rfl)
theorem dX1_init_48 : decode cX1_init 48 = .ok (.invokespecial 213, 3) := dk_183 0 213 (dk_at dksX1_init_2 1 rfl rfl)
theorem dX1_init_51 : decode cX1_init 51 = .ok (.putfield 216, 3) := dk_181 0 216 (dk_at dksX1_init_2 4 rfl rfl)
theorem dX1_init_54 : decode cX1_init 54 = .ok (.aload_n 0, 1) := dk_42 (dk_at dksX1_init_2 7 rfl rfl)
theorem dX1_init_55 : decode cX1_init 55 = .ok (.bipush 16, 2) := dk_16 16 (dk_at dksX1_init_2 8 rfl rfl)
theorem dX1_init_57 : decode cX1_init 57 = .ok (.sipush 2304, 3) := dk_17 9 0 (dk_at dksX1_init_2 10 rfl rfl)
theorem dX1_init_60 : decode cX1_init 60 = .ok (.multianewarray 220 2, 4) := by decide +kernel
theorem dX1_init_64 : decode cX1_init 64 = .ok (.putfield 185, 3) := dk_181 0 185 (dk_at dksX1_init_2 17 rfl rfl)
theorem dX1_init_67 : decode cX1_init 67 = .ok (.aload_n 0, 1) := dk_42 (dk_at dksX1_init_2 20 rfl rfl)
theorem dX1_init_68 : decode cX1_init 68 = .ok (.bipush 16, 2) := dk_16 16 (dk_at dksX1_init_2 21 rfl rfl)
theorem dX1_init_70 : decode cX1_init 70 = .ok (.sipush 2304, 3) := dk_17 9 0 (dk_at dksX1_init_3 0 rfl rfl)
theorem dX1_init_73 : decode cX1_init 73 = .ok (.multianewarray 220 2, 4) := by decide +kernel
theorem dX1_init_77 : decode cX1_init 77 = .ok (.putfield 193, 3) := dk_181 0 193 (dk_at dksX1_init_3 7 rfl rfl)
theorem dX1_init_80 : decode cX1_init 80 = .ok (.aload_n 0, 1) := dk_42 (dk_at dksX1_init_3 10 rfl rfl)
theorem dX1_init_81 : decode cX1_init 81 = .ok (.sipush 2304, 3) := dk_17 9 0 (dk_at dksX1_init_3 11 rfl rfl)
theorem dX1_init_84 : decode cX1_init 84 = .ok (.newarray .int, 2) := dk_188_10 (dk_at dksX1_init_3 14 rfl rfl)
theorem dX1_init_86 : decode cX1_init 86 = .ok (.putfield 150, 3) := dk_181 0 150 (dk_at dksX1_init_3 16 rfl rfl)
theorem dX1_init_89 : decode cX1_init 89 = .ok (.aload_n 0, 1) := dk_42 (dk_at dksX1_init_3 19 rfl rfl)
theorem dX1_init_90 : decode cX1_init 90 = .ok (.sipush 2304, 3) := dk_17 9 0 (dk_at dksX1_init_3 20 rfl rfl)
theorem dX1_init_93 : decode cX1_init 93 = .ok (.newarray .int, 2) := dk_188_10 (dk_at dksX1_init_4 0 rfl rfl)
theorem dX1_init_95 : decode cX1_init 95 = .ok (.putfield 153, 3) := dk_181 0 153 (dk_at dksX1_init_4 2 rfl rfl)
theorem dX1_init_98 : decode cX1_init 98 = .ok (.aload_n 0, 1) := dk_42 (dk_at dksX1_init_4 5 rfl rfl)
theorem dX1_init_99 : decode cX1_init 99 = .ok (.sipush 2304, 3) := dk_17 9 0 (dk_at dksX1_init_4 6 rfl rfl)
theorem dX1_init_102 : decode cX1_init 102 = .ok (.newarray .int, 2) := dk_188_10 (dk_at dksX1_init_4 9 rfl rfl)
theorem dX1_init_104 : decode cX1_init 104 = .ok (.putfield 141, 3) := dk_181 0 141 (dk_at dksX1_init_4 11 rfl rfl)
theorem dX1_init_107 : decode cX1_init 107 = .ok (.aload_n 0, 1) := dk_42 (dk_at dksX1_init_4 14 rfl rfl)
theorem dX1_init_108 : decode cX1_init 108 = .ok (.iconst 1, 1) := dk_4 (dk_at dksX1_init_4 15 rfl rfl)
theorem dX1_init_109 : decode cX1_init 109 = .ok (.newarray .int, 2) := dk_188_10 (dk_at dksX1_init_4 16 rfl rfl)
theorem dX1_init_111 : decode cX1_init 111 = .ok (.putfield 175, 3) := dk_181 0 175 (dk_at dksX1_init_4 18 rfl rfl)
theorem dX1_init_114 : decode cX1_init 114 = .ok (.aload_n 0, 1) := dk_42 (dk_at dksX1_init_4 21 rfl rfl)
theorem dX1_init_115 : decode cX1_init 115 = .ok (.sipush 700, 3) := dk_17 2 188 (dk_at dksX1_init_5 0 rfl rfl)
theorem dX1_init_118 : decode cX1_init 118 = .ok (.newarray .byte, 2) := dk_188_8 (dk_at dksX1_init_5 3 rfl rfl)
theorem dX1_init_120 : decode cX1_init 120 = .ok (.putfield 221, 3) := dk_181 0 221 (dk_at dksX1_init_5 5 rfl rfl)
theorem dX1_init_123 : decode cX1_init 123 = .ok (.aload_n 0, 1) := dk_42 (dk_at dksX1_init_5 8 rfl rfl)
theorem dX1_init_124 : decode cX1_init 124 = .ok (.new 225, 3) := dk_187 0 225 (dk_at dksX1_init_5 9 rfl rfl)
theorem dX1_init_127 : decode cX1_init 127 = .ok (.dup, 1) := dk_89 (dk_at dksX1_init_5 12 rfl rfl)
theorem dX1_init_128 : decode cX1_init 128 = .ok (.aload_n 0, 1) := dk_42 (dk_at dksX1_init_5 13 rfl rfl)
theorem dX1_init_129 : decode cX1_init 129 = .ok (.invokespecial 227, 3) := dk_183 0 227 (dk_at dksX1_init_5 14 rfl rfl)
theorem dX1_init_132 : decode cX1_init 132 = .ok (.putfield 228, 3) := dk_181 0 228 (dk_at dksX1_init_5 17 rfl rfl)
theorem dX1_init_135 : decode cX1_init 135 = .ok (.aload_n 0, 1) := dk_42 (dk_at dksX1_init_5 20 rfl rfl)
theorem dX1_init_136 : decode cX1_init 136 = .ok (.bipush 8, 2) := dk_16 8 (dk_at dksX1_init_5 21 rfl rfl)
theorem dX1_init_138 : decode cX1_init 138 = .ok (.anewarray 47, 3) := dk_189 0 47 (dk_at dksX1_init_6 0 rfl rfl)
theorem dX1_init_141 : decode cX1_init 141 = .ok (.putfield 232, 3) := dk_181 0 232 (dk_at dksX1_init_6 3 rfl rfl)
theorem dX1_init_144 : decode cX1_init 144 = .ok (.aload_n 0, 1) := dk_42 (dk_at dksX1_init_6 6 rfl rfl)
theorem dX1_init_145 : decode cX1_init 145 = .ok (.bipush 8, 2) := dk_16 8 (dk_at dksX1_init_6 7 rfl rfl)
theorem dX1_init_147 : decode cX1_init 147 = .ok (.anewarray 236, 3) := dk_189 0 236 (dk_at dksX1_init_6 9 rfl rfl)
theorem dX1_init_150 : decode cX1_init 150 = .ok (.putfield 237, 3) := dk_181 0 237 (dk_at dksX1_init_6 12 rfl rfl)
theorem dX1_init_153 : decode cX1_init 153 = .ok (.aload_n 0, 1) := dk_42 (dk_at dksX1_init_6 15 rfl rfl)
theorem dX1_init_154 : decode cX1_init 154 = .ok (.bipush 8, 2) := dk_16 8 (dk_at dksX1_init_6 16 rfl rfl)
theorem dX1_init_156 : decode cX1_init 156 = .ok (.newarray .int, 2) := dk_188_10 (dk_at dksX1_init_6 18 rfl rfl)
theorem dX1_init_158 : decode cX1_init 158 = .ok (.putfield 241, 3) := dk_181 0 241 (dk_at dksX1_init_6 20 rfl rfl)
theorem dX1_init_161 : decode cX1_init 161 = .ok (.aload_n 0, 1) := dk_42 (dk_at dksX1_init_6 23 rfl rfl)
theorem dX1_init_162 : decode cX1_init 162 = .ok (.iconst (-1), 1) := dk_2 (dk_at dksX1_init_7 0 rfl rfl)
theorem dX1_init_163 : decode cX1_init 163 = .ok (.putfield 244, 3) := dk_181 0 244 (dk_at dksX1_init_7 1 rfl rfl)
theorem dX1_init_166 : decode cX1_init 166 = .ok (.aload_n 0, 1) := dk_42 (dk_at dksX1_init_7 4 rfl rfl)
theorem dX1_init_167 : decode cX1_init 167 = .ok (.getfield 232, 3) := dk_180 0 232 (dk_at dksX1_init_7 5 rfl rfl)
theorem dX1_init_170 : decode cX1_init 170 = .ok (.new 47, 3) := dk_187 0 47 (dk_at dksX1_init_7 8 rfl rfl)
theorem dX1_init_173 : decode cX1_init 173 = .ok (.dup, 1) := dk_89 (dk_at dksX1_init_7 11 rfl rfl)
theorem dX1_init_174 : decode cX1_init 174 = .ok (.invokespecial 117, 3) := dk_183 0 117 (dk_at dksX1_init_7 12 rfl rfl)
theorem dX1_init_177 : decode cX1_init 177 = .ok (.invokestatic 247, 3) := dk_184 0 247 (dk_at dksX1_init_7 15 rfl rfl)
theorem dX1_init_180 : decode cX1_init 180 = .ok (.return_, 1) := dk_177 (dk_at dksX1_init_7 18 rfl rfl)
abbrev cX1_feed : ByteArray := prog_1_method_38_code
def yX1_feed : MethodName := ⟨RX1, "feed", "(IIIII)I"⟩
def dkwX1_feed_2 : List UInt8 := [172]
abbrev dktX1_feed_2 : List UInt8 := dkwX1_feed_2 ++ []
def dkwX1_feed_1 : List UInt8 := [182, 1, 11, 42, 29, 182, 1, 11, 42, 21, 4, 182, 1, 11, 42, 21, 5, 182, 1, 11, 42, 180, 1, 8]
abbrev dktX1_feed_1 : List UInt8 := dkwX1_feed_1 ++ dktX1_feed_2
def dkwX1_feed_0 : List UInt8 := [42, 180, 1, 8, 16, 20, 96, 17, 2, 188, 164, 0, 5, 2, 172, 42, 27, 182, 1, 11, 42, 28]
abbrev dktX1_feed_0 : List UInt8 := dkwX1_feed_0 ++ dktX1_feed_1
theorem dksX1_feed_0 : cX1_feed.data.toList.drop 0 = dktX1_feed_0 := by decide +kernel
theorem dksX1_feed_1 : cX1_feed.data.toList.drop 22 = dktX1_feed_1 := dk_seg dksX1_feed_0 22 rfl rfl
theorem dksX1_feed_2 : cX1_feed.data.toList.drop 46 = dktX1_feed_2 := dk_seg dksX1_feed_1 24 rfl rfl
theorem dX1_feed_0 : decode cX1_feed 0 = .ok (.aload_n 0, 1) := dk_42 (dk_at dksX1_feed_0 0 rfl rfl)
theorem dX1_feed_1 : decode cX1_feed 1 = .ok (.getfield 264, 3) := dk_180 1 8 (dk_at dksX1_feed_0 1 rfl rfl)
theorem dX1_feed_4 : decode cX1_feed 4 = .ok (.bipush 20, 2) := dk_16 20 (dk_at dksX1_feed_0 4 rfl rfl)
theorem dX1_feed_6 : decode cX1_feed 6 = .ok (.iadd, 1) := dk_96 (dk_at dksX1_feed_0 6 rfl rfl)
theorem dX1_feed_7 : decode cX1_feed 7 = .ok (.sipush 700, 3) := dk_17 2 188 (dk_at dksX1_feed_0 7 rfl rfl)
theorem dX1_feed_10 : decode cX1_feed 10 = .ok (.if_icmp .le 5, 3) := dk_164 0 5 (dk_at dksX1_feed_0 10 rfl rfl)
theorem dX1_feed_13 : decode cX1_feed 13 = .ok (.iconst (-1), 1) := dk_2 (dk_at dksX1_feed_0 13 rfl rfl)
theorem dX1_feed_14 : decode cX1_feed 14 = .ok (.ireturn, 1) := dk_172 (dk_at dksX1_feed_0 14 rfl rfl)
theorem dX1_feed_15 : decode cX1_feed 15 = .ok (.aload_n 0, 1) := dk_42 (dk_at dksX1_feed_0 15 rfl rfl)
theorem dX1_feed_16 : decode cX1_feed 16 = .ok (.iload_n 1, 1) := dk_27 (dk_at dksX1_feed_0 16 rfl rfl)
theorem dX1_feed_17 : decode cX1_feed 17 = .ok (.invokevirtual 267, 3) := dk_182 1 11 (dk_at dksX1_feed_0 17 rfl rfl)
theorem dX1_feed_20 : decode cX1_feed 20 = .ok (.aload_n 0, 1) := dk_42 (dk_at dksX1_feed_0 20 rfl rfl)
theorem dX1_feed_21 : decode cX1_feed 21 = .ok (.iload_n 2, 1) := dk_28 (dk_at dksX1_feed_0 21 rfl rfl)
theorem dX1_feed_22 : decode cX1_feed 22 = .ok (.invokevirtual 267, 3) := dk_182 1 11 (dk_at dksX1_feed_1 0 rfl rfl)
theorem dX1_feed_25 : decode cX1_feed 25 = .ok (.aload_n 0, 1) := dk_42 (dk_at dksX1_feed_1 3 rfl rfl)
theorem dX1_feed_26 : decode cX1_feed 26 = .ok (.iload_n 3, 1) := dk_29 (dk_at dksX1_feed_1 4 rfl rfl)
theorem dX1_feed_27 : decode cX1_feed 27 = .ok (.invokevirtual 267, 3) := dk_182 1 11 (dk_at dksX1_feed_1 5 rfl rfl)
theorem dX1_feed_30 : decode cX1_feed 30 = .ok (.aload_n 0, 1) := dk_42 (dk_at dksX1_feed_1 8 rfl rfl)
theorem dX1_feed_31 : decode cX1_feed 31 = .ok (.iload 4, 2) := dk_21 4 (dk_at dksX1_feed_1 9 rfl rfl)
theorem dX1_feed_33 : decode cX1_feed 33 = .ok (.invokevirtual 267, 3) := dk_182 1 11 (dk_at dksX1_feed_1 11 rfl rfl)
theorem dX1_feed_36 : decode cX1_feed 36 = .ok (.aload_n 0, 1) := dk_42 (dk_at dksX1_feed_1 14 rfl rfl)
theorem dX1_feed_37 : decode cX1_feed 37 = .ok (.iload 5, 2) := dk_21 5 (dk_at dksX1_feed_1 15 rfl rfl)
theorem dX1_feed_39 : decode cX1_feed 39 = .ok (.invokevirtual 267, 3) := dk_182 1 11 (dk_at dksX1_feed_1 17 rfl rfl)
theorem dX1_feed_42 : decode cX1_feed 42 = .ok (.aload_n 0, 1) := dk_42 (dk_at dksX1_feed_1 20 rfl rfl)
theorem dX1_feed_43 : decode cX1_feed 43 = .ok (.getfield 264, 3) := dk_180 1 8 (dk_at dksX1_feed_1 21 rfl rfl)
theorem dX1_feed_46 : decode cX1_feed 46 = .ok (.ireturn, 1) := dk_172 (dk_at dksX1_feed_2 0 rfl rfl)
abbrev cX1_bytes : ByteArray := prog_1_method_39_code
def yX1_bytes : MethodName := ⟨RX1, "bytes", "(I)V"⟩
def dkwX1_bytes_1 : List UInt8 := [180, 1, 8, 4, 96, 181, 1, 8, 132, 2, 248, 167, 255, 226, 177]
abbrev dktX1_bytes_1 : List UInt8 := dkwX1_bytes_1 ++ []
def dkwX1_bytes_0 : List UInt8 := [16, 24, 61, 28, 155, 0, 32, 42, 180, 0, 221, 42, 180, 1, 8, 27, 28, 122, 145, 84, 42, 89]
abbrev dktX1_bytes_0 : List UInt8 := dkwX1_bytes_0 ++ dktX1_bytes_1
theorem dksX1_bytes_0 : cX1_bytes.data.toList.drop 0 = dktX1_bytes_0 := by decide +kernel
theorem dksX1_bytes_1 : cX1_bytes.data.toList.drop 22 = dktX1_bytes_1 := dk_seg dksX1_bytes_0 22 rfl rfl
theorem dX1_bytes_0 : decode cX1_bytes 0 = .ok (.bipush 24, 2) := dk_16 24 (dk_at dksX1_bytes_0 0 rfl rfl)
theorem dX1_bytes_2 : decode cX1_bytes 2 = .ok (.istore_n 2, 1) := dk_61 (dk_at dksX1_bytes_0 2 rfl rfl)
theorem dX1_bytes_3 : decode cX1_bytes 3 = .ok (.iload_n 2, 1) := dk_28 (dk_at dksX1_bytes_0 3 rfl rfl)
theorem dX1_bytes_4 : decode cX1_bytes 4 = .ok (.ifCond .lt 32, 3) := dk_155 0 32 (dk_at dksX1_bytes_0 4 rfl rfl)
theorem dX1_bytes_7 : decode cX1_bytes 7 = .ok (.aload_n 0, 1) := dk_42 (dk_at dksX1_bytes_0 7 rfl rfl)
theorem dX1_bytes_8 : decode cX1_bytes 8 = .ok (.getfield 221, 3) := dk_180 0 221 (dk_at dksX1_bytes_0 8 rfl rfl)
theorem dX1_bytes_11 : decode cX1_bytes 11 = .ok (.aload_n 0, 1) := dk_42 (dk_at dksX1_bytes_0 11 rfl rfl)
theorem dX1_bytes_12 : decode cX1_bytes 12 = .ok (.getfield 264, 3) := dk_180 1 8 (dk_at dksX1_bytes_0 12 rfl rfl)
theorem dX1_bytes_15 : decode cX1_bytes 15 = .ok (.iload_n 1, 1) := dk_27 (dk_at dksX1_bytes_0 15 rfl rfl)
theorem dX1_bytes_16 : decode cX1_bytes 16 = .ok (.iload_n 2, 1) := dk_28 (dk_at dksX1_bytes_0 16 rfl rfl)
theorem dX1_bytes_17 : decode cX1_bytes 17 = .ok (.ishr, 1) := dk_122 (dk_at dksX1_bytes_0 17 rfl rfl)
theorem dX1_bytes_18 : decode cX1_bytes 18 = .ok (.i2b, 1) := dk_145 (dk_at dksX1_bytes_0 18 rfl rfl)
theorem dX1_bytes_19 : decode cX1_bytes 19 = .ok (.bastore, 1) := dk_84 (dk_at dksX1_bytes_0 19 rfl rfl)
theorem dX1_bytes_20 : decode cX1_bytes 20 = .ok (.aload_n 0, 1) := dk_42 (dk_at dksX1_bytes_0 20 rfl rfl)
theorem dX1_bytes_21 : decode cX1_bytes 21 = .ok (.dup, 1) := dk_89 (dk_at dksX1_bytes_0 21 rfl rfl)
theorem dX1_bytes_22 : decode cX1_bytes 22 = .ok (.getfield 264, 3) := dk_180 1 8 (dk_at dksX1_bytes_1 0 rfl rfl)
theorem dX1_bytes_25 : decode cX1_bytes 25 = .ok (.iconst 1, 1) := dk_4 (dk_at dksX1_bytes_1 3 rfl rfl)
theorem dX1_bytes_26 : decode cX1_bytes 26 = .ok (.iadd, 1) := dk_96 (dk_at dksX1_bytes_1 4 rfl rfl)
theorem dX1_bytes_27 : decode cX1_bytes 27 = .ok (.putfield 264, 3) := dk_181 1 8 (dk_at dksX1_bytes_1 5 rfl rfl)
theorem dX1_bytes_30 : decode cX1_bytes 30 = .ok (.iinc 2 (-8), 3) := dk_132 2 248 (dk_at dksX1_bytes_1 8 rfl rfl)
theorem dX1_bytes_33 : decode cX1_bytes 33 = .ok (.goto (-30), 3) := dk_167 255 226 (dk_at dksX1_bytes_1 11 rfl rfl)
theorem dX1_bytes_36 : decode cX1_bytes 36 = .ok (.return_, 1) := dk_177 (dk_at dksX1_bytes_1 14 rfl rfl)
abbrev cX1_desk : ByteArray := prog_1_method_40_code
def yX1_desk : MethodName := ⟨RX1, "desk", "(I)I"⟩
def dkwX1_desk_7 : List UInt8 := [42, 4, 181, 1, 0, 42, 3, 181, 1, 56, 42, 180, 0, 228, 180, 1, 50, 172]
abbrev dktX1_desk_7 : List UInt8 := dkwX1_desk_7 ++ []
def dkwX1_desk_6 : List UInt8 := [180, 0, 228, 28, 182, 1, 53, 167, 0, 10, 187, 0, 47, 89, 183, 0, 117, 83, 132, 2, 1, 167, 255, 212]
abbrev dktX1_desk_6 : List UInt8 := dkwX1_desk_6 ++ dktX1_desk_7
def dkwX1_desk_5 : List UInt8 := [16, 8, 162, 0, 44, 42, 180, 0, 232, 28, 28, 42, 180, 0, 228, 180, 1, 50, 162, 0, 14, 42]
abbrev dktX1_desk_5 : List UInt8 := dkwX1_desk_5 ++ dktX1_desk_6
def dkwX1_desk_4 : List UInt8 := [180, 0, 228, 180, 1, 43, 3, 46, 42, 180, 0, 228, 180, 1, 43, 4, 46, 182, 1, 46, 3, 61, 28]
abbrev dktX1_desk_4 : List UInt8 := dkwX1_desk_4 ++ dktX1_desk_5
def dkwX1_desk_3 : List UInt8 := [180, 0, 228, 180, 1, 34, 181, 0, 23, 42, 182, 1, 37, 42, 42, 180, 0, 228, 180, 1, 40, 42]
abbrev dktX1_desk_3 : List UInt8 := dkwX1_desk_3 ++ dktX1_desk_4
def dkwX1_desk_2 : List UInt8 := [180, 1, 30, 181, 1, 22, 42, 44, 180, 1, 31, 181, 0, 244, 42, 7, 182, 1, 19, 172, 42, 42]
abbrev dktX1_desk_2 : List UInt8 := dkwX1_desk_2 ++ dktX1_desk_3
def dkwX1_desk_1 : List UInt8 := [181, 1, 8, 42, 3, 181, 1, 22, 42, 180, 0, 228, 27, 182, 1, 25, 167, 0, 26, 77, 42, 44]
abbrev dktX1_desk_1 : List UInt8 := dkwX1_desk_1 ++ dktX1_desk_2
def dkwX1_desk_0 : List UInt8 := [42, 182, 0, 253, 27, 3, 42, 180, 1, 8, 184, 1, 15, 154, 0, 9, 42, 5, 182, 1, 19, 172, 42, 3]
abbrev dktX1_desk_0 : List UInt8 := dkwX1_desk_0 ++ dktX1_desk_1
theorem dksX1_desk_0 : cX1_desk.data.toList.drop 0 = dktX1_desk_0 := by decide +kernel
theorem dksX1_desk_1 : cX1_desk.data.toList.drop 24 = dktX1_desk_1 := dk_seg dksX1_desk_0 24 rfl rfl
theorem dksX1_desk_2 : cX1_desk.data.toList.drop 46 = dktX1_desk_2 := dk_seg dksX1_desk_1 22 rfl rfl
theorem dksX1_desk_3 : cX1_desk.data.toList.drop 68 = dktX1_desk_3 := dk_seg dksX1_desk_2 22 rfl rfl
theorem dksX1_desk_4 : cX1_desk.data.toList.drop 90 = dktX1_desk_4 := dk_seg dksX1_desk_3 22 rfl rfl
theorem dksX1_desk_5 : cX1_desk.data.toList.drop 113 = dktX1_desk_5 := dk_seg dksX1_desk_4 23 rfl rfl
theorem dksX1_desk_6 : cX1_desk.data.toList.drop 135 = dktX1_desk_6 := dk_seg dksX1_desk_5 22 rfl rfl
theorem dksX1_desk_7 : cX1_desk.data.toList.drop 159 = dktX1_desk_7 := dk_seg dksX1_desk_6 24 rfl rfl
theorem dX1_desk_0 : decode cX1_desk 0 = .ok (.aload_n 0, 1) := dk_42 (dk_at dksX1_desk_0 0 rfl rfl)
theorem dX1_desk_1 : decode cX1_desk 1 = .ok (.invokevirtual 253, 3) := dk_182 0 253 (dk_at dksX1_desk_0 1 rfl rfl)
theorem dX1_desk_4 : decode cX1_desk 4 = .ok (.iload_n 1, 1) := dk_27 (dk_at dksX1_desk_0 4 rfl rfl)
theorem dX1_desk_5 : decode cX1_desk 5 = .ok (.iconst 0, 1) := dk_3 (dk_at dksX1_desk_0 5 rfl rfl)
theorem dX1_desk_6 : decode cX1_desk 6 = .ok (.aload_n 0, 1) := dk_42 (dk_at dksX1_desk_0 6 rfl rfl)
theorem dX1_desk_7 : decode cX1_desk 7 = .ok (.getfield 264, 3) := dk_180 1 8 (dk_at dksX1_desk_0 7 rfl rfl)
theorem dX1_desk_10 : decode cX1_desk 10 = .ok (.invokestatic 271, 3) := dk_184 1 15 (dk_at dksX1_desk_0 10 rfl rfl)
theorem dX1_desk_13 : decode cX1_desk 13 = .ok (.ifCond .ne 9, 3) := dk_154 0 9 (dk_at dksX1_desk_0 13 rfl rfl)
theorem dX1_desk_16 : decode cX1_desk 16 = .ok (.aload_n 0, 1) := dk_42 (dk_at dksX1_desk_0 16 rfl rfl)
theorem dX1_desk_17 : decode cX1_desk 17 = .ok (.iconst 2, 1) := dk_5 (dk_at dksX1_desk_0 17 rfl rfl)
theorem dX1_desk_18 : decode cX1_desk 18 = .ok (.invokevirtual 275, 3) := dk_182 1 19 (dk_at dksX1_desk_0 18 rfl rfl)
theorem dX1_desk_21 : decode cX1_desk 21 = .ok (.ireturn, 1) := dk_172 (dk_at dksX1_desk_0 21 rfl rfl)
theorem dX1_desk_22 : decode cX1_desk 22 = .ok (.aload_n 0, 1) := dk_42 (dk_at dksX1_desk_0 22 rfl rfl)
theorem dX1_desk_23 : decode cX1_desk 23 = .ok (.iconst 0, 1) := dk_3 (dk_at dksX1_desk_0 23 rfl rfl)
theorem dX1_desk_24 : decode cX1_desk 24 = .ok (.putfield 264, 3) := dk_181 1 8 (dk_at dksX1_desk_1 0 rfl rfl)
theorem dX1_desk_27 : decode cX1_desk 27 = .ok (.aload_n 0, 1) := dk_42 (dk_at dksX1_desk_1 3 rfl rfl)
theorem dX1_desk_28 : decode cX1_desk 28 = .ok (.iconst 0, 1) := dk_3 (dk_at dksX1_desk_1 4 rfl rfl)
theorem dX1_desk_29 : decode cX1_desk 29 = .ok (.putfield 278, 3) := dk_181 1 22 (dk_at dksX1_desk_1 5 rfl rfl)
theorem dX1_desk_32 : decode cX1_desk 32 = .ok (.aload_n 0, 1) := dk_42 (dk_at dksX1_desk_1 8 rfl rfl)
theorem dX1_desk_33 : decode cX1_desk 33 = .ok (.getfield 228, 3) := dk_180 0 228 (dk_at dksX1_desk_1 9 rfl rfl)
theorem dX1_desk_36 : decode cX1_desk 36 = .ok (.iload_n 1, 1) := dk_27 (dk_at dksX1_desk_1 12 rfl rfl)
theorem dX1_desk_37 : decode cX1_desk 37 = .ok (.invokevirtual 281, 3) := dk_182 1 25 (dk_at dksX1_desk_1 13 rfl rfl)
theorem dX1_desk_40 : decode cX1_desk 40 = .ok (.goto 26, 3) := dk_167 0 26 (dk_at dksX1_desk_1 16 rfl rfl)
theorem dX1_desk_43 : decode cX1_desk 43 = .ok (.astore_n 2, 1) := dk_77 (dk_at dksX1_desk_1 19 rfl rfl)
theorem dX1_desk_44 : decode cX1_desk 44 = .ok (.aload_n 0, 1) := dk_42 (dk_at dksX1_desk_1 20 rfl rfl)
theorem dX1_desk_45 : decode cX1_desk 45 = .ok (.aload_n 2, 1) := dk_44 (dk_at dksX1_desk_1 21 rfl rfl)
theorem dX1_desk_46 : decode cX1_desk 46 = .ok (.getfield 286, 3) := dk_180 1 30 (dk_at dksX1_desk_2 0 rfl rfl)
theorem dX1_desk_49 : decode cX1_desk 49 = .ok (.putfield 278, 3) := dk_181 1 22 (dk_at dksX1_desk_2 3 rfl rfl)
theorem dX1_desk_52 : decode cX1_desk 52 = .ok (.aload_n 0, 1) := dk_42 (dk_at dksX1_desk_2 6 rfl rfl)
theorem dX1_desk_53 : decode cX1_desk 53 = .ok (.aload_n 2, 1) := dk_44 (dk_at dksX1_desk_2 7 rfl rfl)
theorem dX1_desk_54 : decode cX1_desk 54 = .ok (.getfield 287, 3) := dk_180 1 31 (dk_at dksX1_desk_2 8 rfl rfl)
theorem dX1_desk_57 : decode cX1_desk 57 = .ok (.putfield 244, 3) := dk_181 0 244 (dk_at dksX1_desk_2 11 rfl rfl)
theorem dX1_desk_60 : decode cX1_desk 60 = .ok (.aload_n 0, 1) := dk_42 (dk_at dksX1_desk_2 14 rfl rfl)
theorem dX1_desk_61 : decode cX1_desk 61 = .ok (.iconst 4, 1) := dk_7 (dk_at dksX1_desk_2 15 rfl rfl)
theorem dX1_desk_62 : decode cX1_desk 62 = .ok (.invokevirtual 275, 3) := dk_182 1 19 (dk_at dksX1_desk_2 16 rfl rfl)
theorem dX1_desk_65 : decode cX1_desk 65 = .ok (.ireturn, 1) := dk_172 (dk_at dksX1_desk_2 19 rfl rfl)
theorem dX1_desk_66 : decode cX1_desk 66 = .ok (.aload_n 0, 1) := dk_42 (dk_at dksX1_desk_2 20 rfl rfl)
theorem dX1_desk_67 : decode cX1_desk 67 = .ok (.aload_n 0, 1) := dk_42 (dk_at dksX1_desk_2 21 rfl rfl)
theorem dX1_desk_68 : decode cX1_desk 68 = .ok (.getfield 228, 3) := dk_180 0 228 (dk_at dksX1_desk_3 0 rfl rfl)
theorem dX1_desk_71 : decode cX1_desk 71 = .ok (.getfield 290, 3) := dk_180 1 34 (dk_at dksX1_desk_3 3 rfl rfl)
theorem dX1_desk_74 : decode cX1_desk 74 = .ok (.putfield 23, 3) := dk_181 0 23 (dk_at dksX1_desk_3 6 rfl rfl)
theorem dX1_desk_77 : decode cX1_desk 77 = .ok (.aload_n 0, 1) := dk_42 (dk_at dksX1_desk_3 9 rfl rfl)
theorem dX1_desk_78 : decode cX1_desk 78 = .ok (.invokevirtual 293, 3) := dk_182 1 37 (dk_at dksX1_desk_3 10 rfl rfl)
theorem dX1_desk_81 : decode cX1_desk 81 = .ok (.aload_n 0, 1) := dk_42 (dk_at dksX1_desk_3 13 rfl rfl)
theorem dX1_desk_82 : decode cX1_desk 82 = .ok (.aload_n 0, 1) := dk_42 (dk_at dksX1_desk_3 14 rfl rfl)
theorem dX1_desk_83 : decode cX1_desk 83 = .ok (.getfield 228, 3) := dk_180 0 228 (dk_at dksX1_desk_3 15 rfl rfl)
theorem dX1_desk_86 : decode cX1_desk 86 = .ok (.getfield 296, 3) := dk_180 1 40 (dk_at dksX1_desk_3 18 rfl rfl)
theorem dX1_desk_89 : decode cX1_desk 89 = .ok (.aload_n 0, 1) := dk_42 (dk_at dksX1_desk_3 21 rfl rfl)
theorem dX1_desk_90 : decode cX1_desk 90 = .ok (.getfield 228, 3) := dk_180 0 228 (dk_at dksX1_desk_4 0 rfl rfl)
theorem dX1_desk_93 : decode cX1_desk 93 = .ok (.getfield 299, 3) := dk_180 1 43 (dk_at dksX1_desk_4 3 rfl rfl)
theorem dX1_desk_96 : decode cX1_desk 96 = .ok (.iconst 0, 1) := dk_3 (dk_at dksX1_desk_4 6 rfl rfl)
theorem dX1_desk_97 : decode cX1_desk 97 = .ok (.iaload, 1) := dk_46 (dk_at dksX1_desk_4 7 rfl rfl)
theorem dX1_desk_98 : decode cX1_desk 98 = .ok (.aload_n 0, 1) := dk_42 (dk_at dksX1_desk_4 8 rfl rfl)
theorem dX1_desk_99 : decode cX1_desk 99 = .ok (.getfield 228, 3) := dk_180 0 228 (dk_at dksX1_desk_4 9 rfl rfl)
theorem dX1_desk_102 : decode cX1_desk 102 = .ok (.getfield 299, 3) := dk_180 1 43 (dk_at dksX1_desk_4 12 rfl rfl)
theorem dX1_desk_105 : decode cX1_desk 105 = .ok (.iconst 1, 1) := dk_4 (dk_at dksX1_desk_4 15 rfl rfl)
theorem dX1_desk_106 : decode cX1_desk 106 = .ok (.iaload, 1) := dk_46 (dk_at dksX1_desk_4 16 rfl rfl)
theorem dX1_desk_107 : decode cX1_desk 107 = .ok (.invokevirtual 302, 3) := dk_182 1 46 (dk_at dksX1_desk_4 17 rfl rfl)
theorem dX1_desk_110 : decode cX1_desk 110 = .ok (.iconst 0, 1) := dk_3 (dk_at dksX1_desk_4 20 rfl rfl)
theorem dX1_desk_111 : decode cX1_desk 111 = .ok (.istore_n 2, 1) := dk_61 (dk_at dksX1_desk_4 21 rfl rfl)
theorem dX1_desk_112 : decode cX1_desk 112 = .ok (.iload_n 2, 1) := dk_28 (dk_at dksX1_desk_4 22 rfl rfl)
theorem dX1_desk_113 : decode cX1_desk 113 = .ok (.bipush 8, 2) := dk_16 8 (dk_at dksX1_desk_5 0 rfl rfl)
theorem dX1_desk_115 : decode cX1_desk 115 = .ok (.if_icmp .ge 44, 3) := dk_162 0 44 (dk_at dksX1_desk_5 2 rfl rfl)
theorem dX1_desk_118 : decode cX1_desk 118 = .ok (.aload_n 0, 1) := dk_42 (dk_at dksX1_desk_5 5 rfl rfl)
theorem dX1_desk_119 : decode cX1_desk 119 = .ok (.getfield 232, 3) := dk_180 0 232 (dk_at dksX1_desk_5 6 rfl rfl)
theorem dX1_desk_122 : decode cX1_desk 122 = .ok (.iload_n 2, 1) := dk_28 (dk_at dksX1_desk_5 9 rfl rfl)
theorem dX1_desk_123 : decode cX1_desk 123 = .ok (.iload_n 2, 1) := dk_28 (dk_at dksX1_desk_5 10 rfl rfl)
theorem dX1_desk_124 : decode cX1_desk 124 = .ok (.aload_n 0, 1) := dk_42 (dk_at dksX1_desk_5 11 rfl rfl)
theorem dX1_desk_125 : decode cX1_desk 125 = .ok (.getfield 228, 3) := dk_180 0 228 (dk_at dksX1_desk_5 12 rfl rfl)
theorem dX1_desk_128 : decode cX1_desk 128 = .ok (.getfield 306, 3) := dk_180 1 50 (dk_at dksX1_desk_5 15 rfl rfl)
theorem dX1_desk_131 : decode cX1_desk 131 = .ok (.if_icmp .ge 14, 3) := dk_162 0 14 (dk_at dksX1_desk_5 18 rfl rfl)
theorem dX1_desk_134 : decode cX1_desk 134 = .ok (.aload_n 0, 1) := dk_42 (dk_at dksX1_desk_5 21 rfl rfl)
theorem dX1_desk_135 : decode cX1_desk 135 = .ok (.getfield 228, 3) := dk_180 0 228 (dk_at dksX1_desk_6 0 rfl rfl)
theorem dX1_desk_138 : decode cX1_desk 138 = .ok (.iload_n 2, 1) := dk_28 (dk_at dksX1_desk_6 3 rfl rfl)
theorem dX1_desk_139 : decode cX1_desk 139 = .ok (.invokevirtual 309, 3) := dk_182 1 53 (dk_at dksX1_desk_6 4 rfl rfl)
theorem dX1_desk_142 : decode cX1_desk 142 = .ok (.goto 10, 3) := dk_167 0 10 (dk_at dksX1_desk_6 7 rfl rfl)
theorem dX1_desk_145 : decode cX1_desk 145 = .ok (.new 47, 3) := dk_187 0 47 (dk_at dksX1_desk_6 10 rfl rfl)
theorem dX1_desk_148 : decode cX1_desk 148 = .ok (.dup, 1) := dk_89 (dk_at dksX1_desk_6 13 rfl rfl)
theorem dX1_desk_149 : decode cX1_desk 149 = .ok (.invokespecial 117, 3) := dk_183 0 117 (dk_at dksX1_desk_6 14 rfl rfl)
theorem dX1_desk_152 : decode cX1_desk 152 = .ok (.aastore, 1) := dk_83 (dk_at dksX1_desk_6 17 rfl rfl)
theorem dX1_desk_153 : decode cX1_desk 153 = .ok (.iinc 2 1, 3) := dk_132 2 1 (dk_at dksX1_desk_6 18 rfl rfl)
theorem dX1_desk_156 : decode cX1_desk 156 = .ok (.goto (-44), 3) := dk_167 255 212 (dk_at dksX1_desk_6 21 rfl rfl)
theorem dX1_desk_159 : decode cX1_desk 159 = .ok (.aload_n 0, 1) := dk_42 (dk_at dksX1_desk_7 0 rfl rfl)
theorem dX1_desk_160 : decode cX1_desk 160 = .ok (.iconst 1, 1) := dk_4 (dk_at dksX1_desk_7 1 rfl rfl)
theorem dX1_desk_161 : decode cX1_desk 161 = .ok (.putfield 256, 3) := dk_181 1 0 (dk_at dksX1_desk_7 2 rfl rfl)
theorem dX1_desk_164 : decode cX1_desk 164 = .ok (.aload_n 0, 1) := dk_42 (dk_at dksX1_desk_7 5 rfl rfl)
theorem dX1_desk_165 : decode cX1_desk 165 = .ok (.iconst 0, 1) := dk_3 (dk_at dksX1_desk_7 6 rfl rfl)
theorem dX1_desk_166 : decode cX1_desk 166 = .ok (.putfield 312, 3) := dk_181 1 56 (dk_at dksX1_desk_7 7 rfl rfl)
theorem dX1_desk_169 : decode cX1_desk 169 = .ok (.aload_n 0, 1) := dk_42 (dk_at dksX1_desk_7 10 rfl rfl)
theorem dX1_desk_170 : decode cX1_desk 170 = .ok (.getfield 228, 3) := dk_180 0 228 (dk_at dksX1_desk_7 11 rfl rfl)
theorem dX1_desk_173 : decode cX1_desk 173 = .ok (.getfield 306, 3) := dk_180 1 50 (dk_at dksX1_desk_7 14 rfl rfl)
theorem dX1_desk_176 : decode cX1_desk 176 = .ok (.ireturn, 1) := dk_172 (dk_at dksX1_desk_7 17 rfl rfl)
abbrev cX1_anew : ByteArray := prog_1_method_33_code
def yX1_anew : MethodName := ⟨RX1, "anew", "()V"⟩
def dkwX1_anew_0 : List UInt8 := [42, 3, 181, 0, 250, 42, 2, 181, 0, 244, 177]
abbrev dktX1_anew_0 : List UInt8 := dkwX1_anew_0 ++ []
theorem dksX1_anew_0 : cX1_anew.data.toList.drop 0 = dktX1_anew_0 := by decide +kernel
theorem dX1_anew_0 : decode cX1_anew 0 = .ok (.aload_n 0, 1) := dk_42 (dk_at dksX1_anew_0 0 rfl rfl)
theorem dX1_anew_1 : decode cX1_anew 1 = .ok (.iconst 0, 1) := dk_3 (dk_at dksX1_anew_0 1 rfl rfl)
theorem dX1_anew_2 : decode cX1_anew 2 = .ok (.putfield 250, 3) := dk_181 0 250 (dk_at dksX1_anew_0 2 rfl rfl)
theorem dX1_anew_5 : decode cX1_anew 5 = .ok (.aload_n 0, 1) := dk_42 (dk_at dksX1_anew_0 5 rfl rfl)
theorem dX1_anew_6 : decode cX1_anew 6 = .ok (.iconst (-1), 1) := dk_2 (dk_at dksX1_anew_0 6 rfl rfl)
theorem dX1_anew_7 : decode cX1_anew 7 = .ok (.putfield 244, 3) := dk_181 0 244 (dk_at dksX1_anew_0 7 rfl rfl)
theorem dX1_anew_10 : decode cX1_anew 10 = .ok (.return_, 1) := dk_177 (dk_at dksX1_anew_0 10 rfl rfl)
abbrev cX1_in : ByteArray := prog_1_method_1_code
def yX1_in : MethodName := ⟨RX1, "in", "(III)Z"⟩
def dkwX1_in_0 : List UInt8 := [26, 27, 161, 0, 12, 26, 28, 163, 0, 7, 4, 167, 0, 4, 3, 172]
abbrev dktX1_in_0 : List UInt8 := dkwX1_in_0 ++ []
theorem dksX1_in_0 : cX1_in.data.toList.drop 0 = dktX1_in_0 := by decide +kernel
theorem dX1_in_0 : decode cX1_in 0 = .ok (.iload_n 0, 1) := dk_26 (dk_at dksX1_in_0 0 rfl rfl)
theorem dX1_in_1 : decode cX1_in 1 = .ok (.iload_n 1, 1) := dk_27 (dk_at dksX1_in_0 1 rfl rfl)
theorem dX1_in_2 : decode cX1_in 2 = .ok (.if_icmp .lt 12, 3) := dk_161 0 12 (dk_at dksX1_in_0 2 rfl rfl)
theorem dX1_in_5 : decode cX1_in 5 = .ok (.iload_n 0, 1) := dk_26 (dk_at dksX1_in_0 5 rfl rfl)
theorem dX1_in_6 : decode cX1_in 6 = .ok (.iload_n 2, 1) := dk_28 (dk_at dksX1_in_0 6 rfl rfl)
theorem dX1_in_7 : decode cX1_in 7 = .ok (.if_icmp .gt 7, 3) := dk_163 0 7 (dk_at dksX1_in_0 7 rfl rfl)
theorem dX1_in_10 : decode cX1_in 10 = .ok (.iconst 1, 1) := dk_4 (dk_at dksX1_in_0 10 rfl rfl)
theorem dX1_in_11 : decode cX1_in 11 = .ok (.goto 4, 3) := dk_167 0 4 (dk_at dksX1_in_0 11 rfl rfl)
theorem dX1_in_14 : decode cX1_in 14 = .ok (.iconst 0, 1) := dk_3 (dk_at dksX1_in_0 14 rfl rfl)
theorem dX1_in_15 : decode cX1_in 15 = .ok (.ireturn, 1) := dk_172 (dk_at dksX1_in_0 15 rfl rfl)
abbrev cX1_no : ByteArray := prog_1_method_34_code
def yX1_no : MethodName := ⟨RX1, "no", "(I)I"⟩
def dkwX1_no_0 : List UInt8 := [42, 27, 181, 0, 250, 2, 172]
abbrev dktX1_no_0 : List UInt8 := dkwX1_no_0 ++ []
theorem dksX1_no_0 : cX1_no.data.toList.drop 0 = dktX1_no_0 := by decide +kernel
theorem dX1_no_0 : decode cX1_no 0 = .ok (.aload_n 0, 1) := dk_42 (dk_at dksX1_no_0 0 rfl rfl)
theorem dX1_no_1 : decode cX1_no 1 = .ok (.iload_n 1, 1) := dk_27 (dk_at dksX1_no_0 1 rfl rfl)
theorem dX1_no_2 : decode cX1_no 2 = .ok (.putfield 250, 3) := dk_181 0 250 (dk_at dksX1_no_0 2 rfl rfl)
theorem dX1_no_5 : decode cX1_no 5 = .ok (.iconst (-1), 1) := dk_2 (dk_at dksX1_no_0 5 rfl rfl)
theorem dX1_no_6 : decode cX1_no 6 = .ok (.ireturn, 1) := dk_172 (dk_at dksX1_no_0 6 rfl rfl)
abbrev cX1_layInverses : ByteArray := prog_1_method_11_code
def yX1_layInverses : MethodName := ⟨RX1, "layInverses", "()V"⟩
def dkwX1_layInverses_2 : List UInt8 := [167, 255, 210, 177]
abbrev dktX1_layInverses_2 : List UInt8 := dkwX1_layInverses_2 ++ []
def dkwX1_layInverses_1 : List UInt8 := [180, 0, 23, 112, 4, 160, 0, 10, 42, 180, 0, 43, 27, 28, 79, 132, 2, 1, 167, 255, 226, 132, 1, 1]
abbrev dktX1_layInverses_1 : List UInt8 := dkwX1_layInverses_1 ++ dktX1_layInverses_2
def dkwX1_layInverses_0 : List UInt8 := [4, 60, 27, 42, 180, 0, 23, 162, 0, 44, 4, 61, 28, 42, 180, 0, 23, 162, 0, 28, 27, 28, 104, 42]
abbrev dktX1_layInverses_0 : List UInt8 := dkwX1_layInverses_0 ++ dktX1_layInverses_1
theorem dksX1_layInverses_0 : cX1_layInverses.data.toList.drop 0 = dktX1_layInverses_0 := by decide +kernel
theorem dksX1_layInverses_1 : cX1_layInverses.data.toList.drop 24 = dktX1_layInverses_1 := dk_seg dksX1_layInverses_0 24 rfl rfl
theorem dksX1_layInverses_2 : cX1_layInverses.data.toList.drop 48 = dktX1_layInverses_2 := dk_seg dksX1_layInverses_1 24 rfl rfl
theorem dX1_layInverses_0 : decode cX1_layInverses 0 = .ok (.iconst 1, 1) := dk_4 (dk_at dksX1_layInverses_0 0 rfl rfl)
theorem dX1_layInverses_1 : decode cX1_layInverses 1 = .ok (.istore_n 1, 1) := dk_60 (dk_at dksX1_layInverses_0 1 rfl rfl)
theorem dX1_layInverses_2 : decode cX1_layInverses 2 = .ok (.iload_n 1, 1) := dk_27 (dk_at dksX1_layInverses_0 2 rfl rfl)
theorem dX1_layInverses_3 : decode cX1_layInverses 3 = .ok (.aload_n 0, 1) := dk_42 (dk_at dksX1_layInverses_0 3 rfl rfl)
theorem dX1_layInverses_4 : decode cX1_layInverses 4 = .ok (.getfield 23, 3) := dk_180 0 23 (dk_at dksX1_layInverses_0 4 rfl rfl)
theorem dX1_layInverses_7 : decode cX1_layInverses 7 = .ok (.if_icmp .ge 44, 3) := dk_162 0 44 (dk_at dksX1_layInverses_0 7 rfl rfl)
theorem dX1_layInverses_10 : decode cX1_layInverses 10 = .ok (.iconst 1, 1) := dk_4 (dk_at dksX1_layInverses_0 10 rfl rfl)
theorem dX1_layInverses_11 : decode cX1_layInverses 11 = .ok (.istore_n 2, 1) := dk_61 (dk_at dksX1_layInverses_0 11 rfl rfl)
theorem dX1_layInverses_12 : decode cX1_layInverses 12 = .ok (.iload_n 2, 1) := dk_28 (dk_at dksX1_layInverses_0 12 rfl rfl)
theorem dX1_layInverses_13 : decode cX1_layInverses 13 = .ok (.aload_n 0, 1) := dk_42 (dk_at dksX1_layInverses_0 13 rfl rfl)
theorem dX1_layInverses_14 : decode cX1_layInverses 14 = .ok (.getfield 23, 3) := dk_180 0 23 (dk_at dksX1_layInverses_0 14 rfl rfl)
theorem dX1_layInverses_17 : decode cX1_layInverses 17 = .ok (.if_icmp .ge 28, 3) := dk_162 0 28 (dk_at dksX1_layInverses_0 17 rfl rfl)
theorem dX1_layInverses_20 : decode cX1_layInverses 20 = .ok (.iload_n 1, 1) := dk_27 (dk_at dksX1_layInverses_0 20 rfl rfl)
theorem dX1_layInverses_21 : decode cX1_layInverses 21 = .ok (.iload_n 2, 1) := dk_28 (dk_at dksX1_layInverses_0 21 rfl rfl)
theorem dX1_layInverses_22 : decode cX1_layInverses 22 = .ok (.imul, 1) := dk_104 (dk_at dksX1_layInverses_0 22 rfl rfl)
theorem dX1_layInverses_23 : decode cX1_layInverses 23 = .ok (.aload_n 0, 1) := dk_42 (dk_at dksX1_layInverses_0 23 rfl rfl)
theorem dX1_layInverses_24 : decode cX1_layInverses 24 = .ok (.getfield 23, 3) := dk_180 0 23 (dk_at dksX1_layInverses_1 0 rfl rfl)
theorem dX1_layInverses_27 : decode cX1_layInverses 27 = .ok (.irem, 1) := dk_112 (dk_at dksX1_layInverses_1 3 rfl rfl)
theorem dX1_layInverses_28 : decode cX1_layInverses 28 = .ok (.iconst 1, 1) := dk_4 (dk_at dksX1_layInverses_1 4 rfl rfl)
theorem dX1_layInverses_29 : decode cX1_layInverses 29 = .ok (.if_icmp .ne 10, 3) := dk_160 0 10 (dk_at dksX1_layInverses_1 5 rfl rfl)
theorem dX1_layInverses_32 : decode cX1_layInverses 32 = .ok (.aload_n 0, 1) := dk_42 (dk_at dksX1_layInverses_1 8 rfl rfl)
theorem dX1_layInverses_33 : decode cX1_layInverses 33 = .ok (.getfield 43, 3) := dk_180 0 43 (dk_at dksX1_layInverses_1 9 rfl rfl)
theorem dX1_layInverses_36 : decode cX1_layInverses 36 = .ok (.iload_n 1, 1) := dk_27 (dk_at dksX1_layInverses_1 12 rfl rfl)
theorem dX1_layInverses_37 : decode cX1_layInverses 37 = .ok (.iload_n 2, 1) := dk_28 (dk_at dksX1_layInverses_1 13 rfl rfl)
theorem dX1_layInverses_38 : decode cX1_layInverses 38 = .ok (.iastore, 1) := dk_79 (dk_at dksX1_layInverses_1 14 rfl rfl)
theorem dX1_layInverses_39 : decode cX1_layInverses 39 = .ok (.iinc 2 1, 3) := dk_132 2 1 (dk_at dksX1_layInverses_1 15 rfl rfl)
theorem dX1_layInverses_42 : decode cX1_layInverses 42 = .ok (.goto (-30), 3) := dk_167 255 226 (dk_at dksX1_layInverses_1 18 rfl rfl)
theorem dX1_layInverses_45 : decode cX1_layInverses 45 = .ok (.iinc 1 1, 3) := dk_132 1 1 (dk_at dksX1_layInverses_1 21 rfl rfl)
theorem dX1_layInverses_48 : decode cX1_layInverses 48 = .ok (.goto (-46), 3) := dk_167 255 210 (dk_at dksX1_layInverses_2 0 rfl rfl)
theorem dX1_layInverses_51 : decode cX1_layInverses 51 = .ok (.return_, 1) := dk_177 (dk_at dksX1_layInverses_2 3 rfl rfl)
abbrev cX1_becomes : ByteArray := prog_1_method_10_code
def yX1_becomes : MethodName := ⟨RX1, "becomes", "(III)V"⟩
def dkwX1_becomes_1 : List UInt8 := [42, 180, 0, 33, 184, 0, 36, 181, 0, 39, 177]
abbrev dktX1_becomes_1 : List UInt8 := dkwX1_becomes_1 ++ []
def dkwX1_becomes_0 : List UInt8 := [42, 27, 181, 0, 27, 42, 28, 181, 0, 30, 42, 29, 181, 0, 33, 42, 42, 180, 0, 27, 42, 180, 0, 30]
abbrev dktX1_becomes_0 : List UInt8 := dkwX1_becomes_0 ++ dktX1_becomes_1
theorem dksX1_becomes_0 : cX1_becomes.data.toList.drop 0 = dktX1_becomes_0 := by decide +kernel
theorem dksX1_becomes_1 : cX1_becomes.data.toList.drop 24 = dktX1_becomes_1 := dk_seg dksX1_becomes_0 24 rfl rfl
theorem dX1_becomes_0 : decode cX1_becomes 0 = .ok (.aload_n 0, 1) := dk_42 (dk_at dksX1_becomes_0 0 rfl rfl)
theorem dX1_becomes_1 : decode cX1_becomes 1 = .ok (.iload_n 1, 1) := dk_27 (dk_at dksX1_becomes_0 1 rfl rfl)
theorem dX1_becomes_2 : decode cX1_becomes 2 = .ok (.putfield 27, 3) := dk_181 0 27 (dk_at dksX1_becomes_0 2 rfl rfl)
theorem dX1_becomes_5 : decode cX1_becomes 5 = .ok (.aload_n 0, 1) := dk_42 (dk_at dksX1_becomes_0 5 rfl rfl)
theorem dX1_becomes_6 : decode cX1_becomes 6 = .ok (.iload_n 2, 1) := dk_28 (dk_at dksX1_becomes_0 6 rfl rfl)
theorem dX1_becomes_7 : decode cX1_becomes 7 = .ok (.putfield 30, 3) := dk_181 0 30 (dk_at dksX1_becomes_0 7 rfl rfl)
theorem dX1_becomes_10 : decode cX1_becomes 10 = .ok (.aload_n 0, 1) := dk_42 (dk_at dksX1_becomes_0 10 rfl rfl)
theorem dX1_becomes_11 : decode cX1_becomes 11 = .ok (.iload_n 3, 1) := dk_29 (dk_at dksX1_becomes_0 11 rfl rfl)
theorem dX1_becomes_12 : decode cX1_becomes 12 = .ok (.putfield 33, 3) := dk_181 0 33 (dk_at dksX1_becomes_0 12 rfl rfl)
theorem dX1_becomes_15 : decode cX1_becomes 15 = .ok (.aload_n 0, 1) := dk_42 (dk_at dksX1_becomes_0 15 rfl rfl)
theorem dX1_becomes_16 : decode cX1_becomes 16 = .ok (.aload_n 0, 1) := dk_42 (dk_at dksX1_becomes_0 16 rfl rfl)
theorem dX1_becomes_17 : decode cX1_becomes 17 = .ok (.getfield 27, 3) := dk_180 0 27 (dk_at dksX1_becomes_0 17 rfl rfl)
theorem dX1_becomes_20 : decode cX1_becomes 20 = .ok (.aload_n 0, 1) := dk_42 (dk_at dksX1_becomes_0 20 rfl rfl)
theorem dX1_becomes_21 : decode cX1_becomes 21 = .ok (.getfield 30, 3) := dk_180 0 30 (dk_at dksX1_becomes_0 21 rfl rfl)
theorem dX1_becomes_24 : decode cX1_becomes 24 = .ok (.aload_n 0, 1) := dk_42 (dk_at dksX1_becomes_1 0 rfl rfl)
theorem dX1_becomes_25 : decode cX1_becomes 25 = .ok (.getfield 33, 3) := dk_180 0 33 (dk_at dksX1_becomes_1 1 rfl rfl)
theorem dX1_becomes_28 : decode cX1_becomes 28 = .ok (.invokestatic 36, 3) := dk_184 0 36 (dk_at dksX1_becomes_1 4 rfl rfl)
theorem dX1_becomes_31 : decode cX1_becomes 31 = .ok (.putfield 39, 3) := dk_181 0 39 (dk_at dksX1_becomes_1 7 rfl rfl)
theorem dX1_becomes_34 : decode cX1_becomes 34 = .ok (.return_, 1) := dk_177 (dk_at dksX1_becomes_1 10 rfl rfl)
abbrev cX1_orderOf : ByteArray := prog_1_method_7_code
def yX1_orderOf : MethodName := ⟨RX1, "orderOf", "(III)LTermDesk$Order;"⟩
def dkwX1_orderOf_1 : List UInt8 := [27, 28, 29, 186, 0, 11, 0, 0, 176, 29, 28, 27, 186, 0, 12, 0, 0, 176]
abbrev dktX1_orderOf_1 : List UInt8 := dkwX1_orderOf_1 ++ []
def dkwX1_orderOf_0 : List UInt8 := [6, 27, 100, 28, 100, 62, 26, 154, 0, 12, 27, 28, 29, 186, 0, 7, 0, 0, 176, 26, 4, 160, 0, 12]
abbrev dktX1_orderOf_0 : List UInt8 := dkwX1_orderOf_0 ++ dktX1_orderOf_1
theorem dksX1_orderOf_0 : cX1_orderOf.data.toList.drop 0 = dktX1_orderOf_0 := by decide +kernel
theorem dksX1_orderOf_1 : cX1_orderOf.data.toList.drop 24 = dktX1_orderOf_1 := dk_seg dksX1_orderOf_0 24 rfl rfl
theorem dX1_orderOf_0 : decode cX1_orderOf 0 = .ok (.iconst 3, 1) := dk_6 (dk_at dksX1_orderOf_0 0 rfl rfl)
theorem dX1_orderOf_1 : decode cX1_orderOf 1 = .ok (.iload_n 1, 1) := dk_27 (dk_at dksX1_orderOf_0 1 rfl rfl)
theorem dX1_orderOf_2 : decode cX1_orderOf 2 = .ok (.isub, 1) := dk_100 (dk_at dksX1_orderOf_0 2 rfl rfl)
theorem dX1_orderOf_3 : decode cX1_orderOf 3 = .ok (.iload_n 2, 1) := dk_28 (dk_at dksX1_orderOf_0 3 rfl rfl)
theorem dX1_orderOf_4 : decode cX1_orderOf 4 = .ok (.isub, 1) := dk_100 (dk_at dksX1_orderOf_0 4 rfl rfl)
theorem dX1_orderOf_5 : decode cX1_orderOf 5 = .ok (.istore_n 3, 1) := dk_62 (dk_at dksX1_orderOf_0 5 rfl rfl)
theorem dX1_orderOf_6 : decode cX1_orderOf 6 = .ok (.iload_n 0, 1) := dk_26 (dk_at dksX1_orderOf_0 6 rfl rfl)
theorem dX1_orderOf_7 : decode cX1_orderOf 7 = .ok (.ifCond .ne 12, 3) := dk_154 0 12 (dk_at dksX1_orderOf_0 7 rfl rfl)
theorem dX1_orderOf_10 : decode cX1_orderOf 10 = .ok (.iload_n 1, 1) := dk_27 (dk_at dksX1_orderOf_0 10 rfl rfl)
theorem dX1_orderOf_11 : decode cX1_orderOf 11 = .ok (.iload_n 2, 1) := dk_28 (dk_at dksX1_orderOf_0 11 rfl rfl)
theorem dX1_orderOf_12 : decode cX1_orderOf 12 = .ok (.iload_n 3, 1) := dk_29 (dk_at dksX1_orderOf_0 12 rfl rfl)
theorem dX1_orderOf_13 : decode cX1_orderOf 13 = .ok (.invokedynamic 7, 5) := by decide +kernel
theorem dX1_orderOf_18 : decode cX1_orderOf 18 = .ok (.areturn, 1) := dk_176 (dk_at dksX1_orderOf_0 18 rfl rfl)
theorem dX1_orderOf_19 : decode cX1_orderOf 19 = .ok (.iload_n 0, 1) := dk_26 (dk_at dksX1_orderOf_0 19 rfl rfl)
theorem dX1_orderOf_20 : decode cX1_orderOf 20 = .ok (.iconst 1, 1) := dk_4 (dk_at dksX1_orderOf_0 20 rfl rfl)
theorem dX1_orderOf_21 : decode cX1_orderOf 21 = .ok (.if_icmp .ne 12, 3) := dk_160 0 12 (dk_at dksX1_orderOf_0 21 rfl rfl)
theorem dX1_orderOf_24 : decode cX1_orderOf 24 = .ok (.iload_n 1, 1) := dk_27 (dk_at dksX1_orderOf_1 0 rfl rfl)
theorem dX1_orderOf_25 : decode cX1_orderOf 25 = .ok (.iload_n 2, 1) := dk_28 (dk_at dksX1_orderOf_1 1 rfl rfl)
theorem dX1_orderOf_26 : decode cX1_orderOf 26 = .ok (.iload_n 3, 1) := dk_29 (dk_at dksX1_orderOf_1 2 rfl rfl)
theorem dX1_orderOf_27 : decode cX1_orderOf 27 = .ok (.invokedynamic 11, 5) := by decide +kernel
theorem dX1_orderOf_32 : decode cX1_orderOf 32 = .ok (.areturn, 1) := dk_176 (dk_at dksX1_orderOf_1 8 rfl rfl)
theorem dX1_orderOf_33 : decode cX1_orderOf 33 = .ok (.iload_n 3, 1) := dk_29 (dk_at dksX1_orderOf_1 9 rfl rfl)
theorem dX1_orderOf_34 : decode cX1_orderOf 34 = .ok (.iload_n 2, 1) := dk_28 (dk_at dksX1_orderOf_1 10 rfl rfl)
theorem dX1_orderOf_35 : decode cX1_orderOf 35 = .ok (.iload_n 1, 1) := dk_27 (dk_at dksX1_orderOf_1 11 rfl rfl)
theorem dX1_orderOf_36 : decode cX1_orderOf 36 = .ok (.invokedynamic 12, 5) := by decide +kernel
theorem dX1_orderOf_41 : decode cX1_orderOf 41 = .ok (.areturn, 1) := dk_176 (dk_at dksX1_orderOf_1 17 rfl rfl)
abbrev cX1_lambda_orderOf_0 : ByteArray := prog_1_method_96_code
def yX1_lambda_orderOf_0 : MethodName := ⟨RX1, "lambda$orderOf$0", "(IIII)I"⟩
def dkwX1_lambda_orderOf_0_0 : List UInt8 := [29, 26, 27, 28, 184, 1, 177, 172]
abbrev dktX1_lambda_orderOf_0_0 : List UInt8 := dkwX1_lambda_orderOf_0_0 ++ []
theorem dksX1_lambda_orderOf_0_0 : cX1_lambda_orderOf_0.data.toList.drop 0 = dktX1_lambda_orderOf_0_0 := by decide +kernel
theorem dX1_lambda_orderOf_0_0 : decode cX1_lambda_orderOf_0 0 = .ok (.iload_n 3, 1) := dk_29 (dk_at dksX1_lambda_orderOf_0_0 0 rfl rfl)
theorem dX1_lambda_orderOf_0_1 : decode cX1_lambda_orderOf_0 1 = .ok (.iload_n 0, 1) := dk_26 (dk_at dksX1_lambda_orderOf_0_0 1 rfl rfl)
theorem dX1_lambda_orderOf_0_2 : decode cX1_lambda_orderOf_0 2 = .ok (.iload_n 1, 1) := dk_27 (dk_at dksX1_lambda_orderOf_0_0 2 rfl rfl)
theorem dX1_lambda_orderOf_0_3 : decode cX1_lambda_orderOf_0 3 = .ok (.iload_n 2, 1) := dk_28 (dk_at dksX1_lambda_orderOf_0_0 3 rfl rfl)
theorem dX1_lambda_orderOf_0_4 : decode cX1_lambda_orderOf_0 4 = .ok (.invokestatic 433, 3) := dk_184 1 177 (dk_at dksX1_lambda_orderOf_0_0 4 rfl rfl)
theorem dX1_lambda_orderOf_0_7 : decode cX1_lambda_orderOf_0 7 = .ok (.ireturn, 1) := dk_172 (dk_at dksX1_lambda_orderOf_0_0 7 rfl rfl)
abbrev cX1_lexKey : ByteArray := prog_1_method_6_code
def yX1_lexKey : MethodName := ⟨RX1, "lexKey", "(IIII)I"⟩
def dkwX1_lexKey_1 : List UInt8 := [172]
abbrev dktX1_lexKey_1 : List UInt8 := dkwX1_lexKey_1 ++ []
def dkwX1_lexKey_0 : List UInt8 := [17, 1, 0, 26, 27, 184, 0, 3, 104, 16, 16, 26, 28, 184, 0, 3, 104, 96, 26, 29, 184, 0, 3, 96]
abbrev dktX1_lexKey_0 : List UInt8 := dkwX1_lexKey_0 ++ dktX1_lexKey_1
theorem dksX1_lexKey_0 : cX1_lexKey.data.toList.drop 0 = dktX1_lexKey_0 := by decide +kernel
theorem dksX1_lexKey_1 : cX1_lexKey.data.toList.drop 24 = dktX1_lexKey_1 := dk_seg dksX1_lexKey_0 24 rfl rfl
theorem dX1_lexKey_0 : decode cX1_lexKey 0 = .ok (.sipush 256, 3) := dk_17 1 0 (dk_at dksX1_lexKey_0 0 rfl rfl)
theorem dX1_lexKey_3 : decode cX1_lexKey 3 = .ok (.iload_n 0, 1) := dk_26 (dk_at dksX1_lexKey_0 3 rfl rfl)
theorem dX1_lexKey_4 : decode cX1_lexKey 4 = .ok (.iload_n 1, 1) := dk_27 (dk_at dksX1_lexKey_0 4 rfl rfl)
theorem dX1_lexKey_5 : decode cX1_lexKey 5 = .ok (.invokestatic 3, 3) := dk_184 0 3 (dk_at dksX1_lexKey_0 5 rfl rfl)
theorem dX1_lexKey_8 : decode cX1_lexKey 8 = .ok (.imul, 1) := dk_104 (dk_at dksX1_lexKey_0 8 rfl rfl)
theorem dX1_lexKey_9 : decode cX1_lexKey 9 = .ok (.bipush 16, 2) := dk_16 16 (dk_at dksX1_lexKey_0 9 rfl rfl)
theorem dX1_lexKey_11 : decode cX1_lexKey 11 = .ok (.iload_n 0, 1) := dk_26 (dk_at dksX1_lexKey_0 11 rfl rfl)
theorem dX1_lexKey_12 : decode cX1_lexKey 12 = .ok (.iload_n 2, 1) := dk_28 (dk_at dksX1_lexKey_0 12 rfl rfl)
theorem dX1_lexKey_13 : decode cX1_lexKey 13 = .ok (.invokestatic 3, 3) := dk_184 0 3 (dk_at dksX1_lexKey_0 13 rfl rfl)
theorem dX1_lexKey_16 : decode cX1_lexKey 16 = .ok (.imul, 1) := dk_104 (dk_at dksX1_lexKey_0 16 rfl rfl)
theorem dX1_lexKey_17 : decode cX1_lexKey 17 = .ok (.iadd, 1) := dk_96 (dk_at dksX1_lexKey_0 17 rfl rfl)
theorem dX1_lexKey_18 : decode cX1_lexKey 18 = .ok (.iload_n 0, 1) := dk_26 (dk_at dksX1_lexKey_0 18 rfl rfl)
theorem dX1_lexKey_19 : decode cX1_lexKey 19 = .ok (.iload_n 3, 1) := dk_29 (dk_at dksX1_lexKey_0 19 rfl rfl)
theorem dX1_lexKey_20 : decode cX1_lexKey 20 = .ok (.invokestatic 3, 3) := dk_184 0 3 (dk_at dksX1_lexKey_0 20 rfl rfl)
theorem dX1_lexKey_23 : decode cX1_lexKey 23 = .ok (.iadd, 1) := dk_96 (dk_at dksX1_lexKey_0 23 rfl rfl)
theorem dX1_lexKey_24 : decode cX1_lexKey 24 = .ok (.ireturn, 1) := dk_172 (dk_at dksX1_lexKey_1 0 rfl rfl)
abbrev cX1_exponent : ByteArray := prog_1_method_3_code
def yX1_exponent : MethodName := ⟨RX1, "exponent", "(II)I"⟩
def dkwX1_exponent_0 : List UInt8 := [26, 7, 27, 104, 122, 16, 15, 126, 172]
abbrev dktX1_exponent_0 : List UInt8 := dkwX1_exponent_0 ++ []
theorem dksX1_exponent_0 : cX1_exponent.data.toList.drop 0 = dktX1_exponent_0 := by decide +kernel
theorem dX1_exponent_0 : decode cX1_exponent 0 = .ok (.iload_n 0, 1) := dk_26 (dk_at dksX1_exponent_0 0 rfl rfl)
theorem dX1_exponent_1 : decode cX1_exponent 1 = .ok (.iconst 4, 1) := dk_7 (dk_at dksX1_exponent_0 1 rfl rfl)
theorem dX1_exponent_2 : decode cX1_exponent 2 = .ok (.iload_n 1, 1) := dk_27 (dk_at dksX1_exponent_0 2 rfl rfl)
theorem dX1_exponent_3 : decode cX1_exponent 3 = .ok (.imul, 1) := dk_104 (dk_at dksX1_exponent_0 3 rfl rfl)
theorem dX1_exponent_4 : decode cX1_exponent 4 = .ok (.ishr, 1) := dk_122 (dk_at dksX1_exponent_0 4 rfl rfl)
theorem dX1_exponent_5 : decode cX1_exponent 5 = .ok (.bipush 15, 2) := dk_16 15 (dk_at dksX1_exponent_0 5 rfl rfl)
theorem dX1_exponent_7 : decode cX1_exponent 7 = .ok (.iand, 1) := dk_126 (dk_at dksX1_exponent_0 7 rfl rfl)
theorem dX1_exponent_8 : decode cX1_exponent 8 = .ok (.ireturn, 1) := dk_172 (dk_at dksX1_exponent_0 8 rfl rfl)
abbrev cX1_lambda_orderOf_1 : ByteArray := prog_1_method_95_code
def yX1_lambda_orderOf_1 : MethodName := ⟨RX1, "lambda$orderOf$1", "(IIII)I"⟩
def dkwX1_lambda_orderOf_1_0 : List UInt8 := [17, 16, 0, 29, 184, 1, 73, 104, 29, 26, 27, 28, 184, 1, 177, 96, 172]
abbrev dktX1_lambda_orderOf_1_0 : List UInt8 := dkwX1_lambda_orderOf_1_0 ++ []
theorem dksX1_lambda_orderOf_1_0 : cX1_lambda_orderOf_1.data.toList.drop 0 = dktX1_lambda_orderOf_1_0 := by decide +kernel
theorem dX1_lambda_orderOf_1_0 : decode cX1_lambda_orderOf_1 0 = .ok (.sipush 4096, 3) := dk_17 16 0 (dk_at dksX1_lambda_orderOf_1_0 0 rfl rfl)
theorem dX1_lambda_orderOf_1_3 : decode cX1_lambda_orderOf_1 3 = .ok (.iload_n 3, 1) := dk_29 (dk_at dksX1_lambda_orderOf_1_0 3 rfl rfl)
theorem dX1_lambda_orderOf_1_4 : decode cX1_lambda_orderOf_1 4 = .ok (.invokestatic 329, 3) := dk_184 1 73 (dk_at dksX1_lambda_orderOf_1_0 4 rfl rfl)
theorem dX1_lambda_orderOf_1_7 : decode cX1_lambda_orderOf_1 7 = .ok (.imul, 1) := dk_104 (dk_at dksX1_lambda_orderOf_1_0 7 rfl rfl)
theorem dX1_lambda_orderOf_1_8 : decode cX1_lambda_orderOf_1 8 = .ok (.iload_n 3, 1) := dk_29 (dk_at dksX1_lambda_orderOf_1_0 8 rfl rfl)
theorem dX1_lambda_orderOf_1_9 : decode cX1_lambda_orderOf_1 9 = .ok (.iload_n 0, 1) := dk_26 (dk_at dksX1_lambda_orderOf_1_0 9 rfl rfl)
theorem dX1_lambda_orderOf_1_10 : decode cX1_lambda_orderOf_1 10 = .ok (.iload_n 1, 1) := dk_27 (dk_at dksX1_lambda_orderOf_1_0 10 rfl rfl)
theorem dX1_lambda_orderOf_1_11 : decode cX1_lambda_orderOf_1 11 = .ok (.iload_n 2, 1) := dk_28 (dk_at dksX1_lambda_orderOf_1_0 11 rfl rfl)
theorem dX1_lambda_orderOf_1_12 : decode cX1_lambda_orderOf_1 12 = .ok (.invokestatic 433, 3) := dk_184 1 177 (dk_at dksX1_lambda_orderOf_1_0 12 rfl rfl)
theorem dX1_lambda_orderOf_1_15 : decode cX1_lambda_orderOf_1 15 = .ok (.iadd, 1) := dk_96 (dk_at dksX1_lambda_orderOf_1_0 15 rfl rfl)
theorem dX1_lambda_orderOf_1_16 : decode cX1_lambda_orderOf_1 16 = .ok (.ireturn, 1) := dk_172 (dk_at dksX1_lambda_orderOf_1_0 16 rfl rfl)
abbrev cX1_sum : ByteArray := prog_1_method_4_code
def yX1_sum : MethodName := ⟨RX1, "sum", "(I)I"⟩
def dkwX1_sum_0 : List UInt8 := [26, 3, 184, 0, 3, 26, 4, 184, 0, 3, 96, 26, 5, 184, 0, 3, 96, 172]
abbrev dktX1_sum_0 : List UInt8 := dkwX1_sum_0 ++ []
theorem dksX1_sum_0 : cX1_sum.data.toList.drop 0 = dktX1_sum_0 := by decide +kernel
theorem dX1_sum_0 : decode cX1_sum 0 = .ok (.iload_n 0, 1) := dk_26 (dk_at dksX1_sum_0 0 rfl rfl)
theorem dX1_sum_1 : decode cX1_sum 1 = .ok (.iconst 0, 1) := dk_3 (dk_at dksX1_sum_0 1 rfl rfl)
theorem dX1_sum_2 : decode cX1_sum 2 = .ok (.invokestatic 3, 3) := dk_184 0 3 (dk_at dksX1_sum_0 2 rfl rfl)
theorem dX1_sum_5 : decode cX1_sum 5 = .ok (.iload_n 0, 1) := dk_26 (dk_at dksX1_sum_0 5 rfl rfl)
theorem dX1_sum_6 : decode cX1_sum 6 = .ok (.iconst 1, 1) := dk_4 (dk_at dksX1_sum_0 6 rfl rfl)
theorem dX1_sum_7 : decode cX1_sum 7 = .ok (.invokestatic 3, 3) := dk_184 0 3 (dk_at dksX1_sum_0 7 rfl rfl)
theorem dX1_sum_10 : decode cX1_sum 10 = .ok (.iadd, 1) := dk_96 (dk_at dksX1_sum_0 10 rfl rfl)
theorem dX1_sum_11 : decode cX1_sum 11 = .ok (.iload_n 0, 1) := dk_26 (dk_at dksX1_sum_0 11 rfl rfl)
theorem dX1_sum_12 : decode cX1_sum 12 = .ok (.iconst 2, 1) := dk_5 (dk_at dksX1_sum_0 12 rfl rfl)
theorem dX1_sum_13 : decode cX1_sum 13 = .ok (.invokestatic 3, 3) := dk_184 0 3 (dk_at dksX1_sum_0 13 rfl rfl)
theorem dX1_sum_16 : decode cX1_sum 16 = .ok (.iadd, 1) := dk_96 (dk_at dksX1_sum_0 16 rfl rfl)
theorem dX1_sum_17 : decode cX1_sum 17 = .ok (.ireturn, 1) := dk_172 (dk_at dksX1_sum_0 17 rfl rfl)
abbrev cX1_lambda_orderOf_2 : ByteArray := prog_1_method_94_code
def yX1_lambda_orderOf_2 : MethodName := ⟨RX1, "lambda$orderOf$2", "(IIII)I"⟩
def dkwX1_lambda_orderOf_2_0 : List UInt8 := [17, 16, 0, 29, 184, 1, 73, 104, 17, 15, 255, 96, 29, 26, 27, 28, 184, 1, 177, 100, 172]
abbrev dktX1_lambda_orderOf_2_0 : List UInt8 := dkwX1_lambda_orderOf_2_0 ++ []
theorem dksX1_lambda_orderOf_2_0 : cX1_lambda_orderOf_2.data.toList.drop 0 = dktX1_lambda_orderOf_2_0 := by decide +kernel
theorem dX1_lambda_orderOf_2_0 : decode cX1_lambda_orderOf_2 0 = .ok (.sipush 4096, 3) := dk_17 16 0 (dk_at dksX1_lambda_orderOf_2_0 0 rfl rfl)
theorem dX1_lambda_orderOf_2_3 : decode cX1_lambda_orderOf_2 3 = .ok (.iload_n 3, 1) := dk_29 (dk_at dksX1_lambda_orderOf_2_0 3 rfl rfl)
theorem dX1_lambda_orderOf_2_4 : decode cX1_lambda_orderOf_2 4 = .ok (.invokestatic 329, 3) := dk_184 1 73 (dk_at dksX1_lambda_orderOf_2_0 4 rfl rfl)
theorem dX1_lambda_orderOf_2_7 : decode cX1_lambda_orderOf_2 7 = .ok (.imul, 1) := dk_104 (dk_at dksX1_lambda_orderOf_2_0 7 rfl rfl)
theorem dX1_lambda_orderOf_2_8 : decode cX1_lambda_orderOf_2 8 = .ok (.sipush 4095, 3) := dk_17 15 255 (dk_at dksX1_lambda_orderOf_2_0 8 rfl rfl)
theorem dX1_lambda_orderOf_2_11 : decode cX1_lambda_orderOf_2 11 = .ok (.iadd, 1) := dk_96 (dk_at dksX1_lambda_orderOf_2_0 11 rfl rfl)
theorem dX1_lambda_orderOf_2_12 : decode cX1_lambda_orderOf_2 12 = .ok (.iload_n 3, 1) := dk_29 (dk_at dksX1_lambda_orderOf_2_0 12 rfl rfl)
theorem dX1_lambda_orderOf_2_13 : decode cX1_lambda_orderOf_2 13 = .ok (.iload_n 0, 1) := dk_26 (dk_at dksX1_lambda_orderOf_2_0 13 rfl rfl)
theorem dX1_lambda_orderOf_2_14 : decode cX1_lambda_orderOf_2 14 = .ok (.iload_n 1, 1) := dk_27 (dk_at dksX1_lambda_orderOf_2_0 14 rfl rfl)
theorem dX1_lambda_orderOf_2_15 : decode cX1_lambda_orderOf_2 15 = .ok (.iload_n 2, 1) := dk_28 (dk_at dksX1_lambda_orderOf_2_0 15 rfl rfl)
theorem dX1_lambda_orderOf_2_16 : decode cX1_lambda_orderOf_2 16 = .ok (.invokestatic 433, 3) := dk_184 1 177 (dk_at dksX1_lambda_orderOf_2_0 16 rfl rfl)
theorem dX1_lambda_orderOf_2_19 : decode cX1_lambda_orderOf_2 19 = .ok (.isub, 1) := dk_100 (dk_at dksX1_lambda_orderOf_2_0 19 rfl rfl)
theorem dX1_lambda_orderOf_2_20 : decode cX1_lambda_orderOf_2 20 = .ok (.ireturn, 1) := dk_172 (dk_at dksX1_lambda_orderOf_2_0 20 rfl rfl)
abbrev cX1_blank : ByteArray := prog_1_method_8_code
def yX1_blank : MethodName := ⟨RX1, "blank", "()[I"⟩
def dkwX1_blank_0 : List UInt8 := [42, 180, 0, 13, 3, 184, 0, 17, 42, 180, 0, 13, 176]
abbrev dktX1_blank_0 : List UInt8 := dkwX1_blank_0 ++ []
theorem dksX1_blank_0 : cX1_blank.data.toList.drop 0 = dktX1_blank_0 := by decide +kernel
theorem dX1_blank_0 : decode cX1_blank 0 = .ok (.aload_n 0, 1) := dk_42 (dk_at dksX1_blank_0 0 rfl rfl)
theorem dX1_blank_1 : decode cX1_blank 1 = .ok (.getfield 13, 3) := dk_180 0 13 (dk_at dksX1_blank_0 1 rfl rfl)
theorem dX1_blank_4 : decode cX1_blank 4 = .ok (.iconst 0, 1) := dk_3 (dk_at dksX1_blank_0 4 rfl rfl)
theorem dX1_blank_5 : decode cX1_blank 5 = .ok (.invokestatic 17, 3) := dk_184 0 17 (dk_at dksX1_blank_0 5 rfl rfl)
theorem dX1_blank_8 : decode cX1_blank 8 = .ok (.aload_n 0, 1) := dk_42 (dk_at dksX1_blank_0 8 rfl rfl)
theorem dX1_blank_9 : decode cX1_blank 9 = .ok (.getfield 13, 3) := dk_180 0 13 (dk_at dksX1_blank_0 9 rfl rfl)
theorem dX1_blank_12 : decode cX1_blank 12 = .ok (.areturn, 1) := dk_176 (dk_at dksX1_blank_0 12 rfl rfl)
abbrev cX1_reduced : ByteArray := prog_1_method_9_code
def yX1_reduced : MethodName := ⟨RX1, "reduced", "(I)I"⟩
def dkwX1_reduced_0 : List UInt8 := [27, 42, 180, 0, 23, 112, 42, 180, 0, 23, 96, 42, 180, 0, 23, 112, 172]
abbrev dktX1_reduced_0 : List UInt8 := dkwX1_reduced_0 ++ []
theorem dksX1_reduced_0 : cX1_reduced.data.toList.drop 0 = dktX1_reduced_0 := by decide +kernel
theorem dX1_reduced_0 : decode cX1_reduced 0 = .ok (.iload_n 1, 1) := dk_27 (dk_at dksX1_reduced_0 0 rfl rfl)
theorem dX1_reduced_1 : decode cX1_reduced 1 = .ok (.aload_n 0, 1) := dk_42 (dk_at dksX1_reduced_0 1 rfl rfl)
theorem dX1_reduced_2 : decode cX1_reduced 2 = .ok (.getfield 23, 3) := dk_180 0 23 (dk_at dksX1_reduced_0 2 rfl rfl)
theorem dX1_reduced_5 : decode cX1_reduced 5 = .ok (.irem, 1) := dk_112 (dk_at dksX1_reduced_0 5 rfl rfl)
theorem dX1_reduced_6 : decode cX1_reduced 6 = .ok (.aload_n 0, 1) := dk_42 (dk_at dksX1_reduced_0 6 rfl rfl)
theorem dX1_reduced_7 : decode cX1_reduced 7 = .ok (.getfield 23, 3) := dk_180 0 23 (dk_at dksX1_reduced_0 7 rfl rfl)
theorem dX1_reduced_10 : decode cX1_reduced 10 = .ok (.iadd, 1) := dk_96 (dk_at dksX1_reduced_0 10 rfl rfl)
theorem dX1_reduced_11 : decode cX1_reduced 11 = .ok (.aload_n 0, 1) := dk_42 (dk_at dksX1_reduced_0 11 rfl rfl)
theorem dX1_reduced_12 : decode cX1_reduced 12 = .ok (.getfield 23, 3) := dk_180 0 23 (dk_at dksX1_reduced_0 12 rfl rfl)
theorem dX1_reduced_15 : decode cX1_reduced 15 = .ok (.irem, 1) := dk_112 (dk_at dksX1_reduced_0 15 rfl rfl)
theorem dX1_reduced_16 : decode cX1_reduced 16 = .ok (.ireturn, 1) := dk_172 (dk_at dksX1_reduced_0 16 rfl rfl)
abbrev cX1_sorted : ByteArray := prog_1_method_16_code
def yX1_sorted : MethodName := ⟨RX1, "sorted", "([I)LTermDesk$Poly;"⟩
def dkwX1_sorted_7 : List UInt8 := [132, 6, 1, 167, 255, 236, 187, 0, 47, 89, 28, 45, 25, 4, 183, 0, 110, 176]
abbrev dktX1_sorted_7 : List UInt8 := dkwX1_sorted_7 ++ []
def dkwX1_sorted_6 : List UInt8 := [167, 255, 173, 3, 54, 6, 21, 6, 28, 162, 0, 20, 25, 4, 21, 6, 43, 45, 21, 6, 46, 46, 79]
abbrev dktX1_sorted_6 : List UInt8 := dkwX1_sorted_6 ++ dktX1_sorted_7
def dkwX1_sorted_5 : List UInt8 := [21, 7, 4, 100, 46, 79, 132, 7, 255, 167, 255, 209, 45, 21, 7, 21, 6, 79, 132, 5, 1, 132, 6, 1]
abbrev dktX1_sorted_5 : List UInt8 := dkwX1_sorted_5 ++ dktX1_sorted_6
def dkwX1_sorted_4 : List UInt8 := [185, 0, 65, 2, 0, 42, 180, 0, 39, 21, 6, 185, 0, 65, 2, 0, 162, 0, 19, 45, 21, 7, 45]
abbrev dktX1_sorted_4 : List UInt8 := dkwX1_sorted_4 ++ dktX1_sorted_5
def dkwX1_sorted_3 : List UInt8 := [167, 0, 66, 21, 5, 54, 7, 21, 7, 158, 0, 48, 42, 180, 0, 39, 45, 21, 7, 4, 100, 46]
abbrev dktX1_sorted_3 : List UInt8 := dkwX1_sorted_3 ++ dktX1_sorted_4
def dkwX1_sorted_2 : List UInt8 := [188, 10, 58, 4, 3, 54, 5, 3, 54, 6, 21, 6, 43, 190, 162, 0, 82, 43, 21, 6, 46, 154, 0, 6]
abbrev dktX1_sorted_2 : List UInt8 := dkwX1_sorted_2 ++ dktX1_sorted_3
def dkwX1_sorted_1 : List UInt8 := [28, 21, 6, 154, 0, 7, 3, 167, 0, 4, 4, 96, 61, 132, 5, 1, 167, 255, 227, 28, 188, 10, 78, 28]
abbrev dktX1_sorted_1 : List UInt8 := dkwX1_sorted_1 ++ dktX1_sorted_2
def dkwX1_sorted_0 : List UInt8 := [3, 61, 43, 78, 45, 190, 54, 4, 3, 54, 5, 21, 5, 21, 4, 162, 0, 28, 45, 21, 5, 46, 54, 6]
abbrev dktX1_sorted_0 : List UInt8 := dkwX1_sorted_0 ++ dktX1_sorted_1
theorem dksX1_sorted_0 : cX1_sorted.data.toList.drop 0 = dktX1_sorted_0 := by decide +kernel
theorem dksX1_sorted_1 : cX1_sorted.data.toList.drop 24 = dktX1_sorted_1 := dk_seg dksX1_sorted_0 24 rfl rfl
theorem dksX1_sorted_2 : cX1_sorted.data.toList.drop 48 = dktX1_sorted_2 := dk_seg dksX1_sorted_1 24 rfl rfl
theorem dksX1_sorted_3 : cX1_sorted.data.toList.drop 72 = dktX1_sorted_3 := dk_seg dksX1_sorted_2 24 rfl rfl
theorem dksX1_sorted_4 : cX1_sorted.data.toList.drop 94 = dktX1_sorted_4 := dk_seg dksX1_sorted_3 22 rfl rfl
theorem dksX1_sorted_5 : cX1_sorted.data.toList.drop 117 = dktX1_sorted_5 := dk_seg dksX1_sorted_4 23 rfl rfl
theorem dksX1_sorted_6 : cX1_sorted.data.toList.drop 141 = dktX1_sorted_6 := dk_seg dksX1_sorted_5 24 rfl rfl
theorem dksX1_sorted_7 : cX1_sorted.data.toList.drop 164 = dktX1_sorted_7 := dk_seg dksX1_sorted_6 23 rfl rfl
theorem dX1_sorted_0 : decode cX1_sorted 0 = .ok (.iconst 0, 1) := dk_3 (dk_at dksX1_sorted_0 0 rfl rfl)
theorem dX1_sorted_1 : decode cX1_sorted 1 = .ok (.istore_n 2, 1) := dk_61 (dk_at dksX1_sorted_0 1 rfl rfl)
theorem dX1_sorted_2 : decode cX1_sorted 2 = .ok (.aload_n 1, 1) := dk_43 (dk_at dksX1_sorted_0 2 rfl rfl)
theorem dX1_sorted_3 : decode cX1_sorted 3 = .ok (.astore_n 3, 1) := dk_78 (dk_at dksX1_sorted_0 3 rfl rfl)
theorem dX1_sorted_4 : decode cX1_sorted 4 = .ok (.aload_n 3, 1) := dk_45 (dk_at dksX1_sorted_0 4 rfl rfl)
theorem dX1_sorted_5 : decode cX1_sorted 5 = .ok (.arraylength, 1) := dk_190 (dk_at dksX1_sorted_0 5 rfl rfl)
theorem dX1_sorted_6 : decode cX1_sorted 6 = .ok (.istore 4, 2) := dk_54 4 (dk_at dksX1_sorted_0 6 rfl rfl)
theorem dX1_sorted_8 : decode cX1_sorted 8 = .ok (.iconst 0, 1) := dk_3 (dk_at dksX1_sorted_0 8 rfl rfl)
theorem dX1_sorted_9 : decode cX1_sorted 9 = .ok (.istore 5, 2) := dk_54 5 (dk_at dksX1_sorted_0 9 rfl rfl)
theorem dX1_sorted_11 : decode cX1_sorted 11 = .ok (.iload 5, 2) := dk_21 5 (dk_at dksX1_sorted_0 11 rfl rfl)
theorem dX1_sorted_13 : decode cX1_sorted 13 = .ok (.iload 4, 2) := dk_21 4 (dk_at dksX1_sorted_0 13 rfl rfl)
theorem dX1_sorted_15 : decode cX1_sorted 15 = .ok (.if_icmp .ge 28, 3) := dk_162 0 28 (dk_at dksX1_sorted_0 15 rfl rfl)
theorem dX1_sorted_18 : decode cX1_sorted 18 = .ok (.aload_n 3, 1) := dk_45 (dk_at dksX1_sorted_0 18 rfl rfl)
theorem dX1_sorted_19 : decode cX1_sorted 19 = .ok (.iload 5, 2) := dk_21 5 (dk_at dksX1_sorted_0 19 rfl rfl)
theorem dX1_sorted_21 : decode cX1_sorted 21 = .ok (.iaload, 1) := dk_46 (dk_at dksX1_sorted_0 21 rfl rfl)
theorem dX1_sorted_22 : decode cX1_sorted 22 = .ok (.istore 6, 2) := dk_54 6 (dk_at dksX1_sorted_0 22 rfl rfl)
theorem dX1_sorted_24 : decode cX1_sorted 24 = .ok (.iload_n 2, 1) := dk_28 (dk_at dksX1_sorted_1 0 rfl rfl)
theorem dX1_sorted_25 : decode cX1_sorted 25 = .ok (.iload 6, 2) := dk_21 6 (dk_at dksX1_sorted_1 1 rfl rfl)
theorem dX1_sorted_27 : decode cX1_sorted 27 = .ok (.ifCond .ne 7, 3) := dk_154 0 7 (dk_at dksX1_sorted_1 3 rfl rfl)
theorem dX1_sorted_30 : decode cX1_sorted 30 = .ok (.iconst 0, 1) := dk_3 (dk_at dksX1_sorted_1 6 rfl rfl)
theorem dX1_sorted_31 : decode cX1_sorted 31 = .ok (.goto 4, 3) := dk_167 0 4 (dk_at dksX1_sorted_1 7 rfl rfl)
theorem dX1_sorted_34 : decode cX1_sorted 34 = .ok (.iconst 1, 1) := dk_4 (dk_at dksX1_sorted_1 10 rfl rfl)
theorem dX1_sorted_35 : decode cX1_sorted 35 = .ok (.iadd, 1) := dk_96 (dk_at dksX1_sorted_1 11 rfl rfl)
theorem dX1_sorted_36 : decode cX1_sorted 36 = .ok (.istore_n 2, 1) := dk_61 (dk_at dksX1_sorted_1 12 rfl rfl)
theorem dX1_sorted_37 : decode cX1_sorted 37 = .ok (.iinc 5 1, 3) := dk_132 5 1 (dk_at dksX1_sorted_1 13 rfl rfl)
theorem dX1_sorted_40 : decode cX1_sorted 40 = .ok (.goto (-29), 3) := dk_167 255 227 (dk_at dksX1_sorted_1 16 rfl rfl)
theorem dX1_sorted_43 : decode cX1_sorted 43 = .ok (.iload_n 2, 1) := dk_28 (dk_at dksX1_sorted_1 19 rfl rfl)
theorem dX1_sorted_44 : decode cX1_sorted 44 = .ok (.newarray .int, 2) := dk_188_10 (dk_at dksX1_sorted_1 20 rfl rfl)
theorem dX1_sorted_46 : decode cX1_sorted 46 = .ok (.astore_n 3, 1) := dk_78 (dk_at dksX1_sorted_1 22 rfl rfl)
theorem dX1_sorted_47 : decode cX1_sorted 47 = .ok (.iload_n 2, 1) := dk_28 (dk_at dksX1_sorted_1 23 rfl rfl)
theorem dX1_sorted_48 : decode cX1_sorted 48 = .ok (.newarray .int, 2) := dk_188_10 (dk_at dksX1_sorted_2 0 rfl rfl)
theorem dX1_sorted_50 : decode cX1_sorted 50 = .ok (.astore 4, 2) := dk_58 4 (dk_at dksX1_sorted_2 2 rfl rfl)
theorem dX1_sorted_52 : decode cX1_sorted 52 = .ok (.iconst 0, 1) := dk_3 (dk_at dksX1_sorted_2 4 rfl rfl)
theorem dX1_sorted_53 : decode cX1_sorted 53 = .ok (.istore 5, 2) := dk_54 5 (dk_at dksX1_sorted_2 5 rfl rfl)
theorem dX1_sorted_55 : decode cX1_sorted 55 = .ok (.iconst 0, 1) := dk_3 (dk_at dksX1_sorted_2 7 rfl rfl)
theorem dX1_sorted_56 : decode cX1_sorted 56 = .ok (.istore 6, 2) := dk_54 6 (dk_at dksX1_sorted_2 8 rfl rfl)
theorem dX1_sorted_58 : decode cX1_sorted 58 = .ok (.iload 6, 2) := dk_21 6 (dk_at dksX1_sorted_2 10 rfl rfl)
theorem dX1_sorted_60 : decode cX1_sorted 60 = .ok (.aload_n 1, 1) := dk_43 (dk_at dksX1_sorted_2 12 rfl rfl)
theorem dX1_sorted_61 : decode cX1_sorted 61 = .ok (.arraylength, 1) := dk_190 (dk_at dksX1_sorted_2 13 rfl rfl)
theorem dX1_sorted_62 : decode cX1_sorted 62 = .ok (.if_icmp .ge 82, 3) := dk_162 0 82 (dk_at dksX1_sorted_2 14 rfl rfl)
theorem dX1_sorted_65 : decode cX1_sorted 65 = .ok (.aload_n 1, 1) := dk_43 (dk_at dksX1_sorted_2 17 rfl rfl)
theorem dX1_sorted_66 : decode cX1_sorted 66 = .ok (.iload 6, 2) := dk_21 6 (dk_at dksX1_sorted_2 18 rfl rfl)
theorem dX1_sorted_68 : decode cX1_sorted 68 = .ok (.iaload, 1) := dk_46 (dk_at dksX1_sorted_2 20 rfl rfl)
theorem dX1_sorted_69 : decode cX1_sorted 69 = .ok (.ifCond .ne 6, 3) := dk_154 0 6 (dk_at dksX1_sorted_2 21 rfl rfl)
theorem dX1_sorted_72 : decode cX1_sorted 72 = .ok (.goto 66, 3) := dk_167 0 66 (dk_at dksX1_sorted_3 0 rfl rfl)
theorem dX1_sorted_75 : decode cX1_sorted 75 = .ok (.iload 5, 2) := dk_21 5 (dk_at dksX1_sorted_3 3 rfl rfl)
theorem dX1_sorted_77 : decode cX1_sorted 77 = .ok (.istore 7, 2) := dk_54 7 (dk_at dksX1_sorted_3 5 rfl rfl)
theorem dX1_sorted_79 : decode cX1_sorted 79 = .ok (.iload 7, 2) := dk_21 7 (dk_at dksX1_sorted_3 7 rfl rfl)
theorem dX1_sorted_81 : decode cX1_sorted 81 = .ok (.ifCond .le 48, 3) := dk_158 0 48 (dk_at dksX1_sorted_3 9 rfl rfl)
theorem dX1_sorted_84 : decode cX1_sorted 84 = .ok (.aload_n 0, 1) := dk_42 (dk_at dksX1_sorted_3 12 rfl rfl)
theorem dX1_sorted_85 : decode cX1_sorted 85 = .ok (.getfield 39, 3) := dk_180 0 39 (dk_at dksX1_sorted_3 13 rfl rfl)
theorem dX1_sorted_88 : decode cX1_sorted 88 = .ok (.aload_n 3, 1) := dk_45 (dk_at dksX1_sorted_3 16 rfl rfl)
theorem dX1_sorted_89 : decode cX1_sorted 89 = .ok (.iload 7, 2) := dk_21 7 (dk_at dksX1_sorted_3 17 rfl rfl)
theorem dX1_sorted_91 : decode cX1_sorted 91 = .ok (.iconst 1, 1) := dk_4 (dk_at dksX1_sorted_3 19 rfl rfl)
theorem dX1_sorted_92 : decode cX1_sorted 92 = .ok (.isub, 1) := dk_100 (dk_at dksX1_sorted_3 20 rfl rfl)
theorem dX1_sorted_93 : decode cX1_sorted 93 = .ok (.iaload, 1) := dk_46 (dk_at dksX1_sorted_3 21 rfl rfl)
theorem dX1_sorted_94 : decode cX1_sorted 94 = .ok (.invokeinterface 65 2, 5) := by decide +kernel
theorem dX1_sorted_99 : decode cX1_sorted 99 = .ok (.aload_n 0, 1) := dk_42 (dk_at dksX1_sorted_4 5 rfl rfl)
theorem dX1_sorted_100 : decode cX1_sorted 100 = .ok (.getfield 39, 3) := dk_180 0 39 (dk_at dksX1_sorted_4 6 rfl rfl)
theorem dX1_sorted_103 : decode cX1_sorted 103 = .ok (.iload 6, 2) := dk_21 6 (dk_at dksX1_sorted_4 9 rfl rfl)
theorem dX1_sorted_105 : decode cX1_sorted 105 = .ok (.invokeinterface 65 2, 5) := by decide +kernel
theorem dX1_sorted_110 : decode cX1_sorted 110 = .ok (.if_icmp .ge 19, 3) := dk_162 0 19 (dk_at dksX1_sorted_4 16 rfl rfl)
theorem dX1_sorted_113 : decode cX1_sorted 113 = .ok (.aload_n 3, 1) := dk_45 (dk_at dksX1_sorted_4 19 rfl rfl)
theorem dX1_sorted_114 : decode cX1_sorted 114 = .ok (.iload 7, 2) := dk_21 7 (dk_at dksX1_sorted_4 20 rfl rfl)
theorem dX1_sorted_116 : decode cX1_sorted 116 = .ok (.aload_n 3, 1) := dk_45 (dk_at dksX1_sorted_4 22 rfl rfl)
theorem dX1_sorted_117 : decode cX1_sorted 117 = .ok (.iload 7, 2) := dk_21 7 (dk_at dksX1_sorted_5 0 rfl rfl)
theorem dX1_sorted_119 : decode cX1_sorted 119 = .ok (.iconst 1, 1) := dk_4 (dk_at dksX1_sorted_5 2 rfl rfl)
theorem dX1_sorted_120 : decode cX1_sorted 120 = .ok (.isub, 1) := dk_100 (dk_at dksX1_sorted_5 3 rfl rfl)
theorem dX1_sorted_121 : decode cX1_sorted 121 = .ok (.iaload, 1) := dk_46 (dk_at dksX1_sorted_5 4 rfl rfl)
theorem dX1_sorted_122 : decode cX1_sorted 122 = .ok (.iastore, 1) := dk_79 (dk_at dksX1_sorted_5 5 rfl rfl)
theorem dX1_sorted_123 : decode cX1_sorted 123 = .ok (.iinc 7 (-1), 3) := dk_132 7 255 (dk_at dksX1_sorted_5 6 rfl rfl)
theorem dX1_sorted_126 : decode cX1_sorted 126 = .ok (.goto (-47), 3) := dk_167 255 209 (dk_at dksX1_sorted_5 9 rfl rfl)
theorem dX1_sorted_129 : decode cX1_sorted 129 = .ok (.aload_n 3, 1) := dk_45 (dk_at dksX1_sorted_5 12 rfl rfl)
theorem dX1_sorted_130 : decode cX1_sorted 130 = .ok (.iload 7, 2) := dk_21 7 (dk_at dksX1_sorted_5 13 rfl rfl)
theorem dX1_sorted_132 : decode cX1_sorted 132 = .ok (.iload 6, 2) := dk_21 6 (dk_at dksX1_sorted_5 15 rfl rfl)
theorem dX1_sorted_134 : decode cX1_sorted 134 = .ok (.iastore, 1) := dk_79 (dk_at dksX1_sorted_5 17 rfl rfl)
theorem dX1_sorted_135 : decode cX1_sorted 135 = .ok (.iinc 5 1, 3) := dk_132 5 1 (dk_at dksX1_sorted_5 18 rfl rfl)
theorem dX1_sorted_138 : decode cX1_sorted 138 = .ok (.iinc 6 1, 3) := dk_132 6 1 (dk_at dksX1_sorted_5 21 rfl rfl)
theorem dX1_sorted_141 : decode cX1_sorted 141 = .ok (.goto (-83), 3) := dk_167 255 173 (dk_at dksX1_sorted_6 0 rfl rfl)
theorem dX1_sorted_144 : decode cX1_sorted 144 = .ok (.iconst 0, 1) := dk_3 (dk_at dksX1_sorted_6 3 rfl rfl)
theorem dX1_sorted_145 : decode cX1_sorted 145 = .ok (.istore 6, 2) := dk_54 6 (dk_at dksX1_sorted_6 4 rfl rfl)
theorem dX1_sorted_147 : decode cX1_sorted 147 = .ok (.iload 6, 2) := dk_21 6 (dk_at dksX1_sorted_6 6 rfl rfl)
theorem dX1_sorted_149 : decode cX1_sorted 149 = .ok (.iload_n 2, 1) := dk_28 (dk_at dksX1_sorted_6 8 rfl rfl)
theorem dX1_sorted_150 : decode cX1_sorted 150 = .ok (.if_icmp .ge 20, 3) := dk_162 0 20 (dk_at dksX1_sorted_6 9 rfl rfl)
theorem dX1_sorted_153 : decode cX1_sorted 153 = .ok (.aload 4, 2) := dk_25 4 (dk_at dksX1_sorted_6 12 rfl rfl)
theorem dX1_sorted_155 : decode cX1_sorted 155 = .ok (.iload 6, 2) := dk_21 6 (dk_at dksX1_sorted_6 14 rfl rfl)
theorem dX1_sorted_157 : decode cX1_sorted 157 = .ok (.aload_n 1, 1) := dk_43 (dk_at dksX1_sorted_6 16 rfl rfl)
theorem dX1_sorted_158 : decode cX1_sorted 158 = .ok (.aload_n 3, 1) := dk_45 (dk_at dksX1_sorted_6 17 rfl rfl)
theorem dX1_sorted_159 : decode cX1_sorted 159 = .ok (.iload 6, 2) := dk_21 6 (dk_at dksX1_sorted_6 18 rfl rfl)
theorem dX1_sorted_161 : decode cX1_sorted 161 = .ok (.iaload, 1) := dk_46 (dk_at dksX1_sorted_6 20 rfl rfl)
theorem dX1_sorted_162 : decode cX1_sorted 162 = .ok (.iaload, 1) := dk_46 (dk_at dksX1_sorted_6 21 rfl rfl)
theorem dX1_sorted_163 : decode cX1_sorted 163 = .ok (.iastore, 1) := dk_79 (dk_at dksX1_sorted_6 22 rfl rfl)
theorem dX1_sorted_164 : decode cX1_sorted 164 = .ok (.iinc 6 1, 3) := dk_132 6 1 (dk_at dksX1_sorted_7 0 rfl rfl)
theorem dX1_sorted_167 : decode cX1_sorted 167 = .ok (.goto (-20), 3) := dk_167 255 236 (dk_at dksX1_sorted_7 3 rfl rfl)
theorem dX1_sorted_170 : decode cX1_sorted 170 = .ok (.new 47, 3) := dk_187 0 47 (dk_at dksX1_sorted_7 6 rfl rfl)
theorem dX1_sorted_173 : decode cX1_sorted 173 = .ok (.dup, 1) := dk_89 (dk_at dksX1_sorted_7 9 rfl rfl)
theorem dX1_sorted_174 : decode cX1_sorted 174 = .ok (.iload_n 2, 1) := dk_28 (dk_at dksX1_sorted_7 10 rfl rfl)
theorem dX1_sorted_175 : decode cX1_sorted 175 = .ok (.aload_n 3, 1) := dk_45 (dk_at dksX1_sorted_7 11 rfl rfl)
theorem dX1_sorted_176 : decode cX1_sorted 176 = .ok (.aload 4, 2) := dk_25 4 (dk_at dksX1_sorted_7 12 rfl rfl)
theorem dX1_sorted_178 : decode cX1_sorted 178 = .ok (.invokespecial 110, 3) := dk_183 0 110 (dk_at dksX1_sorted_7 14 rfl rfl)
theorem dX1_sorted_181 : decode cX1_sorted 181 = .ok (.areturn, 1) := dk_176 (dk_at dksX1_sorted_7 17 rfl rfl)
abbrev cX1_fault : ByteArray := prog_1_method_41_code
def yX1_fault : MethodName := ⟨RX1, "fault", "()I"⟩
theorem dX1_fault_0 : decode cX1_fault 0 = .ok (.aload_n 0, 1) := by decide +kernel
theorem dX1_fault_1 : decode cX1_fault 1 = .ok (.getfield 278, 3) := by decide +kernel
theorem dX1_fault_4 : decode cX1_fault 4 = .ok (.ireturn, 1) := by decide +kernel
abbrev cX1_where : ByteArray := prog_1_method_42_code
def yX1_where : MethodName := ⟨RX1, "where", "()I"⟩
def dkwX1_where_0 : List UInt8 := [42, 180, 0, 250, 7, 160, 0, 10, 42, 180, 0, 244, 167, 0, 4, 2, 172]
abbrev dktX1_where_0 : List UInt8 := dkwX1_where_0 ++ []
theorem dksX1_where_0 : cX1_where.data.toList.drop 0 = dktX1_where_0 := by decide +kernel
theorem dX1_where_0 : decode cX1_where 0 = .ok (.aload_n 0, 1) := dk_42 (dk_at dksX1_where_0 0 rfl rfl)
theorem dX1_where_1 : decode cX1_where 1 = .ok (.getfield 250, 3) := dk_180 0 250 (dk_at dksX1_where_0 1 rfl rfl)
theorem dX1_where_4 : decode cX1_where 4 = .ok (.iconst 4, 1) := dk_7 (dk_at dksX1_where_0 4 rfl rfl)
theorem dX1_where_5 : decode cX1_where 5 = .ok (.if_icmp .ne 10, 3) := dk_160 0 10 (dk_at dksX1_where_0 5 rfl rfl)
theorem dX1_where_8 : decode cX1_where 8 = .ok (.aload_n 0, 1) := dk_42 (dk_at dksX1_where_0 8 rfl rfl)
theorem dX1_where_9 : decode cX1_where 9 = .ok (.getfield 244, 3) := dk_180 0 244 (dk_at dksX1_where_0 9 rfl rfl)
theorem dX1_where_12 : decode cX1_where 12 = .ok (.goto 4, 3) := dk_167 0 4 (dk_at dksX1_where_0 12 rfl rfl)
theorem dX1_where_15 : decode cX1_where 15 = .ok (.iconst (-1), 1) := dk_2 (dk_at dksX1_where_0 15 rfl rfl)
theorem dX1_where_16 : decode cX1_where 16 = .ok (.ireturn, 1) := dk_172 (dk_at dksX1_where_0 16 rfl rfl)
abbrev cX1_about : ByteArray := prog_1_method_48_code
def yX1_about : MethodName := ⟨RX1, "about", "(I)I"⟩
def dkwX1_about_3 : List UInt8 := [180, 0, 30, 100, 42, 180, 0, 33, 100, 172, 42, 182, 1, 66, 172]
abbrev dktX1_about_3 : List UInt8 := dkwX1_about_3 ++ []
def dkwX1_about_2 : List UInt8 := [42, 180, 0, 23, 172, 42, 180, 0, 27, 172, 42, 180, 0, 30, 172, 42, 180, 0, 33, 172, 6, 42]
abbrev dktX1_about_2 : List UInt8 := dkwX1_about_2 ++ dktX1_about_3
def dkwX1_about_1 : List UInt8 := [170, 0, 0, 0, 0, 0, 0, 68, 0, 0, 0, 0, 0, 0, 0, 4, 0, 0, 0, 36, 0, 0, 0, 41, 0, 0, 0, 46, 0, 0, 0, 51, 0, 0, 0, 56]
abbrev dktX1_about_1 : List UInt8 := dkwX1_about_1 ++ dktX1_about_2
def dkwX1_about_0 : List UInt8 := [42, 42, 27, 3, 8, 184, 1, 15, 182, 1, 59, 182, 1, 62, 153, 0, 5, 2, 172, 27]
abbrev dktX1_about_0 : List UInt8 := dkwX1_about_0 ++ dktX1_about_1
theorem dksX1_about_0 : cX1_about.data.toList.drop 0 = dktX1_about_0 := by decide +kernel
theorem dksX1_about_1 : cX1_about.data.toList.drop 20 = dktX1_about_1 := dk_seg dksX1_about_0 20 rfl rfl
theorem dksX1_about_2 : cX1_about.data.toList.drop 56 = dktX1_about_2 := dk_seg dksX1_about_1 36 rfl rfl
theorem dksX1_about_3 : cX1_about.data.toList.drop 78 = dktX1_about_3 := dk_seg dksX1_about_2 22 rfl rfl
theorem dX1_about_0 : decode cX1_about 0 = .ok (.aload_n 0, 1) := dk_42 (dk_at dksX1_about_0 0 rfl rfl)
theorem dX1_about_1 : decode cX1_about 1 = .ok (.aload_n 0, 1) := dk_42 (dk_at dksX1_about_0 1 rfl rfl)
theorem dX1_about_2 : decode cX1_about 2 = .ok (.iload_n 1, 1) := dk_27 (dk_at dksX1_about_0 2 rfl rfl)
theorem dX1_about_3 : decode cX1_about 3 = .ok (.iconst 0, 1) := dk_3 (dk_at dksX1_about_0 3 rfl rfl)
theorem dX1_about_4 : decode cX1_about 4 = .ok (.iconst 5, 1) := dk_8 (dk_at dksX1_about_0 4 rfl rfl)
theorem dX1_about_5 : decode cX1_about 5 = .ok (.invokestatic 271, 3) := dk_184 1 15 (dk_at dksX1_about_0 5 rfl rfl)
theorem dX1_about_8 : decode cX1_about 8 = .ok (.invokevirtual 315, 3) := dk_182 1 59 (dk_at dksX1_about_0 8 rfl rfl)
theorem dX1_about_11 : decode cX1_about 11 = .ok (.invokevirtual 318, 3) := dk_182 1 62 (dk_at dksX1_about_0 11 rfl rfl)
theorem dX1_about_14 : decode cX1_about 14 = .ok (.ifCond .eq 5, 3) := dk_153 0 5 (dk_at dksX1_about_0 14 rfl rfl)
theorem dX1_about_17 : decode cX1_about 17 = .ok (.iconst (-1), 1) := dk_2 (dk_at dksX1_about_0 17 rfl rfl)
theorem dX1_about_18 : decode cX1_about 18 = .ok (.ireturn, 1) := dk_172 (dk_at dksX1_about_0 18 rfl rfl)
theorem dX1_about_19 : decode cX1_about 19 = .ok (.iload_n 1, 1) := dk_27 (dk_at dksX1_about_0 19 rfl rfl)
theorem dX1_about_20 : decode cX1_about 20 = .ok (.tableswitch 68 0 4 #[36, 41, 46, 51, 56], 36) := by decide +kernel
theorem dX1_about_56 : decode cX1_about 56 = .ok (.aload_n 0, 1) := dk_42 (dk_at dksX1_about_2 0 rfl rfl)
theorem dX1_about_57 : decode cX1_about 57 = .ok (.getfield 23, 3) := dk_180 0 23 (dk_at dksX1_about_2 1 rfl rfl)
theorem dX1_about_60 : decode cX1_about 60 = .ok (.ireturn, 1) := dk_172 (dk_at dksX1_about_2 4 rfl rfl)
theorem dX1_about_61 : decode cX1_about 61 = .ok (.aload_n 0, 1) := dk_42 (dk_at dksX1_about_2 5 rfl rfl)
theorem dX1_about_62 : decode cX1_about 62 = .ok (.getfield 27, 3) := dk_180 0 27 (dk_at dksX1_about_2 6 rfl rfl)
theorem dX1_about_65 : decode cX1_about 65 = .ok (.ireturn, 1) := dk_172 (dk_at dksX1_about_2 9 rfl rfl)
theorem dX1_about_66 : decode cX1_about 66 = .ok (.aload_n 0, 1) := dk_42 (dk_at dksX1_about_2 10 rfl rfl)
theorem dX1_about_67 : decode cX1_about 67 = .ok (.getfield 30, 3) := dk_180 0 30 (dk_at dksX1_about_2 11 rfl rfl)
theorem dX1_about_70 : decode cX1_about 70 = .ok (.ireturn, 1) := dk_172 (dk_at dksX1_about_2 14 rfl rfl)
theorem dX1_about_71 : decode cX1_about 71 = .ok (.aload_n 0, 1) := dk_42 (dk_at dksX1_about_2 15 rfl rfl)
theorem dX1_about_72 : decode cX1_about 72 = .ok (.getfield 33, 3) := dk_180 0 33 (dk_at dksX1_about_2 16 rfl rfl)
theorem dX1_about_75 : decode cX1_about 75 = .ok (.ireturn, 1) := dk_172 (dk_at dksX1_about_2 19 rfl rfl)
theorem dX1_about_76 : decode cX1_about 76 = .ok (.iconst 3, 1) := dk_6 (dk_at dksX1_about_2 20 rfl rfl)
theorem dX1_about_77 : decode cX1_about 77 = .ok (.aload_n 0, 1) := dk_42 (dk_at dksX1_about_2 21 rfl rfl)
theorem dX1_about_78 : decode cX1_about 78 = .ok (.getfield 30, 3) := dk_180 0 30 (dk_at dksX1_about_3 0 rfl rfl)
theorem dX1_about_81 : decode cX1_about 81 = .ok (.isub, 1) := dk_100 (dk_at dksX1_about_3 3 rfl rfl)
theorem dX1_about_82 : decode cX1_about 82 = .ok (.aload_n 0, 1) := dk_42 (dk_at dksX1_about_3 4 rfl rfl)
theorem dX1_about_83 : decode cX1_about 83 = .ok (.getfield 33, 3) := dk_180 0 33 (dk_at dksX1_about_3 5 rfl rfl)
theorem dX1_about_86 : decode cX1_about 86 = .ok (.isub, 1) := dk_100 (dk_at dksX1_about_3 8 rfl rfl)
theorem dX1_about_87 : decode cX1_about 87 = .ok (.ireturn, 1) := dk_172 (dk_at dksX1_about_3 9 rfl rfl)
theorem dX1_about_88 : decode cX1_about 88 = .ok (.aload_n 0, 1) := dk_42 (dk_at dksX1_about_3 10 rfl rfl)
theorem dX1_about_89 : decode cX1_about 89 = .ok (.invokevirtual 322, 3) := dk_182 1 66 (dk_at dksX1_about_3 11 rfl rfl)
theorem dX1_about_92 : decode cX1_about 92 = .ok (.ireturn, 1) := dk_172 (dk_at dksX1_about_3 14 rfl rfl)
abbrev cX1_why : ByteArray := prog_1_method_37_code
def yX1_why : MethodName := ⟨RX1, "why", "(Z)I"⟩
def dkwX1_why_0 : List UInt8 := [42, 27, 4, 182, 1, 4, 172]
abbrev dktX1_why_0 : List UInt8 := dkwX1_why_0 ++ []
theorem dksX1_why_0 : cX1_why.data.toList.drop 0 = dktX1_why_0 := by decide +kernel
theorem dX1_why_0 : decode cX1_why 0 = .ok (.aload_n 0, 1) := dk_42 (dk_at dksX1_why_0 0 rfl rfl)
theorem dX1_why_1 : decode cX1_why 1 = .ok (.iload_n 1, 1) := dk_27 (dk_at dksX1_why_0 1 rfl rfl)
theorem dX1_why_2 : decode cX1_why 2 = .ok (.iconst 1, 1) := dk_4 (dk_at dksX1_why_0 2 rfl rfl)
theorem dX1_why_3 : decode cX1_why 3 = .ok (.invokevirtual 260, 3) := dk_182 1 4 (dk_at dksX1_why_0 3 rfl rfl)
theorem dX1_why_6 : decode cX1_why 6 = .ok (.ireturn, 1) := dk_172 (dk_at dksX1_why_0 6 rfl rfl)
abbrev cX1_why_2 : ByteArray := prog_1_method_36_code
def yX1_why_2 : MethodName := ⟨RX1, "why", "(ZZ)I"⟩
def dkwX1_why_2_1 : List UInt8 := [172]
abbrev dktX1_why_2_1 : List UInt8 := dkwX1_why_2_1 ++ []
def dkwX1_why_2_0 : List UInt8 := [42, 180, 1, 0, 153, 0, 7, 27, 154, 0, 7, 4, 167, 0, 12, 28, 153, 0, 7, 3, 167, 0, 4, 5]
abbrev dktX1_why_2_0 : List UInt8 := dkwX1_why_2_0 ++ dktX1_why_2_1
theorem dksX1_why_2_0 : cX1_why_2.data.toList.drop 0 = dktX1_why_2_0 := by decide +kernel
theorem dksX1_why_2_1 : cX1_why_2.data.toList.drop 24 = dktX1_why_2_1 := dk_seg dksX1_why_2_0 24 rfl rfl
theorem dX1_why_2_0 : decode cX1_why_2 0 = .ok (.aload_n 0, 1) := dk_42 (dk_at dksX1_why_2_0 0 rfl rfl)
theorem dX1_why_2_1 : decode cX1_why_2 1 = .ok (.getfield 256, 3) := dk_180 1 0 (dk_at dksX1_why_2_0 1 rfl rfl)
theorem dX1_why_2_4 : decode cX1_why_2 4 = .ok (.ifCond .eq 7, 3) := dk_153 0 7 (dk_at dksX1_why_2_0 4 rfl rfl)
theorem dX1_why_2_7 : decode cX1_why_2 7 = .ok (.iload_n 1, 1) := dk_27 (dk_at dksX1_why_2_0 7 rfl rfl)
theorem dX1_why_2_8 : decode cX1_why_2 8 = .ok (.ifCond .ne 7, 3) := dk_154 0 7 (dk_at dksX1_why_2_0 8 rfl rfl)
theorem dX1_why_2_11 : decode cX1_why_2 11 = .ok (.iconst 1, 1) := dk_4 (dk_at dksX1_why_2_0 11 rfl rfl)
theorem dX1_why_2_12 : decode cX1_why_2 12 = .ok (.goto 12, 3) := dk_167 0 12 (dk_at dksX1_why_2_0 12 rfl rfl)
theorem dX1_why_2_15 : decode cX1_why_2 15 = .ok (.iload_n 2, 1) := dk_28 (dk_at dksX1_why_2_0 15 rfl rfl)
theorem dX1_why_2_16 : decode cX1_why_2 16 = .ok (.ifCond .eq 7, 3) := dk_153 0 7 (dk_at dksX1_why_2_0 16 rfl rfl)
theorem dX1_why_2_19 : decode cX1_why_2 19 = .ok (.iconst 0, 1) := dk_3 (dk_at dksX1_why_2_0 19 rfl rfl)
theorem dX1_why_2_20 : decode cX1_why_2 20 = .ok (.goto 4, 3) := dk_167 0 4 (dk_at dksX1_why_2_0 20 rfl rfl)
theorem dX1_why_2_23 : decode cX1_why_2 23 = .ok (.iconst 2, 1) := dk_5 (dk_at dksX1_why_2_0 23 rfl rfl)
theorem dX1_why_2_24 : decode cX1_why_2 24 = .ok (.ireturn, 1) := dk_172 (dk_at dksX1_why_2_1 0 rfl rfl)
abbrev cX1_isRefused : ByteArray := prog_1_method_35_code
def yX1_isRefused : MethodName := ⟨RX1, "isRefused", "(I)Z"⟩
def dkwX1_isRefused_0 : List UInt8 := [42, 182, 0, 253, 42, 27, 181, 0, 250, 27, 153, 0, 7, 4, 167, 0, 4, 3, 172]
abbrev dktX1_isRefused_0 : List UInt8 := dkwX1_isRefused_0 ++ []
theorem dksX1_isRefused_0 : cX1_isRefused.data.toList.drop 0 = dktX1_isRefused_0 := by decide +kernel
theorem dX1_isRefused_0 : decode cX1_isRefused 0 = .ok (.aload_n 0, 1) := dk_42 (dk_at dksX1_isRefused_0 0 rfl rfl)
theorem dX1_isRefused_1 : decode cX1_isRefused 1 = .ok (.invokevirtual 253, 3) := dk_182 0 253 (dk_at dksX1_isRefused_0 1 rfl rfl)
theorem dX1_isRefused_4 : decode cX1_isRefused 4 = .ok (.aload_n 0, 1) := dk_42 (dk_at dksX1_isRefused_0 4 rfl rfl)
theorem dX1_isRefused_5 : decode cX1_isRefused 5 = .ok (.iload_n 1, 1) := dk_27 (dk_at dksX1_isRefused_0 5 rfl rfl)
theorem dX1_isRefused_6 : decode cX1_isRefused 6 = .ok (.putfield 250, 3) := dk_181 0 250 (dk_at dksX1_isRefused_0 6 rfl rfl)
theorem dX1_isRefused_9 : decode cX1_isRefused 9 = .ok (.iload_n 1, 1) := dk_27 (dk_at dksX1_isRefused_0 9 rfl rfl)
theorem dX1_isRefused_10 : decode cX1_isRefused 10 = .ok (.ifCond .eq 7, 3) := dk_153 0 7 (dk_at dksX1_isRefused_0 10 rfl rfl)
theorem dX1_isRefused_13 : decode cX1_isRefused 13 = .ok (.iconst 1, 1) := dk_4 (dk_at dksX1_isRefused_0 13 rfl rfl)
theorem dX1_isRefused_14 : decode cX1_isRefused 14 = .ok (.goto 4, 3) := dk_167 0 4 (dk_at dksX1_isRefused_0 14 rfl rfl)
theorem dX1_isRefused_17 : decode cX1_isRefused 17 = .ok (.iconst 0, 1) := dk_3 (dk_at dksX1_isRefused_0 17 rfl rfl)
theorem dX1_isRefused_18 : decode cX1_isRefused 18 = .ok (.ireturn, 1) := dk_172 (dk_at dksX1_isRefused_0 18 rfl rfl)
abbrev cX1_filled : ByteArray := prog_1_method_47_code
def yX1_filled : MethodName := ⟨RX1, "filled", "()I"⟩
def dkwX1_filled_2 : List UInt8 := [27, 172]
abbrev dktX1_filled_2 : List UInt8 := dkwX1_filled_2 ++ []
def dkwX1_filled_1 : List UInt8 := [58, 5, 27, 25, 5, 182, 0, 46, 153, 0, 7, 3, 167, 0, 4, 4, 96, 60, 132, 4, 1, 167, 255, 225]
abbrev dktX1_filled_1 : List UInt8 := dkwX1_filled_1 ++ dktX1_filled_2
def dkwX1_filled_0 : List UInt8 := [3, 60, 42, 180, 0, 232, 77, 44, 190, 62, 3, 54, 4, 21, 4, 29, 162, 0, 31, 44, 21, 4, 50]
abbrev dktX1_filled_0 : List UInt8 := dkwX1_filled_0 ++ dktX1_filled_1
theorem dksX1_filled_0 : cX1_filled.data.toList.drop 0 = dktX1_filled_0 := by decide +kernel
theorem dksX1_filled_1 : cX1_filled.data.toList.drop 23 = dktX1_filled_1 := dk_seg dksX1_filled_0 23 rfl rfl
theorem dksX1_filled_2 : cX1_filled.data.toList.drop 47 = dktX1_filled_2 := dk_seg dksX1_filled_1 24 rfl rfl
theorem dX1_filled_0 : decode cX1_filled 0 = .ok (.iconst 0, 1) := dk_3 (dk_at dksX1_filled_0 0 rfl rfl)
theorem dX1_filled_1 : decode cX1_filled 1 = .ok (.istore_n 1, 1) := dk_60 (dk_at dksX1_filled_0 1 rfl rfl)
theorem dX1_filled_2 : decode cX1_filled 2 = .ok (.aload_n 0, 1) := dk_42 (dk_at dksX1_filled_0 2 rfl rfl)
theorem dX1_filled_3 : decode cX1_filled 3 = .ok (.getfield 232, 3) := dk_180 0 232 (dk_at dksX1_filled_0 3 rfl rfl)
theorem dX1_filled_6 : decode cX1_filled 6 = .ok (.astore_n 2, 1) := dk_77 (dk_at dksX1_filled_0 6 rfl rfl)
theorem dX1_filled_7 : decode cX1_filled 7 = .ok (.aload_n 2, 1) := dk_44 (dk_at dksX1_filled_0 7 rfl rfl)
theorem dX1_filled_8 : decode cX1_filled 8 = .ok (.arraylength, 1) := dk_190 (dk_at dksX1_filled_0 8 rfl rfl)
theorem dX1_filled_9 : decode cX1_filled 9 = .ok (.istore_n 3, 1) := dk_62 (dk_at dksX1_filled_0 9 rfl rfl)
theorem dX1_filled_10 : decode cX1_filled 10 = .ok (.iconst 0, 1) := dk_3 (dk_at dksX1_filled_0 10 rfl rfl)
theorem dX1_filled_11 : decode cX1_filled 11 = .ok (.istore 4, 2) := dk_54 4 (dk_at dksX1_filled_0 11 rfl rfl)
theorem dX1_filled_13 : decode cX1_filled 13 = .ok (.iload 4, 2) := dk_21 4 (dk_at dksX1_filled_0 13 rfl rfl)
theorem dX1_filled_15 : decode cX1_filled 15 = .ok (.iload_n 3, 1) := dk_29 (dk_at dksX1_filled_0 15 rfl rfl)
theorem dX1_filled_16 : decode cX1_filled 16 = .ok (.if_icmp .ge 31, 3) := dk_162 0 31 (dk_at dksX1_filled_0 16 rfl rfl)
theorem dX1_filled_19 : decode cX1_filled 19 = .ok (.aload_n 2, 1) := dk_44 (dk_at dksX1_filled_0 19 rfl rfl)
theorem dX1_filled_20 : decode cX1_filled 20 = .ok (.iload 4, 2) := dk_21 4 (dk_at dksX1_filled_0 20 rfl rfl)
theorem dX1_filled_22 : decode cX1_filled 22 = .ok (.aaload, 1) := dk_50 (dk_at dksX1_filled_0 22 rfl rfl)
theorem dX1_filled_23 : decode cX1_filled 23 = .ok (.astore 5, 2) := dk_58 5 (dk_at dksX1_filled_1 0 rfl rfl)
theorem dX1_filled_25 : decode cX1_filled 25 = .ok (.iload_n 1, 1) := dk_27 (dk_at dksX1_filled_1 2 rfl rfl)
theorem dX1_filled_26 : decode cX1_filled 26 = .ok (.aload 5, 2) := dk_25 5 (dk_at dksX1_filled_1 3 rfl rfl)
theorem dX1_filled_28 : decode cX1_filled 28 = .ok (.invokevirtual 46, 3) := dk_182 0 46 (dk_at dksX1_filled_1 5 rfl rfl)
theorem dX1_filled_31 : decode cX1_filled 31 = .ok (.ifCond .eq 7, 3) := dk_153 0 7 (dk_at dksX1_filled_1 8 rfl rfl)
theorem dX1_filled_34 : decode cX1_filled 34 = .ok (.iconst 0, 1) := dk_3 (dk_at dksX1_filled_1 11 rfl rfl)
theorem dX1_filled_35 : decode cX1_filled 35 = .ok (.goto 4, 3) := dk_167 0 4 (dk_at dksX1_filled_1 12 rfl rfl)
theorem dX1_filled_38 : decode cX1_filled 38 = .ok (.iconst 1, 1) := dk_4 (dk_at dksX1_filled_1 15 rfl rfl)
theorem dX1_filled_39 : decode cX1_filled 39 = .ok (.iadd, 1) := dk_96 (dk_at dksX1_filled_1 16 rfl rfl)
theorem dX1_filled_40 : decode cX1_filled 40 = .ok (.istore_n 1, 1) := dk_60 (dk_at dksX1_filled_1 17 rfl rfl)
theorem dX1_filled_41 : decode cX1_filled 41 = .ok (.iinc 4 1, 3) := dk_132 4 1 (dk_at dksX1_filled_1 18 rfl rfl)
theorem dX1_filled_44 : decode cX1_filled 44 = .ok (.goto (-31), 3) := dk_167 255 225 (dk_at dksX1_filled_1 21 rfl rfl)
theorem dX1_filled_47 : decode cX1_filled 47 = .ok (.iload_n 1, 1) := dk_27 (dk_at dksX1_filled_2 0 rfl rfl)
theorem dX1_filled_48 : decode cX1_filled 48 = .ok (.ireturn, 1) := dk_172 (dk_at dksX1_filled_2 1 rfl rfl)
abbrev cX1_terms : ByteArray := prog_1_method_49_code
def yX1_terms : MethodName := ⟨RX1, "terms", "(I)I"⟩
def dkwX1_terms_1 : List UInt8 := [167, 0, 12, 42, 180, 0, 232, 27, 50, 180, 0, 62, 172]
abbrev dktX1_terms_1 : List UInt8 := dkwX1_terms_1 ++ []
def dkwX1_terms_0 : List UInt8 := [42, 42, 4, 188, 10, 89, 3, 27, 79, 184, 1, 69, 182, 1, 59, 182, 1, 62, 153, 0, 7, 2]
abbrev dktX1_terms_0 : List UInt8 := dkwX1_terms_0 ++ dktX1_terms_1
theorem dksX1_terms_0 : cX1_terms.data.toList.drop 0 = dktX1_terms_0 := by decide +kernel
theorem dksX1_terms_1 : cX1_terms.data.toList.drop 22 = dktX1_terms_1 := dk_seg dksX1_terms_0 22 rfl rfl
theorem dX1_terms_0 : decode cX1_terms 0 = .ok (.aload_n 0, 1) := dk_42 (dk_at dksX1_terms_0 0 rfl rfl)
theorem dX1_terms_1 : decode cX1_terms 1 = .ok (.aload_n 0, 1) := dk_42 (dk_at dksX1_terms_0 1 rfl rfl)
theorem dX1_terms_2 : decode cX1_terms 2 = .ok (.iconst 1, 1) := dk_4 (dk_at dksX1_terms_0 2 rfl rfl)
theorem dX1_terms_3 : decode cX1_terms 3 = .ok (.newarray .int, 2) := dk_188_10 (dk_at dksX1_terms_0 3 rfl rfl)
theorem dX1_terms_5 : decode cX1_terms 5 = .ok (.dup, 1) := dk_89 (dk_at dksX1_terms_0 5 rfl rfl)
theorem dX1_terms_6 : decode cX1_terms 6 = .ok (.iconst 0, 1) := dk_3 (dk_at dksX1_terms_0 6 rfl rfl)
theorem dX1_terms_7 : decode cX1_terms 7 = .ok (.iload_n 1, 1) := dk_27 (dk_at dksX1_terms_0 7 rfl rfl)
theorem dX1_terms_8 : decode cX1_terms 8 = .ok (.iastore, 1) := dk_79 (dk_at dksX1_terms_0 8 rfl rfl)
theorem dX1_terms_9 : decode cX1_terms 9 = .ok (.invokestatic 325, 3) := dk_184 1 69 (dk_at dksX1_terms_0 9 rfl rfl)
theorem dX1_terms_12 : decode cX1_terms 12 = .ok (.invokevirtual 315, 3) := dk_182 1 59 (dk_at dksX1_terms_0 12 rfl rfl)
theorem dX1_terms_15 : decode cX1_terms 15 = .ok (.invokevirtual 318, 3) := dk_182 1 62 (dk_at dksX1_terms_0 15 rfl rfl)
theorem dX1_terms_18 : decode cX1_terms 18 = .ok (.ifCond .eq 7, 3) := dk_153 0 7 (dk_at dksX1_terms_0 18 rfl rfl)
theorem dX1_terms_21 : decode cX1_terms 21 = .ok (.iconst (-1), 1) := dk_2 (dk_at dksX1_terms_0 21 rfl rfl)
theorem dX1_terms_22 : decode cX1_terms 22 = .ok (.goto 12, 3) := dk_167 0 12 (dk_at dksX1_terms_1 0 rfl rfl)
theorem dX1_terms_25 : decode cX1_terms 25 = .ok (.aload_n 0, 1) := dk_42 (dk_at dksX1_terms_1 3 rfl rfl)
theorem dX1_terms_26 : decode cX1_terms 26 = .ok (.getfield 232, 3) := dk_180 0 232 (dk_at dksX1_terms_1 4 rfl rfl)
theorem dX1_terms_29 : decode cX1_terms 29 = .ok (.iload_n 1, 1) := dk_27 (dk_at dksX1_terms_1 7 rfl rfl)
theorem dX1_terms_30 : decode cX1_terms 30 = .ok (.aaload, 1) := dk_50 (dk_at dksX1_terms_1 8 rfl rfl)
theorem dX1_terms_31 : decode cX1_terms 31 = .ok (.getfield 62, 3) := dk_180 0 62 (dk_at dksX1_terms_1 9 rfl rfl)
theorem dX1_terms_34 : decode cX1_terms 34 = .ok (.ireturn, 1) := dk_172 (dk_at dksX1_terms_1 12 rfl rfl)
abbrev cX1_is : ByteArray := prog_1_method_43_code
def yX1_is : MethodName := ⟨RX1, "is", "([I)Z"⟩
def dkwX1_is_1 : List UInt8 := [184, 1, 15, 154, 0, 5, 3, 172, 132, 3, 1, 167, 255, 230, 4, 172]
abbrev dktX1_is_1 : List UInt8 := dkwX1_is_1 ++ []
def dkwX1_is_0 : List UInt8 := [42, 76, 43, 190, 61, 3, 62, 29, 28, 162, 0, 27, 43, 29, 46, 54, 4, 21, 4, 3, 16, 7]
abbrev dktX1_is_0 : List UInt8 := dkwX1_is_0 ++ dktX1_is_1
theorem dksX1_is_0 : cX1_is.data.toList.drop 0 = dktX1_is_0 := by decide +kernel
theorem dksX1_is_1 : cX1_is.data.toList.drop 22 = dktX1_is_1 := dk_seg dksX1_is_0 22 rfl rfl
theorem dX1_is_0 : decode cX1_is 0 = .ok (.aload_n 0, 1) := dk_42 (dk_at dksX1_is_0 0 rfl rfl)
theorem dX1_is_1 : decode cX1_is 1 = .ok (.astore_n 1, 1) := dk_76 (dk_at dksX1_is_0 1 rfl rfl)
theorem dX1_is_2 : decode cX1_is 2 = .ok (.aload_n 1, 1) := dk_43 (dk_at dksX1_is_0 2 rfl rfl)
theorem dX1_is_3 : decode cX1_is 3 = .ok (.arraylength, 1) := dk_190 (dk_at dksX1_is_0 3 rfl rfl)
theorem dX1_is_4 : decode cX1_is 4 = .ok (.istore_n 2, 1) := dk_61 (dk_at dksX1_is_0 4 rfl rfl)
theorem dX1_is_5 : decode cX1_is 5 = .ok (.iconst 0, 1) := dk_3 (dk_at dksX1_is_0 5 rfl rfl)
theorem dX1_is_6 : decode cX1_is 6 = .ok (.istore_n 3, 1) := dk_62 (dk_at dksX1_is_0 6 rfl rfl)
theorem dX1_is_7 : decode cX1_is 7 = .ok (.iload_n 3, 1) := dk_29 (dk_at dksX1_is_0 7 rfl rfl)
theorem dX1_is_8 : decode cX1_is 8 = .ok (.iload_n 2, 1) := dk_28 (dk_at dksX1_is_0 8 rfl rfl)
theorem dX1_is_9 : decode cX1_is 9 = .ok (.if_icmp .ge 27, 3) := dk_162 0 27 (dk_at dksX1_is_0 9 rfl rfl)
theorem dX1_is_12 : decode cX1_is 12 = .ok (.aload_n 1, 1) := dk_43 (dk_at dksX1_is_0 12 rfl rfl)
theorem dX1_is_13 : decode cX1_is 13 = .ok (.iload_n 3, 1) := dk_29 (dk_at dksX1_is_0 13 rfl rfl)
theorem dX1_is_14 : decode cX1_is 14 = .ok (.iaload, 1) := dk_46 (dk_at dksX1_is_0 14 rfl rfl)
theorem dX1_is_15 : decode cX1_is 15 = .ok (.istore 4, 2) := dk_54 4 (dk_at dksX1_is_0 15 rfl rfl)
theorem dX1_is_17 : decode cX1_is 17 = .ok (.iload 4, 2) := dk_21 4 (dk_at dksX1_is_0 17 rfl rfl)
theorem dX1_is_19 : decode cX1_is 19 = .ok (.iconst 0, 1) := dk_3 (dk_at dksX1_is_0 19 rfl rfl)
theorem dX1_is_20 : decode cX1_is 20 = .ok (.bipush 7, 2) := dk_16 7 (dk_at dksX1_is_0 20 rfl rfl)
theorem dX1_is_22 : decode cX1_is 22 = .ok (.invokestatic 271, 3) := dk_184 1 15 (dk_at dksX1_is_1 0 rfl rfl)
theorem dX1_is_25 : decode cX1_is 25 = .ok (.ifCond .ne 5, 3) := dk_154 0 5 (dk_at dksX1_is_1 3 rfl rfl)
theorem dX1_is_28 : decode cX1_is 28 = .ok (.iconst 0, 1) := dk_3 (dk_at dksX1_is_1 6 rfl rfl)
theorem dX1_is_29 : decode cX1_is 29 = .ok (.ireturn, 1) := dk_172 (dk_at dksX1_is_1 7 rfl rfl)
theorem dX1_is_30 : decode cX1_is 30 = .ok (.iinc 3 1, 3) := dk_132 3 1 (dk_at dksX1_is_1 8 rfl rfl)
theorem dX1_is_33 : decode cX1_is 33 = .ok (.goto (-26), 3) := dk_167 255 230 (dk_at dksX1_is_1 11 rfl rfl)
theorem dX1_is_36 : decode cX1_is 36 = .ok (.iconst 1, 1) := dk_4 (dk_at dksX1_is_1 14 rfl rfl)
theorem dX1_is_37 : decode cX1_is 37 = .ok (.ireturn, 1) := dk_172 (dk_at dksX1_is_1 15 rfl rfl)
abbrev cX1_term : ByteArray := prog_1_method_50_code
def yX1_term : MethodName := ⟨RX1, "term", "(III)I"⟩
def dkwX1_term_4 : List UInt8 := [184, 1, 73, 167, 0, 16, 25, 4, 180, 0, 69, 28, 46, 29, 4, 100, 184, 0, 3, 172]
abbrev dktX1_term_4 : List UInt8 := dkwX1_term_4 ++ []
def dkwX1_term_3 : List UInt8 := [25, 4, 180, 0, 76, 28, 46, 167, 0, 34, 29, 7, 160, 0, 16, 25, 4, 180, 0, 69, 28, 46]
abbrev dktX1_term_3 : List UInt8 := dkwX1_term_3 ++ dktX1_term_4
def dkwX1_term_2 : List UInt8 := [3, 182, 1, 59, 182, 1, 62, 153, 0, 5, 2, 172, 42, 180, 0, 232, 27, 50, 58, 4, 29, 154, 0, 13]
abbrev dktX1_term_2 : List UInt8 := dkwX1_term_2 ++ dktX1_term_3
def dkwX1_term_1 : List UInt8 := [180, 0, 62, 4, 100, 184, 1, 15, 153, 0, 16, 29, 3, 7, 184, 1, 15, 153, 0, 7, 4, 167, 0, 4]
abbrev dktX1_term_1 : List UInt8 := dkwX1_term_1 ++ dktX1_term_2
def dkwX1_term_0 : List UInt8 := [42, 42, 4, 188, 10, 89, 3, 27, 79, 184, 1, 69, 153, 0, 35, 28, 3, 42, 180, 0, 232, 27, 50]
abbrev dktX1_term_0 : List UInt8 := dkwX1_term_0 ++ dktX1_term_1
theorem dksX1_term_0 : cX1_term.data.toList.drop 0 = dktX1_term_0 := by decide +kernel
theorem dksX1_term_1 : cX1_term.data.toList.drop 23 = dktX1_term_1 := dk_seg dksX1_term_0 23 rfl rfl
theorem dksX1_term_2 : cX1_term.data.toList.drop 47 = dktX1_term_2 := dk_seg dksX1_term_1 24 rfl rfl
theorem dksX1_term_3 : cX1_term.data.toList.drop 71 = dktX1_term_3 := dk_seg dksX1_term_2 24 rfl rfl
theorem dksX1_term_4 : cX1_term.data.toList.drop 93 = dktX1_term_4 := dk_seg dksX1_term_3 22 rfl rfl
theorem dX1_term_0 : decode cX1_term 0 = .ok (.aload_n 0, 1) := dk_42 (dk_at dksX1_term_0 0 rfl rfl)
theorem dX1_term_1 : decode cX1_term 1 = .ok (.aload_n 0, 1) := dk_42 (dk_at dksX1_term_0 1 rfl rfl)
theorem dX1_term_2 : decode cX1_term 2 = .ok (.iconst 1, 1) := dk_4 (dk_at dksX1_term_0 2 rfl rfl)
theorem dX1_term_3 : decode cX1_term 3 = .ok (.newarray .int, 2) := dk_188_10 (dk_at dksX1_term_0 3 rfl rfl)
theorem dX1_term_5 : decode cX1_term 5 = .ok (.dup, 1) := dk_89 (dk_at dksX1_term_0 5 rfl rfl)
theorem dX1_term_6 : decode cX1_term 6 = .ok (.iconst 0, 1) := dk_3 (dk_at dksX1_term_0 6 rfl rfl)
theorem dX1_term_7 : decode cX1_term 7 = .ok (.iload_n 1, 1) := dk_27 (dk_at dksX1_term_0 7 rfl rfl)
theorem dX1_term_8 : decode cX1_term 8 = .ok (.iastore, 1) := dk_79 (dk_at dksX1_term_0 8 rfl rfl)
theorem dX1_term_9 : decode cX1_term 9 = .ok (.invokestatic 325, 3) := dk_184 1 69 (dk_at dksX1_term_0 9 rfl rfl)
theorem dX1_term_12 : decode cX1_term 12 = .ok (.ifCond .eq 35, 3) := dk_153 0 35 (dk_at dksX1_term_0 12 rfl rfl)
theorem dX1_term_15 : decode cX1_term 15 = .ok (.iload_n 2, 1) := dk_28 (dk_at dksX1_term_0 15 rfl rfl)
theorem dX1_term_16 : decode cX1_term 16 = .ok (.iconst 0, 1) := dk_3 (dk_at dksX1_term_0 16 rfl rfl)
theorem dX1_term_17 : decode cX1_term 17 = .ok (.aload_n 0, 1) := dk_42 (dk_at dksX1_term_0 17 rfl rfl)
theorem dX1_term_18 : decode cX1_term 18 = .ok (.getfield 232, 3) := dk_180 0 232 (dk_at dksX1_term_0 18 rfl rfl)
theorem dX1_term_21 : decode cX1_term 21 = .ok (.iload_n 1, 1) := dk_27 (dk_at dksX1_term_0 21 rfl rfl)
theorem dX1_term_22 : decode cX1_term 22 = .ok (.aaload, 1) := dk_50 (dk_at dksX1_term_0 22 rfl rfl)
theorem dX1_term_23 : decode cX1_term 23 = .ok (.getfield 62, 3) := dk_180 0 62 (dk_at dksX1_term_1 0 rfl rfl)
theorem dX1_term_26 : decode cX1_term 26 = .ok (.iconst 1, 1) := dk_4 (dk_at dksX1_term_1 3 rfl rfl)
theorem dX1_term_27 : decode cX1_term 27 = .ok (.isub, 1) := dk_100 (dk_at dksX1_term_1 4 rfl rfl)
theorem dX1_term_28 : decode cX1_term 28 = .ok (.invokestatic 271, 3) := dk_184 1 15 (dk_at dksX1_term_1 5 rfl rfl)
theorem dX1_term_31 : decode cX1_term 31 = .ok (.ifCond .eq 16, 3) := dk_153 0 16 (dk_at dksX1_term_1 8 rfl rfl)
theorem dX1_term_34 : decode cX1_term 34 = .ok (.iload_n 3, 1) := dk_29 (dk_at dksX1_term_1 11 rfl rfl)
theorem dX1_term_35 : decode cX1_term 35 = .ok (.iconst 0, 1) := dk_3 (dk_at dksX1_term_1 12 rfl rfl)
theorem dX1_term_36 : decode cX1_term 36 = .ok (.iconst 4, 1) := dk_7 (dk_at dksX1_term_1 13 rfl rfl)
theorem dX1_term_37 : decode cX1_term 37 = .ok (.invokestatic 271, 3) := dk_184 1 15 (dk_at dksX1_term_1 14 rfl rfl)
theorem dX1_term_40 : decode cX1_term 40 = .ok (.ifCond .eq 7, 3) := dk_153 0 7 (dk_at dksX1_term_1 17 rfl rfl)
theorem dX1_term_43 : decode cX1_term 43 = .ok (.iconst 1, 1) := dk_4 (dk_at dksX1_term_1 20 rfl rfl)
theorem dX1_term_44 : decode cX1_term 44 = .ok (.goto 4, 3) := dk_167 0 4 (dk_at dksX1_term_1 21 rfl rfl)
theorem dX1_term_47 : decode cX1_term 47 = .ok (.iconst 0, 1) := dk_3 (dk_at dksX1_term_2 0 rfl rfl)
theorem dX1_term_48 : decode cX1_term 48 = .ok (.invokevirtual 315, 3) := dk_182 1 59 (dk_at dksX1_term_2 1 rfl rfl)
theorem dX1_term_51 : decode cX1_term 51 = .ok (.invokevirtual 318, 3) := dk_182 1 62 (dk_at dksX1_term_2 4 rfl rfl)
theorem dX1_term_54 : decode cX1_term 54 = .ok (.ifCond .eq 5, 3) := dk_153 0 5 (dk_at dksX1_term_2 7 rfl rfl)
theorem dX1_term_57 : decode cX1_term 57 = .ok (.iconst (-1), 1) := dk_2 (dk_at dksX1_term_2 10 rfl rfl)
theorem dX1_term_58 : decode cX1_term 58 = .ok (.ireturn, 1) := dk_172 (dk_at dksX1_term_2 11 rfl rfl)
theorem dX1_term_59 : decode cX1_term 59 = .ok (.aload_n 0, 1) := dk_42 (dk_at dksX1_term_2 12 rfl rfl)
theorem dX1_term_60 : decode cX1_term 60 = .ok (.getfield 232, 3) := dk_180 0 232 (dk_at dksX1_term_2 13 rfl rfl)
theorem dX1_term_63 : decode cX1_term 63 = .ok (.iload_n 1, 1) := dk_27 (dk_at dksX1_term_2 16 rfl rfl)
theorem dX1_term_64 : decode cX1_term 64 = .ok (.aaload, 1) := dk_50 (dk_at dksX1_term_2 17 rfl rfl)
theorem dX1_term_65 : decode cX1_term 65 = .ok (.astore 4, 2) := dk_58 4 (dk_at dksX1_term_2 18 rfl rfl)
theorem dX1_term_67 : decode cX1_term 67 = .ok (.iload_n 3, 1) := dk_29 (dk_at dksX1_term_2 20 rfl rfl)
theorem dX1_term_68 : decode cX1_term 68 = .ok (.ifCond .ne 13, 3) := dk_154 0 13 (dk_at dksX1_term_2 21 rfl rfl)
theorem dX1_term_71 : decode cX1_term 71 = .ok (.aload 4, 2) := dk_25 4 (dk_at dksX1_term_3 0 rfl rfl)
theorem dX1_term_73 : decode cX1_term 73 = .ok (.getfield 76, 3) := dk_180 0 76 (dk_at dksX1_term_3 2 rfl rfl)
theorem dX1_term_76 : decode cX1_term 76 = .ok (.iload_n 2, 1) := dk_28 (dk_at dksX1_term_3 5 rfl rfl)
theorem dX1_term_77 : decode cX1_term 77 = .ok (.iaload, 1) := dk_46 (dk_at dksX1_term_3 6 rfl rfl)
theorem dX1_term_78 : decode cX1_term 78 = .ok (.goto 34, 3) := dk_167 0 34 (dk_at dksX1_term_3 7 rfl rfl)
theorem dX1_term_81 : decode cX1_term 81 = .ok (.iload_n 3, 1) := dk_29 (dk_at dksX1_term_3 10 rfl rfl)
theorem dX1_term_82 : decode cX1_term 82 = .ok (.iconst 4, 1) := dk_7 (dk_at dksX1_term_3 11 rfl rfl)
theorem dX1_term_83 : decode cX1_term 83 = .ok (.if_icmp .ne 16, 3) := dk_160 0 16 (dk_at dksX1_term_3 12 rfl rfl)
theorem dX1_term_86 : decode cX1_term 86 = .ok (.aload 4, 2) := dk_25 4 (dk_at dksX1_term_3 15 rfl rfl)
theorem dX1_term_88 : decode cX1_term 88 = .ok (.getfield 69, 3) := dk_180 0 69 (dk_at dksX1_term_3 17 rfl rfl)
theorem dX1_term_91 : decode cX1_term 91 = .ok (.iload_n 2, 1) := dk_28 (dk_at dksX1_term_3 20 rfl rfl)
theorem dX1_term_92 : decode cX1_term 92 = .ok (.iaload, 1) := dk_46 (dk_at dksX1_term_3 21 rfl rfl)
theorem dX1_term_93 : decode cX1_term 93 = .ok (.invokestatic 329, 3) := dk_184 1 73 (dk_at dksX1_term_4 0 rfl rfl)
theorem dX1_term_96 : decode cX1_term 96 = .ok (.goto 16, 3) := dk_167 0 16 (dk_at dksX1_term_4 3 rfl rfl)
theorem dX1_term_99 : decode cX1_term 99 = .ok (.aload 4, 2) := dk_25 4 (dk_at dksX1_term_4 6 rfl rfl)
theorem dX1_term_101 : decode cX1_term 101 = .ok (.getfield 69, 3) := dk_180 0 69 (dk_at dksX1_term_4 8 rfl rfl)
theorem dX1_term_104 : decode cX1_term 104 = .ok (.iload_n 2, 1) := dk_28 (dk_at dksX1_term_4 11 rfl rfl)
theorem dX1_term_105 : decode cX1_term 105 = .ok (.iaload, 1) := dk_46 (dk_at dksX1_term_4 12 rfl rfl)
theorem dX1_term_106 : decode cX1_term 106 = .ok (.iload_n 3, 1) := dk_29 (dk_at dksX1_term_4 13 rfl rfl)
theorem dX1_term_107 : decode cX1_term 107 = .ok (.iconst 1, 1) := dk_4 (dk_at dksX1_term_4 14 rfl rfl)
theorem dX1_term_108 : decode cX1_term 108 = .ok (.isub, 1) := dk_100 (dk_at dksX1_term_4 15 rfl rfl)
theorem dX1_term_109 : decode cX1_term 109 = .ok (.invokestatic 3, 3) := dk_184 0 3 (dk_at dksX1_term_4 16 rfl rfl)
theorem dX1_term_112 : decode cX1_term 112 = .ok (.ireturn, 1) := dk_172 (dk_at dksX1_term_4 19 rfl rfl)
abbrev cX1_degree : ByteArray := prog_1_method_51_code
def yX1_degree : MethodName := ⟨RX1, "degree", "(I)I"⟩
def dkwX1_degree_1 : List UInt8 := [167, 0, 12, 42, 180, 0, 232, 27, 50, 182, 1, 75, 172]
abbrev dktX1_degree_1 : List UInt8 := dkwX1_degree_1 ++ []
def dkwX1_degree_0 : List UInt8 := [42, 42, 4, 188, 10, 89, 3, 27, 79, 184, 1, 69, 182, 1, 59, 182, 1, 62, 153, 0, 7, 2]
abbrev dktX1_degree_0 : List UInt8 := dkwX1_degree_0 ++ dktX1_degree_1
theorem dksX1_degree_0 : cX1_degree.data.toList.drop 0 = dktX1_degree_0 := by decide +kernel
theorem dksX1_degree_1 : cX1_degree.data.toList.drop 22 = dktX1_degree_1 := dk_seg dksX1_degree_0 22 rfl rfl
theorem dX1_degree_0 : decode cX1_degree 0 = .ok (.aload_n 0, 1) := dk_42 (dk_at dksX1_degree_0 0 rfl rfl)
theorem dX1_degree_1 : decode cX1_degree 1 = .ok (.aload_n 0, 1) := dk_42 (dk_at dksX1_degree_0 1 rfl rfl)
theorem dX1_degree_2 : decode cX1_degree 2 = .ok (.iconst 1, 1) := dk_4 (dk_at dksX1_degree_0 2 rfl rfl)
theorem dX1_degree_3 : decode cX1_degree 3 = .ok (.newarray .int, 2) := dk_188_10 (dk_at dksX1_degree_0 3 rfl rfl)
theorem dX1_degree_5 : decode cX1_degree 5 = .ok (.dup, 1) := dk_89 (dk_at dksX1_degree_0 5 rfl rfl)
theorem dX1_degree_6 : decode cX1_degree 6 = .ok (.iconst 0, 1) := dk_3 (dk_at dksX1_degree_0 6 rfl rfl)
theorem dX1_degree_7 : decode cX1_degree 7 = .ok (.iload_n 1, 1) := dk_27 (dk_at dksX1_degree_0 7 rfl rfl)
theorem dX1_degree_8 : decode cX1_degree 8 = .ok (.iastore, 1) := dk_79 (dk_at dksX1_degree_0 8 rfl rfl)
theorem dX1_degree_9 : decode cX1_degree 9 = .ok (.invokestatic 325, 3) := dk_184 1 69 (dk_at dksX1_degree_0 9 rfl rfl)
theorem dX1_degree_12 : decode cX1_degree 12 = .ok (.invokevirtual 315, 3) := dk_182 1 59 (dk_at dksX1_degree_0 12 rfl rfl)
theorem dX1_degree_15 : decode cX1_degree 15 = .ok (.invokevirtual 318, 3) := dk_182 1 62 (dk_at dksX1_degree_0 15 rfl rfl)
theorem dX1_degree_18 : decode cX1_degree 18 = .ok (.ifCond .eq 7, 3) := dk_153 0 7 (dk_at dksX1_degree_0 18 rfl rfl)
theorem dX1_degree_21 : decode cX1_degree 21 = .ok (.iconst (-1), 1) := dk_2 (dk_at dksX1_degree_0 21 rfl rfl)
theorem dX1_degree_22 : decode cX1_degree 22 = .ok (.goto 12, 3) := dk_167 0 12 (dk_at dksX1_degree_1 0 rfl rfl)
theorem dX1_degree_25 : decode cX1_degree 25 = .ok (.aload_n 0, 1) := dk_42 (dk_at dksX1_degree_1 3 rfl rfl)
theorem dX1_degree_26 : decode cX1_degree 26 = .ok (.getfield 232, 3) := dk_180 0 232 (dk_at dksX1_degree_1 4 rfl rfl)
theorem dX1_degree_29 : decode cX1_degree 29 = .ok (.iload_n 1, 1) := dk_27 (dk_at dksX1_degree_1 7 rfl rfl)
theorem dX1_degree_30 : decode cX1_degree 30 = .ok (.aaload, 1) := dk_50 (dk_at dksX1_degree_1 8 rfl rfl)
theorem dX1_degree_31 : decode cX1_degree 31 = .ok (.invokevirtual 331, 3) := dk_182 1 75 (dk_at dksX1_degree_1 9 rfl rfl)
theorem dX1_degree_34 : decode cX1_degree 34 = .ok (.ireturn, 1) := dk_172 (dk_at dksX1_degree_1 12 rfl rfl)
abbrev cX1_degreeIn : ByteArray := prog_1_method_52_code
def yX1_degreeIn : MethodName := ⟨RX1, "degreeIn", "(II)I"⟩
def dkwX1_degreeIn_2 : List UInt8 := [182, 0, 52, 172]
abbrev dktX1_degreeIn_2 : List UInt8 := dkwX1_degreeIn_2 ++ []
def dkwX1_degreeIn_1 : List UInt8 := [167, 0, 4, 3, 182, 1, 59, 182, 1, 62, 153, 0, 7, 2, 167, 0, 13, 42, 180, 0, 232, 27, 50, 28]
abbrev dktX1_degreeIn_1 : List UInt8 := dkwX1_degreeIn_1 ++ dktX1_degreeIn_2
def dkwX1_degreeIn_0 : List UInt8 := [42, 42, 4, 188, 10, 89, 3, 27, 79, 184, 1, 69, 153, 0, 14, 28, 184, 1, 78, 153, 0, 7, 4]
abbrev dktX1_degreeIn_0 : List UInt8 := dkwX1_degreeIn_0 ++ dktX1_degreeIn_1
theorem dksX1_degreeIn_0 : cX1_degreeIn.data.toList.drop 0 = dktX1_degreeIn_0 := by decide +kernel
theorem dksX1_degreeIn_1 : cX1_degreeIn.data.toList.drop 23 = dktX1_degreeIn_1 := dk_seg dksX1_degreeIn_0 23 rfl rfl
theorem dksX1_degreeIn_2 : cX1_degreeIn.data.toList.drop 47 = dktX1_degreeIn_2 := dk_seg dksX1_degreeIn_1 24 rfl rfl
theorem dX1_degreeIn_0 : decode cX1_degreeIn 0 = .ok (.aload_n 0, 1) := dk_42 (dk_at dksX1_degreeIn_0 0 rfl rfl)
theorem dX1_degreeIn_1 : decode cX1_degreeIn 1 = .ok (.aload_n 0, 1) := dk_42 (dk_at dksX1_degreeIn_0 1 rfl rfl)
theorem dX1_degreeIn_2 : decode cX1_degreeIn 2 = .ok (.iconst 1, 1) := dk_4 (dk_at dksX1_degreeIn_0 2 rfl rfl)
theorem dX1_degreeIn_3 : decode cX1_degreeIn 3 = .ok (.newarray .int, 2) := dk_188_10 (dk_at dksX1_degreeIn_0 3 rfl rfl)
theorem dX1_degreeIn_5 : decode cX1_degreeIn 5 = .ok (.dup, 1) := dk_89 (dk_at dksX1_degreeIn_0 5 rfl rfl)
theorem dX1_degreeIn_6 : decode cX1_degreeIn 6 = .ok (.iconst 0, 1) := dk_3 (dk_at dksX1_degreeIn_0 6 rfl rfl)
theorem dX1_degreeIn_7 : decode cX1_degreeIn 7 = .ok (.iload_n 1, 1) := dk_27 (dk_at dksX1_degreeIn_0 7 rfl rfl)
theorem dX1_degreeIn_8 : decode cX1_degreeIn 8 = .ok (.iastore, 1) := dk_79 (dk_at dksX1_degreeIn_0 8 rfl rfl)
theorem dX1_degreeIn_9 : decode cX1_degreeIn 9 = .ok (.invokestatic 325, 3) := dk_184 1 69 (dk_at dksX1_degreeIn_0 9 rfl rfl)
theorem dX1_degreeIn_12 : decode cX1_degreeIn 12 = .ok (.ifCond .eq 14, 3) := dk_153 0 14 (dk_at dksX1_degreeIn_0 12 rfl rfl)
theorem dX1_degreeIn_15 : decode cX1_degreeIn 15 = .ok (.iload_n 2, 1) := dk_28 (dk_at dksX1_degreeIn_0 15 rfl rfl)
theorem dX1_degreeIn_16 : decode cX1_degreeIn 16 = .ok (.invokestatic 334, 3) := dk_184 1 78 (dk_at dksX1_degreeIn_0 16 rfl rfl)
theorem dX1_degreeIn_19 : decode cX1_degreeIn 19 = .ok (.ifCond .eq 7, 3) := dk_153 0 7 (dk_at dksX1_degreeIn_0 19 rfl rfl)
theorem dX1_degreeIn_22 : decode cX1_degreeIn 22 = .ok (.iconst 1, 1) := dk_4 (dk_at dksX1_degreeIn_0 22 rfl rfl)
theorem dX1_degreeIn_23 : decode cX1_degreeIn 23 = .ok (.goto 4, 3) := dk_167 0 4 (dk_at dksX1_degreeIn_1 0 rfl rfl)
theorem dX1_degreeIn_26 : decode cX1_degreeIn 26 = .ok (.iconst 0, 1) := dk_3 (dk_at dksX1_degreeIn_1 3 rfl rfl)
theorem dX1_degreeIn_27 : decode cX1_degreeIn 27 = .ok (.invokevirtual 315, 3) := dk_182 1 59 (dk_at dksX1_degreeIn_1 4 rfl rfl)
theorem dX1_degreeIn_30 : decode cX1_degreeIn 30 = .ok (.invokevirtual 318, 3) := dk_182 1 62 (dk_at dksX1_degreeIn_1 7 rfl rfl)
theorem dX1_degreeIn_33 : decode cX1_degreeIn 33 = .ok (.ifCond .eq 7, 3) := dk_153 0 7 (dk_at dksX1_degreeIn_1 10 rfl rfl)
theorem dX1_degreeIn_36 : decode cX1_degreeIn 36 = .ok (.iconst (-1), 1) := dk_2 (dk_at dksX1_degreeIn_1 13 rfl rfl)
theorem dX1_degreeIn_37 : decode cX1_degreeIn 37 = .ok (.goto 13, 3) := dk_167 0 13 (dk_at dksX1_degreeIn_1 14 rfl rfl)
theorem dX1_degreeIn_40 : decode cX1_degreeIn 40 = .ok (.aload_n 0, 1) := dk_42 (dk_at dksX1_degreeIn_1 17 rfl rfl)
theorem dX1_degreeIn_41 : decode cX1_degreeIn 41 = .ok (.getfield 232, 3) := dk_180 0 232 (dk_at dksX1_degreeIn_1 18 rfl rfl)
theorem dX1_degreeIn_44 : decode cX1_degreeIn 44 = .ok (.iload_n 1, 1) := dk_27 (dk_at dksX1_degreeIn_1 21 rfl rfl)
theorem dX1_degreeIn_45 : decode cX1_degreeIn 45 = .ok (.aaload, 1) := dk_50 (dk_at dksX1_degreeIn_1 22 rfl rfl)
theorem dX1_degreeIn_46 : decode cX1_degreeIn 46 = .ok (.iload_n 2, 1) := dk_28 (dk_at dksX1_degreeIn_1 23 rfl rfl)
theorem dX1_degreeIn_47 : decode cX1_degreeIn 47 = .ok (.invokevirtual 52, 3) := dk_182 0 52 (dk_at dksX1_degreeIn_2 0 rfl rfl)
theorem dX1_degreeIn_50 : decode cX1_degreeIn 50 = .ok (.ireturn, 1) := dk_172 (dk_at dksX1_degreeIn_2 3 rfl rfl)
abbrev cX1_isUnknown : ByteArray := prog_1_method_44_code
def yX1_isUnknown : MethodName := ⟨RX1, "isUnknown", "(I)Z"⟩
def dkwX1_isUnknown_0 : List UInt8 := [26, 3, 5, 184, 1, 15, 172]
abbrev dktX1_isUnknown_0 : List UInt8 := dkwX1_isUnknown_0 ++ []
theorem dksX1_isUnknown_0 : cX1_isUnknown.data.toList.drop 0 = dktX1_isUnknown_0 := by decide +kernel
theorem dX1_isUnknown_0 : decode cX1_isUnknown 0 = .ok (.iload_n 0, 1) := dk_26 (dk_at dksX1_isUnknown_0 0 rfl rfl)
theorem dX1_isUnknown_1 : decode cX1_isUnknown 1 = .ok (.iconst 0, 1) := dk_3 (dk_at dksX1_isUnknown_0 1 rfl rfl)
theorem dX1_isUnknown_2 : decode cX1_isUnknown 2 = .ok (.iconst 2, 1) := dk_5 (dk_at dksX1_isUnknown_0 2 rfl rfl)
theorem dX1_isUnknown_3 : decode cX1_isUnknown 3 = .ok (.invokestatic 271, 3) := dk_184 1 15 (dk_at dksX1_isUnknown_0 3 rfl rfl)
theorem dX1_isUnknown_6 : decode cX1_isUnknown 6 = .ok (.ireturn, 1) := dk_172 (dk_at dksX1_isUnknown_0 6 rfl rfl)
abbrev cX1_coefficient : ByteArray := prog_1_method_53_code
def yX1_coefficient : MethodName := ⟨RX1, "coefficient", "(IIII)I"⟩
def dkwX1_coefficient_2 : List UInt8 := [50, 182, 1, 84, 28, 29, 21, 4, 184, 0, 199, 46, 172]
abbrev dktX1_coefficient_2 : List UInt8 := dkwX1_coefficient_2 ++ []
def dkwX1_coefficient_1 : List UInt8 := [5, 21, 4, 79, 184, 1, 81, 182, 1, 4, 182, 1, 62, 153, 0, 5, 2, 172, 42, 42, 180, 0, 232, 27]
abbrev dktX1_coefficient_1 : List UInt8 := dkwX1_coefficient_1 ++ dktX1_coefficient_2
def dkwX1_coefficient_0 : List UInt8 := [42, 42, 4, 188, 10, 89, 3, 27, 79, 184, 1, 69, 6, 188, 10, 89, 3, 28, 79, 89, 4, 29, 79, 89]
abbrev dktX1_coefficient_0 : List UInt8 := dkwX1_coefficient_0 ++ dktX1_coefficient_1
theorem dksX1_coefficient_0 : cX1_coefficient.data.toList.drop 0 = dktX1_coefficient_0 := by decide +kernel
theorem dksX1_coefficient_1 : cX1_coefficient.data.toList.drop 24 = dktX1_coefficient_1 := dk_seg dksX1_coefficient_0 24 rfl rfl
theorem dksX1_coefficient_2 : cX1_coefficient.data.toList.drop 48 = dktX1_coefficient_2 := dk_seg dksX1_coefficient_1 24 rfl rfl
theorem dX1_coefficient_0 : decode cX1_coefficient 0 = .ok (.aload_n 0, 1) := dk_42 (dk_at dksX1_coefficient_0 0 rfl rfl)
theorem dX1_coefficient_1 : decode cX1_coefficient 1 = .ok (.aload_n 0, 1) := dk_42 (dk_at dksX1_coefficient_0 1 rfl rfl)
theorem dX1_coefficient_2 : decode cX1_coefficient 2 = .ok (.iconst 1, 1) := dk_4 (dk_at dksX1_coefficient_0 2 rfl rfl)
theorem dX1_coefficient_3 : decode cX1_coefficient 3 = .ok (.newarray .int, 2) := dk_188_10 (dk_at dksX1_coefficient_0 3 rfl rfl)
theorem dX1_coefficient_5 : decode cX1_coefficient 5 = .ok (.dup, 1) := dk_89 (dk_at dksX1_coefficient_0 5 rfl rfl)
theorem dX1_coefficient_6 : decode cX1_coefficient 6 = .ok (.iconst 0, 1) := dk_3 (dk_at dksX1_coefficient_0 6 rfl rfl)
theorem dX1_coefficient_7 : decode cX1_coefficient 7 = .ok (.iload_n 1, 1) := dk_27 (dk_at dksX1_coefficient_0 7 rfl rfl)
theorem dX1_coefficient_8 : decode cX1_coefficient 8 = .ok (.iastore, 1) := dk_79 (dk_at dksX1_coefficient_0 8 rfl rfl)
theorem dX1_coefficient_9 : decode cX1_coefficient 9 = .ok (.invokestatic 325, 3) := dk_184 1 69 (dk_at dksX1_coefficient_0 9 rfl rfl)
theorem dX1_coefficient_12 : decode cX1_coefficient 12 = .ok (.iconst 3, 1) := dk_6 (dk_at dksX1_coefficient_0 12 rfl rfl)
theorem dX1_coefficient_13 : decode cX1_coefficient 13 = .ok (.newarray .int, 2) := dk_188_10 (dk_at dksX1_coefficient_0 13 rfl rfl)
theorem dX1_coefficient_15 : decode cX1_coefficient 15 = .ok (.dup, 1) := dk_89 (dk_at dksX1_coefficient_0 15 rfl rfl)
theorem dX1_coefficient_16 : decode cX1_coefficient 16 = .ok (.iconst 0, 1) := dk_3 (dk_at dksX1_coefficient_0 16 rfl rfl)
theorem dX1_coefficient_17 : decode cX1_coefficient 17 = .ok (.iload_n 2, 1) := dk_28 (dk_at dksX1_coefficient_0 17 rfl rfl)
theorem dX1_coefficient_18 : decode cX1_coefficient 18 = .ok (.iastore, 1) := dk_79 (dk_at dksX1_coefficient_0 18 rfl rfl)
theorem dX1_coefficient_19 : decode cX1_coefficient 19 = .ok (.dup, 1) := dk_89 (dk_at dksX1_coefficient_0 19 rfl rfl)
theorem dX1_coefficient_20 : decode cX1_coefficient 20 = .ok (.iconst 1, 1) := dk_4 (dk_at dksX1_coefficient_0 20 rfl rfl)
theorem dX1_coefficient_21 : decode cX1_coefficient 21 = .ok (.iload_n 3, 1) := dk_29 (dk_at dksX1_coefficient_0 21 rfl rfl)
theorem dX1_coefficient_22 : decode cX1_coefficient 22 = .ok (.iastore, 1) := dk_79 (dk_at dksX1_coefficient_0 22 rfl rfl)
theorem dX1_coefficient_23 : decode cX1_coefficient 23 = .ok (.dup, 1) := dk_89 (dk_at dksX1_coefficient_0 23 rfl rfl)
theorem dX1_coefficient_24 : decode cX1_coefficient 24 = .ok (.iconst 2, 1) := dk_5 (dk_at dksX1_coefficient_1 0 rfl rfl)
theorem dX1_coefficient_25 : decode cX1_coefficient 25 = .ok (.iload 4, 2) := dk_21 4 (dk_at dksX1_coefficient_1 1 rfl rfl)
theorem dX1_coefficient_27 : decode cX1_coefficient 27 = .ok (.iastore, 1) := dk_79 (dk_at dksX1_coefficient_1 3 rfl rfl)
theorem dX1_coefficient_28 : decode cX1_coefficient 28 = .ok (.invokestatic 337, 3) := dk_184 1 81 (dk_at dksX1_coefficient_1 4 rfl rfl)
theorem dX1_coefficient_31 : decode cX1_coefficient 31 = .ok (.invokevirtual 260, 3) := dk_182 1 4 (dk_at dksX1_coefficient_1 7 rfl rfl)
theorem dX1_coefficient_34 : decode cX1_coefficient 34 = .ok (.invokevirtual 318, 3) := dk_182 1 62 (dk_at dksX1_coefficient_1 10 rfl rfl)
theorem dX1_coefficient_37 : decode cX1_coefficient 37 = .ok (.ifCond .eq 5, 3) := dk_153 0 5 (dk_at dksX1_coefficient_1 13 rfl rfl)
theorem dX1_coefficient_40 : decode cX1_coefficient 40 = .ok (.iconst (-1), 1) := dk_2 (dk_at dksX1_coefficient_1 16 rfl rfl)
theorem dX1_coefficient_41 : decode cX1_coefficient 41 = .ok (.ireturn, 1) := dk_172 (dk_at dksX1_coefficient_1 17 rfl rfl)
theorem dX1_coefficient_42 : decode cX1_coefficient 42 = .ok (.aload_n 0, 1) := dk_42 (dk_at dksX1_coefficient_1 18 rfl rfl)
theorem dX1_coefficient_43 : decode cX1_coefficient 43 = .ok (.aload_n 0, 1) := dk_42 (dk_at dksX1_coefficient_1 19 rfl rfl)
theorem dX1_coefficient_44 : decode cX1_coefficient 44 = .ok (.getfield 232, 3) := dk_180 0 232 (dk_at dksX1_coefficient_1 20 rfl rfl)
theorem dX1_coefficient_47 : decode cX1_coefficient 47 = .ok (.iload_n 1, 1) := dk_27 (dk_at dksX1_coefficient_1 23 rfl rfl)
theorem dX1_coefficient_48 : decode cX1_coefficient 48 = .ok (.aaload, 1) := dk_50 (dk_at dksX1_coefficient_2 0 rfl rfl)
theorem dX1_coefficient_49 : decode cX1_coefficient 49 = .ok (.invokevirtual 340, 3) := dk_182 1 84 (dk_at dksX1_coefficient_2 1 rfl rfl)
theorem dX1_coefficient_52 : decode cX1_coefficient 52 = .ok (.iload_n 2, 1) := dk_28 (dk_at dksX1_coefficient_2 4 rfl rfl)
theorem dX1_coefficient_53 : decode cX1_coefficient 53 = .ok (.iload_n 3, 1) := dk_29 (dk_at dksX1_coefficient_2 5 rfl rfl)
theorem dX1_coefficient_54 : decode cX1_coefficient 54 = .ok (.iload 4, 2) := dk_21 4 (dk_at dksX1_coefficient_2 6 rfl rfl)
theorem dX1_coefficient_56 : decode cX1_coefficient 56 = .ok (.invokestatic 199, 3) := dk_184 0 199 (dk_at dksX1_coefficient_2 8 rfl rfl)
theorem dX1_coefficient_59 : decode cX1_coefficient 59 = .ok (.iaload, 1) := dk_46 (dk_at dksX1_coefficient_2 11 rfl rfl)
theorem dX1_coefficient_60 : decode cX1_coefficient 60 = .ok (.ireturn, 1) := dk_172 (dk_at dksX1_coefficient_2 12 rfl rfl)
abbrev cX1_areExponents : ByteArray := prog_1_method_45_code
def yX1_areExponents : MethodName := ⟨RX1, "areExponents", "([I)Z"⟩
def dkwX1_areExponents_1 : List UInt8 := [184, 1, 15, 154, 0, 5, 3, 172, 132, 3, 1, 167, 255, 230, 4, 172]
abbrev dktX1_areExponents_1 : List UInt8 := dkwX1_areExponents_1 ++ []
def dkwX1_areExponents_0 : List UInt8 := [42, 76, 43, 190, 61, 3, 62, 29, 28, 162, 0, 27, 43, 29, 46, 54, 4, 21, 4, 3, 16, 15]
abbrev dktX1_areExponents_0 : List UInt8 := dkwX1_areExponents_0 ++ dktX1_areExponents_1
theorem dksX1_areExponents_0 : cX1_areExponents.data.toList.drop 0 = dktX1_areExponents_0 := by decide +kernel
theorem dksX1_areExponents_1 : cX1_areExponents.data.toList.drop 22 = dktX1_areExponents_1 := dk_seg dksX1_areExponents_0 22 rfl rfl
theorem dX1_areExponents_0 : decode cX1_areExponents 0 = .ok (.aload_n 0, 1) := dk_42 (dk_at dksX1_areExponents_0 0 rfl rfl)
theorem dX1_areExponents_1 : decode cX1_areExponents 1 = .ok (.astore_n 1, 1) := dk_76 (dk_at dksX1_areExponents_0 1 rfl rfl)
theorem dX1_areExponents_2 : decode cX1_areExponents 2 = .ok (.aload_n 1, 1) := dk_43 (dk_at dksX1_areExponents_0 2 rfl rfl)
theorem dX1_areExponents_3 : decode cX1_areExponents 3 = .ok (.arraylength, 1) := dk_190 (dk_at dksX1_areExponents_0 3 rfl rfl)
theorem dX1_areExponents_4 : decode cX1_areExponents 4 = .ok (.istore_n 2, 1) := dk_61 (dk_at dksX1_areExponents_0 4 rfl rfl)
theorem dX1_areExponents_5 : decode cX1_areExponents 5 = .ok (.iconst 0, 1) := dk_3 (dk_at dksX1_areExponents_0 5 rfl rfl)
theorem dX1_areExponents_6 : decode cX1_areExponents 6 = .ok (.istore_n 3, 1) := dk_62 (dk_at dksX1_areExponents_0 6 rfl rfl)
theorem dX1_areExponents_7 : decode cX1_areExponents 7 = .ok (.iload_n 3, 1) := dk_29 (dk_at dksX1_areExponents_0 7 rfl rfl)
theorem dX1_areExponents_8 : decode cX1_areExponents 8 = .ok (.iload_n 2, 1) := dk_28 (dk_at dksX1_areExponents_0 8 rfl rfl)
theorem dX1_areExponents_9 : decode cX1_areExponents 9 = .ok (.if_icmp .ge 27, 3) := dk_162 0 27 (dk_at dksX1_areExponents_0 9 rfl rfl)
theorem dX1_areExponents_12 : decode cX1_areExponents 12 = .ok (.aload_n 1, 1) := dk_43 (dk_at dksX1_areExponents_0 12 rfl rfl)
theorem dX1_areExponents_13 : decode cX1_areExponents 13 = .ok (.iload_n 3, 1) := dk_29 (dk_at dksX1_areExponents_0 13 rfl rfl)
theorem dX1_areExponents_14 : decode cX1_areExponents 14 = .ok (.iaload, 1) := dk_46 (dk_at dksX1_areExponents_0 14 rfl rfl)
theorem dX1_areExponents_15 : decode cX1_areExponents 15 = .ok (.istore 4, 2) := dk_54 4 (dk_at dksX1_areExponents_0 15 rfl rfl)
theorem dX1_areExponents_17 : decode cX1_areExponents 17 = .ok (.iload 4, 2) := dk_21 4 (dk_at dksX1_areExponents_0 17 rfl rfl)
theorem dX1_areExponents_19 : decode cX1_areExponents 19 = .ok (.iconst 0, 1) := dk_3 (dk_at dksX1_areExponents_0 19 rfl rfl)
theorem dX1_areExponents_20 : decode cX1_areExponents 20 = .ok (.bipush 15, 2) := dk_16 15 (dk_at dksX1_areExponents_0 20 rfl rfl)
theorem dX1_areExponents_22 : decode cX1_areExponents 22 = .ok (.invokestatic 271, 3) := dk_184 1 15 (dk_at dksX1_areExponents_1 0 rfl rfl)
theorem dX1_areExponents_25 : decode cX1_areExponents 25 = .ok (.ifCond .ne 5, 3) := dk_154 0 5 (dk_at dksX1_areExponents_1 3 rfl rfl)
theorem dX1_areExponents_28 : decode cX1_areExponents 28 = .ok (.iconst 0, 1) := dk_3 (dk_at dksX1_areExponents_1 6 rfl rfl)
theorem dX1_areExponents_29 : decode cX1_areExponents 29 = .ok (.ireturn, 1) := dk_172 (dk_at dksX1_areExponents_1 7 rfl rfl)
theorem dX1_areExponents_30 : decode cX1_areExponents 30 = .ok (.iinc 3 1, 3) := dk_132 3 1 (dk_at dksX1_areExponents_1 8 rfl rfl)
theorem dX1_areExponents_33 : decode cX1_areExponents 33 = .ok (.goto (-26), 3) := dk_167 255 230 (dk_at dksX1_areExponents_1 11 rfl rfl)
theorem dX1_areExponents_36 : decode cX1_areExponents 36 = .ok (.iconst 1, 1) := dk_4 (dk_at dksX1_areExponents_1 14 rfl rfl)
theorem dX1_areExponents_37 : decode cX1_areExponents 37 = .ok (.ireturn, 1) := dk_172 (dk_at dksX1_areExponents_1 15 rfl rfl)
abbrev cX1_spread : ByteArray := prog_1_method_17_code
def yX1_spread : MethodName := ⟨RX1, "spread", "(LTermDesk$Poly;)[I"⟩
def dkwX1_spread_1 : List UInt8 := [180, 0, 76, 29, 46, 79, 132, 3, 1, 167, 255, 231, 44, 176]
abbrev dktX1_spread_1 : List UInt8 := dkwX1_spread_1 ++ []
def dkwX1_spread_0 : List UInt8 := [42, 182, 0, 113, 77, 3, 62, 29, 43, 180, 0, 62, 162, 0, 23, 44, 43, 180, 0, 69, 29, 46, 43]
abbrev dktX1_spread_0 : List UInt8 := dkwX1_spread_0 ++ dktX1_spread_1
theorem dksX1_spread_0 : cX1_spread.data.toList.drop 0 = dktX1_spread_0 := by decide +kernel
theorem dksX1_spread_1 : cX1_spread.data.toList.drop 23 = dktX1_spread_1 := dk_seg dksX1_spread_0 23 rfl rfl
theorem dX1_spread_0 : decode cX1_spread 0 = .ok (.aload_n 0, 1) := dk_42 (dk_at dksX1_spread_0 0 rfl rfl)
theorem dX1_spread_1 : decode cX1_spread 1 = .ok (.invokevirtual 113, 3) := dk_182 0 113 (dk_at dksX1_spread_0 1 rfl rfl)
theorem dX1_spread_4 : decode cX1_spread 4 = .ok (.astore_n 2, 1) := dk_77 (dk_at dksX1_spread_0 4 rfl rfl)
theorem dX1_spread_5 : decode cX1_spread 5 = .ok (.iconst 0, 1) := dk_3 (dk_at dksX1_spread_0 5 rfl rfl)
theorem dX1_spread_6 : decode cX1_spread 6 = .ok (.istore_n 3, 1) := dk_62 (dk_at dksX1_spread_0 6 rfl rfl)
theorem dX1_spread_7 : decode cX1_spread 7 = .ok (.iload_n 3, 1) := dk_29 (dk_at dksX1_spread_0 7 rfl rfl)
theorem dX1_spread_8 : decode cX1_spread 8 = .ok (.aload_n 1, 1) := dk_43 (dk_at dksX1_spread_0 8 rfl rfl)
theorem dX1_spread_9 : decode cX1_spread 9 = .ok (.getfield 62, 3) := dk_180 0 62 (dk_at dksX1_spread_0 9 rfl rfl)
theorem dX1_spread_12 : decode cX1_spread 12 = .ok (.if_icmp .ge 23, 3) := dk_162 0 23 (dk_at dksX1_spread_0 12 rfl rfl)
theorem dX1_spread_15 : decode cX1_spread 15 = .ok (.aload_n 2, 1) := dk_44 (dk_at dksX1_spread_0 15 rfl rfl)
theorem dX1_spread_16 : decode cX1_spread 16 = .ok (.aload_n 1, 1) := dk_43 (dk_at dksX1_spread_0 16 rfl rfl)
theorem dX1_spread_17 : decode cX1_spread 17 = .ok (.getfield 69, 3) := dk_180 0 69 (dk_at dksX1_spread_0 17 rfl rfl)
theorem dX1_spread_20 : decode cX1_spread 20 = .ok (.iload_n 3, 1) := dk_29 (dk_at dksX1_spread_0 20 rfl rfl)
theorem dX1_spread_21 : decode cX1_spread 21 = .ok (.iaload, 1) := dk_46 (dk_at dksX1_spread_0 21 rfl rfl)
theorem dX1_spread_22 : decode cX1_spread 22 = .ok (.aload_n 1, 1) := dk_43 (dk_at dksX1_spread_0 22 rfl rfl)
theorem dX1_spread_23 : decode cX1_spread 23 = .ok (.getfield 76, 3) := dk_180 0 76 (dk_at dksX1_spread_1 0 rfl rfl)
theorem dX1_spread_26 : decode cX1_spread 26 = .ok (.iload_n 3, 1) := dk_29 (dk_at dksX1_spread_1 3 rfl rfl)
theorem dX1_spread_27 : decode cX1_spread 27 = .ok (.iaload, 1) := dk_46 (dk_at dksX1_spread_1 4 rfl rfl)
theorem dX1_spread_28 : decode cX1_spread 28 = .ok (.iastore, 1) := dk_79 (dk_at dksX1_spread_1 5 rfl rfl)
theorem dX1_spread_29 : decode cX1_spread 29 = .ok (.iinc 3 1, 3) := dk_132 3 1 (dk_at dksX1_spread_1 6 rfl rfl)
theorem dX1_spread_32 : decode cX1_spread 32 = .ok (.goto (-25), 3) := dk_167 255 231 (dk_at dksX1_spread_1 9 rfl rfl)
theorem dX1_spread_35 : decode cX1_spread 35 = .ok (.aload_n 2, 1) := dk_44 (dk_at dksX1_spread_1 12 rfl rfl)
theorem dX1_spread_36 : decode cX1_spread 36 = .ok (.areturn, 1) := dk_176 (dk_at dksX1_spread_1 13 rfl rfl)
abbrev cX1_packed : ByteArray := prog_1_method_2_code
def yX1_packed : MethodName := ⟨RX1, "packed", "(III)I"⟩
def dkwX1_packed_0 : List UInt8 := [26, 27, 7, 120, 128, 28, 16, 8, 120, 128, 172]
abbrev dktX1_packed_0 : List UInt8 := dkwX1_packed_0 ++ []
theorem dksX1_packed_0 : cX1_packed.data.toList.drop 0 = dktX1_packed_0 := by decide +kernel
theorem dX1_packed_0 : decode cX1_packed 0 = .ok (.iload_n 0, 1) := dk_26 (dk_at dksX1_packed_0 0 rfl rfl)
theorem dX1_packed_1 : decode cX1_packed 1 = .ok (.iload_n 1, 1) := dk_27 (dk_at dksX1_packed_0 1 rfl rfl)
theorem dX1_packed_2 : decode cX1_packed 2 = .ok (.iconst 4, 1) := dk_7 (dk_at dksX1_packed_0 2 rfl rfl)
theorem dX1_packed_3 : decode cX1_packed 3 = .ok (.ishl, 1) := dk_120 (dk_at dksX1_packed_0 3 rfl rfl)
theorem dX1_packed_4 : decode cX1_packed 4 = .ok (.ior, 1) := dk_128 (dk_at dksX1_packed_0 4 rfl rfl)
theorem dX1_packed_5 : decode cX1_packed 5 = .ok (.iload_n 2, 1) := dk_28 (dk_at dksX1_packed_0 5 rfl rfl)
theorem dX1_packed_6 : decode cX1_packed 6 = .ok (.bipush 8, 2) := dk_16 8 (dk_at dksX1_packed_0 6 rfl rfl)
theorem dX1_packed_8 : decode cX1_packed 8 = .ok (.ishl, 1) := dk_120 (dk_at dksX1_packed_0 8 rfl rfl)
theorem dX1_packed_9 : decode cX1_packed 9 = .ok (.ior, 1) := dk_128 (dk_at dksX1_packed_0 9 rfl rfl)
theorem dX1_packed_10 : decode cX1_packed 10 = .ok (.ireturn, 1) := dk_172 (dk_at dksX1_packed_0 10 rfl rfl)
abbrev cX1_value : ByteArray := prog_1_method_56_code
def yX1_value : MethodName := ⟨RX1, "value", "(IIII)I"⟩
def dkwX1_value_2 : List UInt8 := [180, 0, 232, 27, 50, 28, 29, 21, 4, 182, 1, 94, 172]
abbrev dktX1_value_2 : List UInt8 := dkwX1_value_2 ++ []
def dkwX1_value_1 : List UInt8 := [89, 5, 21, 4, 79, 182, 1, 91, 182, 1, 4, 182, 1, 62, 153, 0, 7, 2, 167, 0, 17, 42, 42]
abbrev dktX1_value_1 : List UInt8 := dkwX1_value_1 ++ dktX1_value_2
def dkwX1_value_0 : List UInt8 := [42, 42, 4, 188, 10, 89, 3, 27, 79, 184, 1, 69, 42, 6, 188, 10, 89, 3, 28, 79, 89, 4, 29, 79]
abbrev dktX1_value_0 : List UInt8 := dkwX1_value_0 ++ dktX1_value_1
theorem dksX1_value_0 : cX1_value.data.toList.drop 0 = dktX1_value_0 := by decide +kernel
theorem dksX1_value_1 : cX1_value.data.toList.drop 24 = dktX1_value_1 := dk_seg dksX1_value_0 24 rfl rfl
theorem dksX1_value_2 : cX1_value.data.toList.drop 47 = dktX1_value_2 := dk_seg dksX1_value_1 23 rfl rfl
theorem dX1_value_0 : decode cX1_value 0 = .ok (.aload_n 0, 1) := dk_42 (dk_at dksX1_value_0 0 rfl rfl)
theorem dX1_value_1 : decode cX1_value 1 = .ok (.aload_n 0, 1) := dk_42 (dk_at dksX1_value_0 1 rfl rfl)
theorem dX1_value_2 : decode cX1_value 2 = .ok (.iconst 1, 1) := dk_4 (dk_at dksX1_value_0 2 rfl rfl)
theorem dX1_value_3 : decode cX1_value 3 = .ok (.newarray .int, 2) := dk_188_10 (dk_at dksX1_value_0 3 rfl rfl)
theorem dX1_value_5 : decode cX1_value 5 = .ok (.dup, 1) := dk_89 (dk_at dksX1_value_0 5 rfl rfl)
theorem dX1_value_6 : decode cX1_value 6 = .ok (.iconst 0, 1) := dk_3 (dk_at dksX1_value_0 6 rfl rfl)
theorem dX1_value_7 : decode cX1_value 7 = .ok (.iload_n 1, 1) := dk_27 (dk_at dksX1_value_0 7 rfl rfl)
theorem dX1_value_8 : decode cX1_value 8 = .ok (.iastore, 1) := dk_79 (dk_at dksX1_value_0 8 rfl rfl)
theorem dX1_value_9 : decode cX1_value 9 = .ok (.invokestatic 325, 3) := dk_184 1 69 (dk_at dksX1_value_0 9 rfl rfl)
theorem dX1_value_12 : decode cX1_value 12 = .ok (.aload_n 0, 1) := dk_42 (dk_at dksX1_value_0 12 rfl rfl)
theorem dX1_value_13 : decode cX1_value 13 = .ok (.iconst 3, 1) := dk_6 (dk_at dksX1_value_0 13 rfl rfl)
theorem dX1_value_14 : decode cX1_value 14 = .ok (.newarray .int, 2) := dk_188_10 (dk_at dksX1_value_0 14 rfl rfl)
theorem dX1_value_16 : decode cX1_value 16 = .ok (.dup, 1) := dk_89 (dk_at dksX1_value_0 16 rfl rfl)
theorem dX1_value_17 : decode cX1_value 17 = .ok (.iconst 0, 1) := dk_3 (dk_at dksX1_value_0 17 rfl rfl)
theorem dX1_value_18 : decode cX1_value 18 = .ok (.iload_n 2, 1) := dk_28 (dk_at dksX1_value_0 18 rfl rfl)
theorem dX1_value_19 : decode cX1_value 19 = .ok (.iastore, 1) := dk_79 (dk_at dksX1_value_0 19 rfl rfl)
theorem dX1_value_20 : decode cX1_value 20 = .ok (.dup, 1) := dk_89 (dk_at dksX1_value_0 20 rfl rfl)
theorem dX1_value_21 : decode cX1_value 21 = .ok (.iconst 1, 1) := dk_4 (dk_at dksX1_value_0 21 rfl rfl)
theorem dX1_value_22 : decode cX1_value 22 = .ok (.iload_n 3, 1) := dk_29 (dk_at dksX1_value_0 22 rfl rfl)
theorem dX1_value_23 : decode cX1_value 23 = .ok (.iastore, 1) := dk_79 (dk_at dksX1_value_0 23 rfl rfl)
theorem dX1_value_24 : decode cX1_value 24 = .ok (.dup, 1) := dk_89 (dk_at dksX1_value_1 0 rfl rfl)
theorem dX1_value_25 : decode cX1_value 25 = .ok (.iconst 2, 1) := dk_5 (dk_at dksX1_value_1 1 rfl rfl)
theorem dX1_value_26 : decode cX1_value 26 = .ok (.iload 4, 2) := dk_21 4 (dk_at dksX1_value_1 2 rfl rfl)
theorem dX1_value_28 : decode cX1_value 28 = .ok (.iastore, 1) := dk_79 (dk_at dksX1_value_1 4 rfl rfl)
theorem dX1_value_29 : decode cX1_value 29 = .ok (.invokevirtual 347, 3) := dk_182 1 91 (dk_at dksX1_value_1 5 rfl rfl)
theorem dX1_value_32 : decode cX1_value 32 = .ok (.invokevirtual 260, 3) := dk_182 1 4 (dk_at dksX1_value_1 8 rfl rfl)
theorem dX1_value_35 : decode cX1_value 35 = .ok (.invokevirtual 318, 3) := dk_182 1 62 (dk_at dksX1_value_1 11 rfl rfl)
theorem dX1_value_38 : decode cX1_value 38 = .ok (.ifCond .eq 7, 3) := dk_153 0 7 (dk_at dksX1_value_1 14 rfl rfl)
theorem dX1_value_41 : decode cX1_value 41 = .ok (.iconst (-1), 1) := dk_2 (dk_at dksX1_value_1 17 rfl rfl)
theorem dX1_value_42 : decode cX1_value 42 = .ok (.goto 17, 3) := dk_167 0 17 (dk_at dksX1_value_1 18 rfl rfl)
theorem dX1_value_45 : decode cX1_value 45 = .ok (.aload_n 0, 1) := dk_42 (dk_at dksX1_value_1 21 rfl rfl)
theorem dX1_value_46 : decode cX1_value 46 = .ok (.aload_n 0, 1) := dk_42 (dk_at dksX1_value_1 22 rfl rfl)
theorem dX1_value_47 : decode cX1_value 47 = .ok (.getfield 232, 3) := dk_180 0 232 (dk_at dksX1_value_2 0 rfl rfl)
theorem dX1_value_50 : decode cX1_value 50 = .ok (.iload_n 1, 1) := dk_27 (dk_at dksX1_value_2 3 rfl rfl)
theorem dX1_value_51 : decode cX1_value 51 = .ok (.aaload, 1) := dk_50 (dk_at dksX1_value_2 4 rfl rfl)
theorem dX1_value_52 : decode cX1_value 52 = .ok (.iload_n 2, 1) := dk_28 (dk_at dksX1_value_2 5 rfl rfl)
theorem dX1_value_53 : decode cX1_value 53 = .ok (.iload_n 3, 1) := dk_29 (dk_at dksX1_value_2 6 rfl rfl)
theorem dX1_value_54 : decode cX1_value 54 = .ok (.iload 4, 2) := dk_21 4 (dk_at dksX1_value_2 7 rfl rfl)
theorem dX1_value_56 : decode cX1_value 56 = .ok (.invokevirtual 350, 3) := dk_182 1 94 (dk_at dksX1_value_2 9 rfl rfl)
theorem dX1_value_59 : decode cX1_value 59 = .ok (.ireturn, 1) := dk_172 (dk_at dksX1_value_2 12 rfl rfl)
abbrev cX1_areValues : ByteArray := prog_1_method_46_code
def yX1_areValues : MethodName := ⟨RX1, "areValues", "([I)Z"⟩
def dkwX1_areValues_1 : List UInt8 := [180, 0, 23, 4, 100, 184, 1, 15, 154, 0, 5, 3, 172, 132, 4, 1, 167, 255, 224, 4, 172]
abbrev dktX1_areValues_1 : List UInt8 := dkwX1_areValues_1 ++ []
def dkwX1_areValues_0 : List UInt8 := [43, 77, 44, 190, 62, 3, 54, 4, 21, 4, 29, 162, 0, 32, 44, 21, 4, 46, 54, 5, 21, 5, 3, 42]
abbrev dktX1_areValues_0 : List UInt8 := dkwX1_areValues_0 ++ dktX1_areValues_1
theorem dksX1_areValues_0 : cX1_areValues.data.toList.drop 0 = dktX1_areValues_0 := by decide +kernel
theorem dksX1_areValues_1 : cX1_areValues.data.toList.drop 24 = dktX1_areValues_1 := dk_seg dksX1_areValues_0 24 rfl rfl
theorem dX1_areValues_0 : decode cX1_areValues 0 = .ok (.aload_n 1, 1) := dk_43 (dk_at dksX1_areValues_0 0 rfl rfl)
theorem dX1_areValues_1 : decode cX1_areValues 1 = .ok (.astore_n 2, 1) := dk_77 (dk_at dksX1_areValues_0 1 rfl rfl)
theorem dX1_areValues_2 : decode cX1_areValues 2 = .ok (.aload_n 2, 1) := dk_44 (dk_at dksX1_areValues_0 2 rfl rfl)
theorem dX1_areValues_3 : decode cX1_areValues 3 = .ok (.arraylength, 1) := dk_190 (dk_at dksX1_areValues_0 3 rfl rfl)
theorem dX1_areValues_4 : decode cX1_areValues 4 = .ok (.istore_n 3, 1) := dk_62 (dk_at dksX1_areValues_0 4 rfl rfl)
theorem dX1_areValues_5 : decode cX1_areValues 5 = .ok (.iconst 0, 1) := dk_3 (dk_at dksX1_areValues_0 5 rfl rfl)
theorem dX1_areValues_6 : decode cX1_areValues 6 = .ok (.istore 4, 2) := dk_54 4 (dk_at dksX1_areValues_0 6 rfl rfl)
theorem dX1_areValues_8 : decode cX1_areValues 8 = .ok (.iload 4, 2) := dk_21 4 (dk_at dksX1_areValues_0 8 rfl rfl)
theorem dX1_areValues_10 : decode cX1_areValues 10 = .ok (.iload_n 3, 1) := dk_29 (dk_at dksX1_areValues_0 10 rfl rfl)
theorem dX1_areValues_11 : decode cX1_areValues 11 = .ok (.if_icmp .ge 32, 3) := dk_162 0 32 (dk_at dksX1_areValues_0 11 rfl rfl)
theorem dX1_areValues_14 : decode cX1_areValues 14 = .ok (.aload_n 2, 1) := dk_44 (dk_at dksX1_areValues_0 14 rfl rfl)
theorem dX1_areValues_15 : decode cX1_areValues 15 = .ok (.iload 4, 2) := dk_21 4 (dk_at dksX1_areValues_0 15 rfl rfl)
theorem dX1_areValues_17 : decode cX1_areValues 17 = .ok (.iaload, 1) := dk_46 (dk_at dksX1_areValues_0 17 rfl rfl)
theorem dX1_areValues_18 : decode cX1_areValues 18 = .ok (.istore 5, 2) := dk_54 5 (dk_at dksX1_areValues_0 18 rfl rfl)
theorem dX1_areValues_20 : decode cX1_areValues 20 = .ok (.iload 5, 2) := dk_21 5 (dk_at dksX1_areValues_0 20 rfl rfl)
theorem dX1_areValues_22 : decode cX1_areValues 22 = .ok (.iconst 0, 1) := dk_3 (dk_at dksX1_areValues_0 22 rfl rfl)
theorem dX1_areValues_23 : decode cX1_areValues 23 = .ok (.aload_n 0, 1) := dk_42 (dk_at dksX1_areValues_0 23 rfl rfl)
theorem dX1_areValues_24 : decode cX1_areValues 24 = .ok (.getfield 23, 3) := dk_180 0 23 (dk_at dksX1_areValues_1 0 rfl rfl)
theorem dX1_areValues_27 : decode cX1_areValues 27 = .ok (.iconst 1, 1) := dk_4 (dk_at dksX1_areValues_1 3 rfl rfl)
theorem dX1_areValues_28 : decode cX1_areValues 28 = .ok (.isub, 1) := dk_100 (dk_at dksX1_areValues_1 4 rfl rfl)
theorem dX1_areValues_29 : decode cX1_areValues 29 = .ok (.invokestatic 271, 3) := dk_184 1 15 (dk_at dksX1_areValues_1 5 rfl rfl)
theorem dX1_areValues_32 : decode cX1_areValues 32 = .ok (.ifCond .ne 5, 3) := dk_154 0 5 (dk_at dksX1_areValues_1 8 rfl rfl)
theorem dX1_areValues_35 : decode cX1_areValues 35 = .ok (.iconst 0, 1) := dk_3 (dk_at dksX1_areValues_1 11 rfl rfl)
theorem dX1_areValues_36 : decode cX1_areValues 36 = .ok (.ireturn, 1) := dk_172 (dk_at dksX1_areValues_1 12 rfl rfl)
theorem dX1_areValues_37 : decode cX1_areValues 37 = .ok (.iinc 4 1, 3) := dk_132 4 1 (dk_at dksX1_areValues_1 13 rfl rfl)
theorem dX1_areValues_40 : decode cX1_areValues 40 = .ok (.goto (-32), 3) := dk_167 255 224 (dk_at dksX1_areValues_1 16 rfl rfl)
theorem dX1_areValues_43 : decode cX1_areValues 43 = .ok (.iconst 1, 1) := dk_4 (dk_at dksX1_areValues_1 19 rfl rfl)
theorem dX1_areValues_44 : decode cX1_areValues 44 = .ok (.ireturn, 1) := dk_172 (dk_at dksX1_areValues_1 20 rfl rfl)
abbrev cX1_valueOf : ByteArray := prog_1_method_55_code
def yX1_valueOf : MethodName := ⟨RX1, "valueOf", "(LTermDesk$Poly;III)I"⟩
def dkwX1_valueOf_4 : List UInt8 := [132, 6, 1, 167, 255, 165, 21, 5, 172]
abbrev dktX1_valueOf_4 : List UInt8 := dkwX1_valueOf_4 ++ []
def dkwX1_valueOf_3 : List UInt8 := [180, 0, 69, 21, 6, 46, 5, 184, 0, 3, 182, 1, 88, 104, 96, 42, 180, 0, 23, 112, 54, 5]
abbrev dktX1_valueOf_3 : List UInt8 := dkwX1_valueOf_3 ++ dktX1_valueOf_4
def dkwX1_valueOf_2 : List UInt8 := [43, 180, 0, 69, 21, 6, 46, 4, 184, 0, 3, 182, 1, 88, 104, 42, 180, 0, 23, 112, 42, 21, 4, 43]
abbrev dktX1_valueOf_2 : List UInt8 := dkwX1_valueOf_2 ++ dktX1_valueOf_3
def dkwX1_valueOf_1 : List UInt8 := [42, 28, 43, 180, 0, 69, 21, 6, 46, 3, 184, 0, 3, 182, 1, 88, 104, 42, 180, 0, 23, 112, 42, 29]
abbrev dktX1_valueOf_1 : List UInt8 := dkwX1_valueOf_1 ++ dktX1_valueOf_2
def dkwX1_valueOf_0 : List UInt8 := [3, 54, 5, 3, 54, 6, 21, 6, 43, 180, 0, 62, 162, 0, 88, 21, 5, 43, 180, 0, 76, 21, 6, 46]
abbrev dktX1_valueOf_0 : List UInt8 := dkwX1_valueOf_0 ++ dktX1_valueOf_1
theorem dksX1_valueOf_0 : cX1_valueOf.data.toList.drop 0 = dktX1_valueOf_0 := by decide +kernel
theorem dksX1_valueOf_1 : cX1_valueOf.data.toList.drop 24 = dktX1_valueOf_1 := dk_seg dksX1_valueOf_0 24 rfl rfl
theorem dksX1_valueOf_2 : cX1_valueOf.data.toList.drop 48 = dktX1_valueOf_2 := dk_seg dksX1_valueOf_1 24 rfl rfl
theorem dksX1_valueOf_3 : cX1_valueOf.data.toList.drop 72 = dktX1_valueOf_3 := dk_seg dksX1_valueOf_2 24 rfl rfl
theorem dksX1_valueOf_4 : cX1_valueOf.data.toList.drop 94 = dktX1_valueOf_4 := dk_seg dksX1_valueOf_3 22 rfl rfl
theorem dX1_valueOf_0 : decode cX1_valueOf 0 = .ok (.iconst 0, 1) := dk_3 (dk_at dksX1_valueOf_0 0 rfl rfl)
theorem dX1_valueOf_1 : decode cX1_valueOf 1 = .ok (.istore 5, 2) := dk_54 5 (dk_at dksX1_valueOf_0 1 rfl rfl)
theorem dX1_valueOf_3 : decode cX1_valueOf 3 = .ok (.iconst 0, 1) := dk_3 (dk_at dksX1_valueOf_0 3 rfl rfl)
theorem dX1_valueOf_4 : decode cX1_valueOf 4 = .ok (.istore 6, 2) := dk_54 6 (dk_at dksX1_valueOf_0 4 rfl rfl)
theorem dX1_valueOf_6 : decode cX1_valueOf 6 = .ok (.iload 6, 2) := dk_21 6 (dk_at dksX1_valueOf_0 6 rfl rfl)
theorem dX1_valueOf_8 : decode cX1_valueOf 8 = .ok (.aload_n 1, 1) := dk_43 (dk_at dksX1_valueOf_0 8 rfl rfl)
theorem dX1_valueOf_9 : decode cX1_valueOf 9 = .ok (.getfield 62, 3) := dk_180 0 62 (dk_at dksX1_valueOf_0 9 rfl rfl)
theorem dX1_valueOf_12 : decode cX1_valueOf 12 = .ok (.if_icmp .ge 88, 3) := dk_162 0 88 (dk_at dksX1_valueOf_0 12 rfl rfl)
theorem dX1_valueOf_15 : decode cX1_valueOf 15 = .ok (.iload 5, 2) := dk_21 5 (dk_at dksX1_valueOf_0 15 rfl rfl)
theorem dX1_valueOf_17 : decode cX1_valueOf 17 = .ok (.aload_n 1, 1) := dk_43 (dk_at dksX1_valueOf_0 17 rfl rfl)
theorem dX1_valueOf_18 : decode cX1_valueOf 18 = .ok (.getfield 76, 3) := dk_180 0 76 (dk_at dksX1_valueOf_0 18 rfl rfl)
theorem dX1_valueOf_21 : decode cX1_valueOf 21 = .ok (.iload 6, 2) := dk_21 6 (dk_at dksX1_valueOf_0 21 rfl rfl)
theorem dX1_valueOf_23 : decode cX1_valueOf 23 = .ok (.iaload, 1) := dk_46 (dk_at dksX1_valueOf_0 23 rfl rfl)
theorem dX1_valueOf_24 : decode cX1_valueOf 24 = .ok (.aload_n 0, 1) := dk_42 (dk_at dksX1_valueOf_1 0 rfl rfl)
theorem dX1_valueOf_25 : decode cX1_valueOf 25 = .ok (.iload_n 2, 1) := dk_28 (dk_at dksX1_valueOf_1 1 rfl rfl)
theorem dX1_valueOf_26 : decode cX1_valueOf 26 = .ok (.aload_n 1, 1) := dk_43 (dk_at dksX1_valueOf_1 2 rfl rfl)
theorem dX1_valueOf_27 : decode cX1_valueOf 27 = .ok (.getfield 69, 3) := dk_180 0 69 (dk_at dksX1_valueOf_1 3 rfl rfl)
theorem dX1_valueOf_30 : decode cX1_valueOf 30 = .ok (.iload 6, 2) := dk_21 6 (dk_at dksX1_valueOf_1 6 rfl rfl)
theorem dX1_valueOf_32 : decode cX1_valueOf 32 = .ok (.iaload, 1) := dk_46 (dk_at dksX1_valueOf_1 8 rfl rfl)
theorem dX1_valueOf_33 : decode cX1_valueOf 33 = .ok (.iconst 0, 1) := dk_3 (dk_at dksX1_valueOf_1 9 rfl rfl)
theorem dX1_valueOf_34 : decode cX1_valueOf 34 = .ok (.invokestatic 3, 3) := dk_184 0 3 (dk_at dksX1_valueOf_1 10 rfl rfl)
theorem dX1_valueOf_37 : decode cX1_valueOf 37 = .ok (.invokevirtual 344, 3) := dk_182 1 88 (dk_at dksX1_valueOf_1 13 rfl rfl)
theorem dX1_valueOf_40 : decode cX1_valueOf 40 = .ok (.imul, 1) := dk_104 (dk_at dksX1_valueOf_1 16 rfl rfl)
theorem dX1_valueOf_41 : decode cX1_valueOf 41 = .ok (.aload_n 0, 1) := dk_42 (dk_at dksX1_valueOf_1 17 rfl rfl)
theorem dX1_valueOf_42 : decode cX1_valueOf 42 = .ok (.getfield 23, 3) := dk_180 0 23 (dk_at dksX1_valueOf_1 18 rfl rfl)
theorem dX1_valueOf_45 : decode cX1_valueOf 45 = .ok (.irem, 1) := dk_112 (dk_at dksX1_valueOf_1 21 rfl rfl)
theorem dX1_valueOf_46 : decode cX1_valueOf 46 = .ok (.aload_n 0, 1) := dk_42 (dk_at dksX1_valueOf_1 22 rfl rfl)
theorem dX1_valueOf_47 : decode cX1_valueOf 47 = .ok (.iload_n 3, 1) := dk_29 (dk_at dksX1_valueOf_1 23 rfl rfl)
theorem dX1_valueOf_48 : decode cX1_valueOf 48 = .ok (.aload_n 1, 1) := dk_43 (dk_at dksX1_valueOf_2 0 rfl rfl)
theorem dX1_valueOf_49 : decode cX1_valueOf 49 = .ok (.getfield 69, 3) := dk_180 0 69 (dk_at dksX1_valueOf_2 1 rfl rfl)
theorem dX1_valueOf_52 : decode cX1_valueOf 52 = .ok (.iload 6, 2) := dk_21 6 (dk_at dksX1_valueOf_2 4 rfl rfl)
theorem dX1_valueOf_54 : decode cX1_valueOf 54 = .ok (.iaload, 1) := dk_46 (dk_at dksX1_valueOf_2 6 rfl rfl)
theorem dX1_valueOf_55 : decode cX1_valueOf 55 = .ok (.iconst 1, 1) := dk_4 (dk_at dksX1_valueOf_2 7 rfl rfl)
theorem dX1_valueOf_56 : decode cX1_valueOf 56 = .ok (.invokestatic 3, 3) := dk_184 0 3 (dk_at dksX1_valueOf_2 8 rfl rfl)
theorem dX1_valueOf_59 : decode cX1_valueOf 59 = .ok (.invokevirtual 344, 3) := dk_182 1 88 (dk_at dksX1_valueOf_2 11 rfl rfl)
theorem dX1_valueOf_62 : decode cX1_valueOf 62 = .ok (.imul, 1) := dk_104 (dk_at dksX1_valueOf_2 14 rfl rfl)
theorem dX1_valueOf_63 : decode cX1_valueOf 63 = .ok (.aload_n 0, 1) := dk_42 (dk_at dksX1_valueOf_2 15 rfl rfl)
theorem dX1_valueOf_64 : decode cX1_valueOf 64 = .ok (.getfield 23, 3) := dk_180 0 23 (dk_at dksX1_valueOf_2 16 rfl rfl)
theorem dX1_valueOf_67 : decode cX1_valueOf 67 = .ok (.irem, 1) := dk_112 (dk_at dksX1_valueOf_2 19 rfl rfl)
theorem dX1_valueOf_68 : decode cX1_valueOf 68 = .ok (.aload_n 0, 1) := dk_42 (dk_at dksX1_valueOf_2 20 rfl rfl)
theorem dX1_valueOf_69 : decode cX1_valueOf 69 = .ok (.iload 4, 2) := dk_21 4 (dk_at dksX1_valueOf_2 21 rfl rfl)
theorem dX1_valueOf_71 : decode cX1_valueOf 71 = .ok (.aload_n 1, 1) := dk_43 (dk_at dksX1_valueOf_2 23 rfl rfl)
theorem dX1_valueOf_72 : decode cX1_valueOf 72 = .ok (.getfield 69, 3) := dk_180 0 69 (dk_at dksX1_valueOf_3 0 rfl rfl)
theorem dX1_valueOf_75 : decode cX1_valueOf 75 = .ok (.iload 6, 2) := dk_21 6 (dk_at dksX1_valueOf_3 3 rfl rfl)
theorem dX1_valueOf_77 : decode cX1_valueOf 77 = .ok (.iaload, 1) := dk_46 (dk_at dksX1_valueOf_3 5 rfl rfl)
theorem dX1_valueOf_78 : decode cX1_valueOf 78 = .ok (.iconst 2, 1) := dk_5 (dk_at dksX1_valueOf_3 6 rfl rfl)
theorem dX1_valueOf_79 : decode cX1_valueOf 79 = .ok (.invokestatic 3, 3) := dk_184 0 3 (dk_at dksX1_valueOf_3 7 rfl rfl)
theorem dX1_valueOf_82 : decode cX1_valueOf 82 = .ok (.invokevirtual 344, 3) := dk_182 1 88 (dk_at dksX1_valueOf_3 10 rfl rfl)
theorem dX1_valueOf_85 : decode cX1_valueOf 85 = .ok (.imul, 1) := dk_104 (dk_at dksX1_valueOf_3 13 rfl rfl)
theorem dX1_valueOf_86 : decode cX1_valueOf 86 = .ok (.iadd, 1) := dk_96 (dk_at dksX1_valueOf_3 14 rfl rfl)
theorem dX1_valueOf_87 : decode cX1_valueOf 87 = .ok (.aload_n 0, 1) := dk_42 (dk_at dksX1_valueOf_3 15 rfl rfl)
theorem dX1_valueOf_88 : decode cX1_valueOf 88 = .ok (.getfield 23, 3) := dk_180 0 23 (dk_at dksX1_valueOf_3 16 rfl rfl)
theorem dX1_valueOf_91 : decode cX1_valueOf 91 = .ok (.irem, 1) := dk_112 (dk_at dksX1_valueOf_3 19 rfl rfl)
theorem dX1_valueOf_92 : decode cX1_valueOf 92 = .ok (.istore 5, 2) := dk_54 5 (dk_at dksX1_valueOf_3 20 rfl rfl)
theorem dX1_valueOf_94 : decode cX1_valueOf 94 = .ok (.iinc 6 1, 3) := dk_132 6 1 (dk_at dksX1_valueOf_4 0 rfl rfl)
theorem dX1_valueOf_97 : decode cX1_valueOf 97 = .ok (.goto (-91), 3) := dk_167 255 165 (dk_at dksX1_valueOf_4 3 rfl rfl)
theorem dX1_valueOf_100 : decode cX1_valueOf 100 = .ok (.iload 5, 2) := dk_21 5 (dk_at dksX1_valueOf_4 6 rfl rfl)
theorem dX1_valueOf_102 : decode cX1_valueOf 102 = .ok (.ireturn, 1) := dk_172 (dk_at dksX1_valueOf_4 8 rfl rfl)
abbrev cX1_power : ByteArray := prog_1_method_54_code
def yX1_power : MethodName := ⟨RX1, "power", "(II)I"⟩
def dkwX1_power_1 : List UInt8 := [167, 255, 238, 29, 172]
abbrev dktX1_power_1 : List UInt8 := dkwX1_power_1 ++ []
def dkwX1_power_0 : List UInt8 := [4, 62, 3, 54, 4, 21, 4, 28, 162, 0, 18, 29, 27, 104, 42, 180, 0, 23, 112, 62, 132, 4, 1]
abbrev dktX1_power_0 : List UInt8 := dkwX1_power_0 ++ dktX1_power_1
theorem dksX1_power_0 : cX1_power.data.toList.drop 0 = dktX1_power_0 := by decide +kernel
theorem dksX1_power_1 : cX1_power.data.toList.drop 23 = dktX1_power_1 := dk_seg dksX1_power_0 23 rfl rfl
theorem dX1_power_0 : decode cX1_power 0 = .ok (.iconst 1, 1) := dk_4 (dk_at dksX1_power_0 0 rfl rfl)
theorem dX1_power_1 : decode cX1_power 1 = .ok (.istore_n 3, 1) := dk_62 (dk_at dksX1_power_0 1 rfl rfl)
theorem dX1_power_2 : decode cX1_power 2 = .ok (.iconst 0, 1) := dk_3 (dk_at dksX1_power_0 2 rfl rfl)
theorem dX1_power_3 : decode cX1_power 3 = .ok (.istore 4, 2) := dk_54 4 (dk_at dksX1_power_0 3 rfl rfl)
theorem dX1_power_5 : decode cX1_power 5 = .ok (.iload 4, 2) := dk_21 4 (dk_at dksX1_power_0 5 rfl rfl)
theorem dX1_power_7 : decode cX1_power 7 = .ok (.iload_n 2, 1) := dk_28 (dk_at dksX1_power_0 7 rfl rfl)
theorem dX1_power_8 : decode cX1_power 8 = .ok (.if_icmp .ge 18, 3) := dk_162 0 18 (dk_at dksX1_power_0 8 rfl rfl)
theorem dX1_power_11 : decode cX1_power 11 = .ok (.iload_n 3, 1) := dk_29 (dk_at dksX1_power_0 11 rfl rfl)
theorem dX1_power_12 : decode cX1_power 12 = .ok (.iload_n 1, 1) := dk_27 (dk_at dksX1_power_0 12 rfl rfl)
theorem dX1_power_13 : decode cX1_power 13 = .ok (.imul, 1) := dk_104 (dk_at dksX1_power_0 13 rfl rfl)
theorem dX1_power_14 : decode cX1_power 14 = .ok (.aload_n 0, 1) := dk_42 (dk_at dksX1_power_0 14 rfl rfl)
theorem dX1_power_15 : decode cX1_power 15 = .ok (.getfield 23, 3) := dk_180 0 23 (dk_at dksX1_power_0 15 rfl rfl)
theorem dX1_power_18 : decode cX1_power 18 = .ok (.irem, 1) := dk_112 (dk_at dksX1_power_0 18 rfl rfl)
theorem dX1_power_19 : decode cX1_power 19 = .ok (.istore_n 3, 1) := dk_62 (dk_at dksX1_power_0 19 rfl rfl)
theorem dX1_power_20 : decode cX1_power 20 = .ok (.iinc 4 1, 3) := dk_132 4 1 (dk_at dksX1_power_0 20 rfl rfl)
theorem dX1_power_23 : decode cX1_power 23 = .ok (.goto (-18), 3) := dk_167 255 238 (dk_at dksX1_power_1 0 rfl rfl)
theorem dX1_power_26 : decode cX1_power 26 = .ok (.iload_n 3, 1) := dk_29 (dk_at dksX1_power_1 3 rfl rfl)
theorem dX1_power_27 : decode cX1_power 27 = .ok (.ireturn, 1) := dk_172 (dk_at dksX1_power_1 4 rfl rfl)
abbrev cX1_roots : ByteArray := prog_1_method_57_code
def yX1_roots : MethodName := ⟨RX1, "roots", "(I)I"⟩
def dkwX1_roots_6 : List UInt8 := [108, 182, 1, 94, 154, 0, 7, 4, 167, 0, 4, 3, 96, 54, 6, 132, 7, 1, 167, 255, 205, 21, 6, 172]
abbrev dktX1_roots_6 : List UInt8 := dkwX1_roots_6 ++ []
def dkwX1_roots_5 : List UInt8 := [162, 0, 45, 21, 6, 42, 44, 21, 7, 29, 112, 21, 7, 29, 108, 21, 4, 112, 21, 7, 29, 108, 21, 4]
abbrev dktX1_roots_5 : List UInt8 := dkwX1_roots_5 ++ dktX1_roots_6
def dkwX1_roots_4 : List UInt8 := [17, 39, 16, 164, 0, 9, 42, 8, 182, 1, 19, 172, 3, 54, 7, 21, 7, 29, 21, 4, 104, 21, 5, 104]
abbrev dktX1_roots_4 : List UInt8 := dkwX1_roots_4 ++ dktX1_roots_5
def dkwX1_roots_3 : List UInt8 := [158, 0, 10, 42, 180, 0, 23, 167, 0, 4, 4, 54, 5, 3, 54, 6, 29, 21, 4, 104, 21, 5, 104]
abbrev dktX1_roots_3 : List UInt8 := dkwX1_roots_3 ++ dktX1_roots_4
def dkwX1_roots_2 : List UInt8 := [4, 182, 0, 52, 158, 0, 10, 42, 180, 0, 23, 167, 0, 4, 4, 54, 4, 44, 5, 182, 0, 52]
abbrev dktX1_roots_2 : List UInt8 := dkwX1_roots_2 ++ dktX1_roots_3
def dkwX1_roots_1 : List UInt8 := [180, 0, 232, 27, 50, 77, 44, 3, 182, 0, 52, 158, 0, 10, 42, 180, 0, 23, 167, 0, 4, 4, 62, 44]
abbrev dktX1_roots_1 : List UInt8 := dkwX1_roots_1 ++ dktX1_roots_2
def dkwX1_roots_0 : List UInt8 := [42, 42, 4, 188, 10, 89, 3, 27, 79, 184, 1, 69, 182, 1, 59, 182, 1, 62, 153, 0, 5, 2, 172, 42]
abbrev dktX1_roots_0 : List UInt8 := dkwX1_roots_0 ++ dktX1_roots_1
theorem dksX1_roots_0 : cX1_roots.data.toList.drop 0 = dktX1_roots_0 := by decide +kernel
theorem dksX1_roots_1 : cX1_roots.data.toList.drop 24 = dktX1_roots_1 := dk_seg dksX1_roots_0 24 rfl rfl
theorem dksX1_roots_2 : cX1_roots.data.toList.drop 48 = dktX1_roots_2 := dk_seg dksX1_roots_1 24 rfl rfl
theorem dksX1_roots_3 : cX1_roots.data.toList.drop 70 = dktX1_roots_3 := dk_seg dksX1_roots_2 22 rfl rfl
theorem dksX1_roots_4 : cX1_roots.data.toList.drop 93 = dktX1_roots_4 := dk_seg dksX1_roots_3 23 rfl rfl
theorem dksX1_roots_5 : cX1_roots.data.toList.drop 117 = dktX1_roots_5 := dk_seg dksX1_roots_4 24 rfl rfl
theorem dksX1_roots_6 : cX1_roots.data.toList.drop 141 = dktX1_roots_6 := dk_seg dksX1_roots_5 24 rfl rfl
theorem dX1_roots_0 : decode cX1_roots 0 = .ok (.aload_n 0, 1) := dk_42 (dk_at dksX1_roots_0 0 rfl rfl)
theorem dX1_roots_1 : decode cX1_roots 1 = .ok (.aload_n 0, 1) := dk_42 (dk_at dksX1_roots_0 1 rfl rfl)
theorem dX1_roots_2 : decode cX1_roots 2 = .ok (.iconst 1, 1) := dk_4 (dk_at dksX1_roots_0 2 rfl rfl)
theorem dX1_roots_3 : decode cX1_roots 3 = .ok (.newarray .int, 2) := dk_188_10 (dk_at dksX1_roots_0 3 rfl rfl)
theorem dX1_roots_5 : decode cX1_roots 5 = .ok (.dup, 1) := dk_89 (dk_at dksX1_roots_0 5 rfl rfl)
theorem dX1_roots_6 : decode cX1_roots 6 = .ok (.iconst 0, 1) := dk_3 (dk_at dksX1_roots_0 6 rfl rfl)
theorem dX1_roots_7 : decode cX1_roots 7 = .ok (.iload_n 1, 1) := dk_27 (dk_at dksX1_roots_0 7 rfl rfl)
theorem dX1_roots_8 : decode cX1_roots 8 = .ok (.iastore, 1) := dk_79 (dk_at dksX1_roots_0 8 rfl rfl)
theorem dX1_roots_9 : decode cX1_roots 9 = .ok (.invokestatic 325, 3) := dk_184 1 69 (dk_at dksX1_roots_0 9 rfl rfl)
theorem dX1_roots_12 : decode cX1_roots 12 = .ok (.invokevirtual 315, 3) := dk_182 1 59 (dk_at dksX1_roots_0 12 rfl rfl)
theorem dX1_roots_15 : decode cX1_roots 15 = .ok (.invokevirtual 318, 3) := dk_182 1 62 (dk_at dksX1_roots_0 15 rfl rfl)
theorem dX1_roots_18 : decode cX1_roots 18 = .ok (.ifCond .eq 5, 3) := dk_153 0 5 (dk_at dksX1_roots_0 18 rfl rfl)
theorem dX1_roots_21 : decode cX1_roots 21 = .ok (.iconst (-1), 1) := dk_2 (dk_at dksX1_roots_0 21 rfl rfl)
theorem dX1_roots_22 : decode cX1_roots 22 = .ok (.ireturn, 1) := dk_172 (dk_at dksX1_roots_0 22 rfl rfl)
theorem dX1_roots_23 : decode cX1_roots 23 = .ok (.aload_n 0, 1) := dk_42 (dk_at dksX1_roots_0 23 rfl rfl)
theorem dX1_roots_24 : decode cX1_roots 24 = .ok (.getfield 232, 3) := dk_180 0 232 (dk_at dksX1_roots_1 0 rfl rfl)
theorem dX1_roots_27 : decode cX1_roots 27 = .ok (.iload_n 1, 1) := dk_27 (dk_at dksX1_roots_1 3 rfl rfl)
theorem dX1_roots_28 : decode cX1_roots 28 = .ok (.aaload, 1) := dk_50 (dk_at dksX1_roots_1 4 rfl rfl)
theorem dX1_roots_29 : decode cX1_roots 29 = .ok (.astore_n 2, 1) := dk_77 (dk_at dksX1_roots_1 5 rfl rfl)
theorem dX1_roots_30 : decode cX1_roots 30 = .ok (.aload_n 2, 1) := dk_44 (dk_at dksX1_roots_1 6 rfl rfl)
theorem dX1_roots_31 : decode cX1_roots 31 = .ok (.iconst 0, 1) := dk_3 (dk_at dksX1_roots_1 7 rfl rfl)
theorem dX1_roots_32 : decode cX1_roots 32 = .ok (.invokevirtual 52, 3) := dk_182 0 52 (dk_at dksX1_roots_1 8 rfl rfl)
theorem dX1_roots_35 : decode cX1_roots 35 = .ok (.ifCond .le 10, 3) := dk_158 0 10 (dk_at dksX1_roots_1 11 rfl rfl)
theorem dX1_roots_38 : decode cX1_roots 38 = .ok (.aload_n 0, 1) := dk_42 (dk_at dksX1_roots_1 14 rfl rfl)
theorem dX1_roots_39 : decode cX1_roots 39 = .ok (.getfield 23, 3) := dk_180 0 23 (dk_at dksX1_roots_1 15 rfl rfl)
theorem dX1_roots_42 : decode cX1_roots 42 = .ok (.goto 4, 3) := dk_167 0 4 (dk_at dksX1_roots_1 18 rfl rfl)
theorem dX1_roots_45 : decode cX1_roots 45 = .ok (.iconst 1, 1) := dk_4 (dk_at dksX1_roots_1 21 rfl rfl)
theorem dX1_roots_46 : decode cX1_roots 46 = .ok (.istore_n 3, 1) := dk_62 (dk_at dksX1_roots_1 22 rfl rfl)
theorem dX1_roots_47 : decode cX1_roots 47 = .ok (.aload_n 2, 1) := dk_44 (dk_at dksX1_roots_1 23 rfl rfl)
theorem dX1_roots_48 : decode cX1_roots 48 = .ok (.iconst 1, 1) := dk_4 (dk_at dksX1_roots_2 0 rfl rfl)
theorem dX1_roots_49 : decode cX1_roots 49 = .ok (.invokevirtual 52, 3) := dk_182 0 52 (dk_at dksX1_roots_2 1 rfl rfl)
theorem dX1_roots_52 : decode cX1_roots 52 = .ok (.ifCond .le 10, 3) := dk_158 0 10 (dk_at dksX1_roots_2 4 rfl rfl)
theorem dX1_roots_55 : decode cX1_roots 55 = .ok (.aload_n 0, 1) := dk_42 (dk_at dksX1_roots_2 7 rfl rfl)
theorem dX1_roots_56 : decode cX1_roots 56 = .ok (.getfield 23, 3) := dk_180 0 23 (dk_at dksX1_roots_2 8 rfl rfl)
theorem dX1_roots_59 : decode cX1_roots 59 = .ok (.goto 4, 3) := dk_167 0 4 (dk_at dksX1_roots_2 11 rfl rfl)
theorem dX1_roots_62 : decode cX1_roots 62 = .ok (.iconst 1, 1) := dk_4 (dk_at dksX1_roots_2 14 rfl rfl)
theorem dX1_roots_63 : decode cX1_roots 63 = .ok (.istore 4, 2) := dk_54 4 (dk_at dksX1_roots_2 15 rfl rfl)
theorem dX1_roots_65 : decode cX1_roots 65 = .ok (.aload_n 2, 1) := dk_44 (dk_at dksX1_roots_2 17 rfl rfl)
theorem dX1_roots_66 : decode cX1_roots 66 = .ok (.iconst 2, 1) := dk_5 (dk_at dksX1_roots_2 18 rfl rfl)
theorem dX1_roots_67 : decode cX1_roots 67 = .ok (.invokevirtual 52, 3) := dk_182 0 52 (dk_at dksX1_roots_2 19 rfl rfl)
theorem dX1_roots_70 : decode cX1_roots 70 = .ok (.ifCond .le 10, 3) := dk_158 0 10 (dk_at dksX1_roots_3 0 rfl rfl)
theorem dX1_roots_73 : decode cX1_roots 73 = .ok (.aload_n 0, 1) := dk_42 (dk_at dksX1_roots_3 3 rfl rfl)
theorem dX1_roots_74 : decode cX1_roots 74 = .ok (.getfield 23, 3) := dk_180 0 23 (dk_at dksX1_roots_3 4 rfl rfl)
theorem dX1_roots_77 : decode cX1_roots 77 = .ok (.goto 4, 3) := dk_167 0 4 (dk_at dksX1_roots_3 7 rfl rfl)
theorem dX1_roots_80 : decode cX1_roots 80 = .ok (.iconst 1, 1) := dk_4 (dk_at dksX1_roots_3 10 rfl rfl)
theorem dX1_roots_81 : decode cX1_roots 81 = .ok (.istore 5, 2) := dk_54 5 (dk_at dksX1_roots_3 11 rfl rfl)
theorem dX1_roots_83 : decode cX1_roots 83 = .ok (.iconst 0, 1) := dk_3 (dk_at dksX1_roots_3 13 rfl rfl)
theorem dX1_roots_84 : decode cX1_roots 84 = .ok (.istore 6, 2) := dk_54 6 (dk_at dksX1_roots_3 14 rfl rfl)
theorem dX1_roots_86 : decode cX1_roots 86 = .ok (.iload_n 3, 1) := dk_29 (dk_at dksX1_roots_3 16 rfl rfl)
theorem dX1_roots_87 : decode cX1_roots 87 = .ok (.iload 4, 2) := dk_21 4 (dk_at dksX1_roots_3 17 rfl rfl)
theorem dX1_roots_89 : decode cX1_roots 89 = .ok (.imul, 1) := dk_104 (dk_at dksX1_roots_3 19 rfl rfl)
theorem dX1_roots_90 : decode cX1_roots 90 = .ok (.iload 5, 2) := dk_21 5 (dk_at dksX1_roots_3 20 rfl rfl)
theorem dX1_roots_92 : decode cX1_roots 92 = .ok (.imul, 1) := dk_104 (dk_at dksX1_roots_3 22 rfl rfl)
theorem dX1_roots_93 : decode cX1_roots 93 = .ok (.sipush 10000, 3) := dk_17 39 16 (dk_at dksX1_roots_4 0 rfl rfl)
theorem dX1_roots_96 : decode cX1_roots 96 = .ok (.if_icmp .le 9, 3) := dk_164 0 9 (dk_at dksX1_roots_4 3 rfl rfl)
theorem dX1_roots_99 : decode cX1_roots 99 = .ok (.aload_n 0, 1) := dk_42 (dk_at dksX1_roots_4 6 rfl rfl)
theorem dX1_roots_100 : decode cX1_roots 100 = .ok (.iconst 5, 1) := dk_8 (dk_at dksX1_roots_4 7 rfl rfl)
theorem dX1_roots_101 : decode cX1_roots 101 = .ok (.invokevirtual 275, 3) := dk_182 1 19 (dk_at dksX1_roots_4 8 rfl rfl)
theorem dX1_roots_104 : decode cX1_roots 104 = .ok (.ireturn, 1) := dk_172 (dk_at dksX1_roots_4 11 rfl rfl)
theorem dX1_roots_105 : decode cX1_roots 105 = .ok (.iconst 0, 1) := dk_3 (dk_at dksX1_roots_4 12 rfl rfl)
theorem dX1_roots_106 : decode cX1_roots 106 = .ok (.istore 7, 2) := dk_54 7 (dk_at dksX1_roots_4 13 rfl rfl)
theorem dX1_roots_108 : decode cX1_roots 108 = .ok (.iload 7, 2) := dk_21 7 (dk_at dksX1_roots_4 15 rfl rfl)
theorem dX1_roots_110 : decode cX1_roots 110 = .ok (.iload_n 3, 1) := dk_29 (dk_at dksX1_roots_4 17 rfl rfl)
theorem dX1_roots_111 : decode cX1_roots 111 = .ok (.iload 4, 2) := dk_21 4 (dk_at dksX1_roots_4 18 rfl rfl)
theorem dX1_roots_113 : decode cX1_roots 113 = .ok (.imul, 1) := dk_104 (dk_at dksX1_roots_4 20 rfl rfl)
theorem dX1_roots_114 : decode cX1_roots 114 = .ok (.iload 5, 2) := dk_21 5 (dk_at dksX1_roots_4 21 rfl rfl)
theorem dX1_roots_116 : decode cX1_roots 116 = .ok (.imul, 1) := dk_104 (dk_at dksX1_roots_4 23 rfl rfl)
theorem dX1_roots_117 : decode cX1_roots 117 = .ok (.if_icmp .ge 45, 3) := dk_162 0 45 (dk_at dksX1_roots_5 0 rfl rfl)
theorem dX1_roots_120 : decode cX1_roots 120 = .ok (.iload 6, 2) := dk_21 6 (dk_at dksX1_roots_5 3 rfl rfl)
theorem dX1_roots_122 : decode cX1_roots 122 = .ok (.aload_n 0, 1) := dk_42 (dk_at dksX1_roots_5 5 rfl rfl)
theorem dX1_roots_123 : decode cX1_roots 123 = .ok (.aload_n 2, 1) := dk_44 (dk_at dksX1_roots_5 6 rfl rfl)
theorem dX1_roots_124 : decode cX1_roots 124 = .ok (.iload 7, 2) := dk_21 7 (dk_at dksX1_roots_5 7 rfl rfl)
theorem dX1_roots_126 : decode cX1_roots 126 = .ok (.iload_n 3, 1) := dk_29 (dk_at dksX1_roots_5 9 rfl rfl)
theorem dX1_roots_127 : decode cX1_roots 127 = .ok (.irem, 1) := dk_112 (dk_at dksX1_roots_5 10 rfl rfl)
theorem dX1_roots_128 : decode cX1_roots 128 = .ok (.iload 7, 2) := dk_21 7 (dk_at dksX1_roots_5 11 rfl rfl)
theorem dX1_roots_130 : decode cX1_roots 130 = .ok (.iload_n 3, 1) := dk_29 (dk_at dksX1_roots_5 13 rfl rfl)
theorem dX1_roots_131 : decode cX1_roots 131 = .ok (.idiv, 1) := dk_108 (dk_at dksX1_roots_5 14 rfl rfl)
theorem dX1_roots_132 : decode cX1_roots 132 = .ok (.iload 4, 2) := dk_21 4 (dk_at dksX1_roots_5 15 rfl rfl)
theorem dX1_roots_134 : decode cX1_roots 134 = .ok (.irem, 1) := dk_112 (dk_at dksX1_roots_5 17 rfl rfl)
theorem dX1_roots_135 : decode cX1_roots 135 = .ok (.iload 7, 2) := dk_21 7 (dk_at dksX1_roots_5 18 rfl rfl)
theorem dX1_roots_137 : decode cX1_roots 137 = .ok (.iload_n 3, 1) := dk_29 (dk_at dksX1_roots_5 20 rfl rfl)
theorem dX1_roots_138 : decode cX1_roots 138 = .ok (.idiv, 1) := dk_108 (dk_at dksX1_roots_5 21 rfl rfl)
theorem dX1_roots_139 : decode cX1_roots 139 = .ok (.iload 4, 2) := dk_21 4 (dk_at dksX1_roots_5 22 rfl rfl)
theorem dX1_roots_141 : decode cX1_roots 141 = .ok (.idiv, 1) := dk_108 (dk_at dksX1_roots_6 0 rfl rfl)
theorem dX1_roots_142 : decode cX1_roots 142 = .ok (.invokevirtual 350, 3) := dk_182 1 94 (dk_at dksX1_roots_6 1 rfl rfl)
theorem dX1_roots_145 : decode cX1_roots 145 = .ok (.ifCond .ne 7, 3) := dk_154 0 7 (dk_at dksX1_roots_6 4 rfl rfl)
theorem dX1_roots_148 : decode cX1_roots 148 = .ok (.iconst 1, 1) := dk_4 (dk_at dksX1_roots_6 7 rfl rfl)
theorem dX1_roots_149 : decode cX1_roots 149 = .ok (.goto 4, 3) := dk_167 0 4 (dk_at dksX1_roots_6 8 rfl rfl)
theorem dX1_roots_152 : decode cX1_roots 152 = .ok (.iconst 0, 1) := dk_3 (dk_at dksX1_roots_6 11 rfl rfl)
theorem dX1_roots_153 : decode cX1_roots 153 = .ok (.iadd, 1) := dk_96 (dk_at dksX1_roots_6 12 rfl rfl)
theorem dX1_roots_154 : decode cX1_roots 154 = .ok (.istore 6, 2) := dk_54 6 (dk_at dksX1_roots_6 13 rfl rfl)
theorem dX1_roots_156 : decode cX1_roots 156 = .ok (.iinc 7 1, 3) := dk_132 7 1 (dk_at dksX1_roots_6 15 rfl rfl)
theorem dX1_roots_159 : decode cX1_roots 159 = .ok (.goto (-51), 3) := dk_167 255 205 (dk_at dksX1_roots_6 18 rfl rfl)
theorem dX1_roots_162 : decode cX1_roots 162 = .ok (.iload 6, 2) := dk_21 6 (dk_at dksX1_roots_6 21 rfl rfl)
theorem dX1_roots_164 : decode cX1_roots 164 = .ok (.ireturn, 1) := dk_172 (dk_at dksX1_roots_6 23 rfl rfl)
abbrev cX1_same : ByteArray := prog_1_method_58_code
def yX1_same : MethodName := ⟨RX1, "same", "(II)I"⟩
def dkwX1_same_2 : List UInt8 := [153, 0, 7, 4, 167, 0, 4, 3, 172]
abbrev dktX1_same_2 : List UInt8 := dkwX1_same_2 ++ []
def dkwX1_same_1 : List UInt8 := [153, 0, 7, 2, 167, 0, 26, 42, 180, 0, 232, 27, 50, 42, 180, 0, 232, 28, 50, 182, 1, 98]
abbrev dktX1_same_1 : List UInt8 := dkwX1_same_1 ++ dktX1_same_2
def dkwX1_same_0 : List UInt8 := [42, 42, 5, 188, 10, 89, 3, 27, 79, 89, 4, 28, 79, 184, 1, 69, 182, 1, 59, 182, 1, 62]
abbrev dktX1_same_0 : List UInt8 := dkwX1_same_0 ++ dktX1_same_1
theorem dksX1_same_0 : cX1_same.data.toList.drop 0 = dktX1_same_0 := by decide +kernel
theorem dksX1_same_1 : cX1_same.data.toList.drop 22 = dktX1_same_1 := dk_seg dksX1_same_0 22 rfl rfl
theorem dksX1_same_2 : cX1_same.data.toList.drop 44 = dktX1_same_2 := dk_seg dksX1_same_1 22 rfl rfl
theorem dX1_same_0 : decode cX1_same 0 = .ok (.aload_n 0, 1) := dk_42 (dk_at dksX1_same_0 0 rfl rfl)
theorem dX1_same_1 : decode cX1_same 1 = .ok (.aload_n 0, 1) := dk_42 (dk_at dksX1_same_0 1 rfl rfl)
theorem dX1_same_2 : decode cX1_same 2 = .ok (.iconst 2, 1) := dk_5 (dk_at dksX1_same_0 2 rfl rfl)
theorem dX1_same_3 : decode cX1_same 3 = .ok (.newarray .int, 2) := dk_188_10 (dk_at dksX1_same_0 3 rfl rfl)
theorem dX1_same_5 : decode cX1_same 5 = .ok (.dup, 1) := dk_89 (dk_at dksX1_same_0 5 rfl rfl)
theorem dX1_same_6 : decode cX1_same 6 = .ok (.iconst 0, 1) := dk_3 (dk_at dksX1_same_0 6 rfl rfl)
theorem dX1_same_7 : decode cX1_same 7 = .ok (.iload_n 1, 1) := dk_27 (dk_at dksX1_same_0 7 rfl rfl)
theorem dX1_same_8 : decode cX1_same 8 = .ok (.iastore, 1) := dk_79 (dk_at dksX1_same_0 8 rfl rfl)
theorem dX1_same_9 : decode cX1_same 9 = .ok (.dup, 1) := dk_89 (dk_at dksX1_same_0 9 rfl rfl)
theorem dX1_same_10 : decode cX1_same 10 = .ok (.iconst 1, 1) := dk_4 (dk_at dksX1_same_0 10 rfl rfl)
theorem dX1_same_11 : decode cX1_same 11 = .ok (.iload_n 2, 1) := dk_28 (dk_at dksX1_same_0 11 rfl rfl)
theorem dX1_same_12 : decode cX1_same 12 = .ok (.iastore, 1) := dk_79 (dk_at dksX1_same_0 12 rfl rfl)
theorem dX1_same_13 : decode cX1_same 13 = .ok (.invokestatic 325, 3) := dk_184 1 69 (dk_at dksX1_same_0 13 rfl rfl)
theorem dX1_same_16 : decode cX1_same 16 = .ok (.invokevirtual 315, 3) := dk_182 1 59 (dk_at dksX1_same_0 16 rfl rfl)
theorem dX1_same_19 : decode cX1_same 19 = .ok (.invokevirtual 318, 3) := dk_182 1 62 (dk_at dksX1_same_0 19 rfl rfl)
theorem dX1_same_22 : decode cX1_same 22 = .ok (.ifCond .eq 7, 3) := dk_153 0 7 (dk_at dksX1_same_1 0 rfl rfl)
theorem dX1_same_25 : decode cX1_same 25 = .ok (.iconst (-1), 1) := dk_2 (dk_at dksX1_same_1 3 rfl rfl)
theorem dX1_same_26 : decode cX1_same 26 = .ok (.goto 26, 3) := dk_167 0 26 (dk_at dksX1_same_1 4 rfl rfl)
theorem dX1_same_29 : decode cX1_same 29 = .ok (.aload_n 0, 1) := dk_42 (dk_at dksX1_same_1 7 rfl rfl)
theorem dX1_same_30 : decode cX1_same 30 = .ok (.getfield 232, 3) := dk_180 0 232 (dk_at dksX1_same_1 8 rfl rfl)
theorem dX1_same_33 : decode cX1_same 33 = .ok (.iload_n 1, 1) := dk_27 (dk_at dksX1_same_1 11 rfl rfl)
theorem dX1_same_34 : decode cX1_same 34 = .ok (.aaload, 1) := dk_50 (dk_at dksX1_same_1 12 rfl rfl)
theorem dX1_same_35 : decode cX1_same 35 = .ok (.aload_n 0, 1) := dk_42 (dk_at dksX1_same_1 13 rfl rfl)
theorem dX1_same_36 : decode cX1_same 36 = .ok (.getfield 232, 3) := dk_180 0 232 (dk_at dksX1_same_1 14 rfl rfl)
theorem dX1_same_39 : decode cX1_same 39 = .ok (.iload_n 2, 1) := dk_28 (dk_at dksX1_same_1 17 rfl rfl)
theorem dX1_same_40 : decode cX1_same 40 = .ok (.aaload, 1) := dk_50 (dk_at dksX1_same_1 18 rfl rfl)
theorem dX1_same_41 : decode cX1_same 41 = .ok (.invokevirtual 354, 3) := dk_182 1 98 (dk_at dksX1_same_1 19 rfl rfl)
theorem dX1_same_44 : decode cX1_same 44 = .ok (.ifCond .eq 7, 3) := dk_153 0 7 (dk_at dksX1_same_2 0 rfl rfl)
theorem dX1_same_47 : decode cX1_same 47 = .ok (.iconst 1, 1) := dk_4 (dk_at dksX1_same_2 3 rfl rfl)
theorem dX1_same_48 : decode cX1_same 48 = .ok (.goto 4, 3) := dk_167 0 4 (dk_at dksX1_same_2 4 rfl rfl)
theorem dX1_same_51 : decode cX1_same 51 = .ok (.iconst 0, 1) := dk_3 (dk_at dksX1_same_2 7 rfl rfl)
theorem dX1_same_52 : decode cX1_same 52 = .ok (.ireturn, 1) := dk_172 (dk_at dksX1_same_2 8 rfl rfl)
abbrev cX1_ahead : ByteArray := prog_1_method_59_code
def yX1_ahead : MethodName := ⟨RX1, "ahead", "(IIIIII)I"⟩
def dkwX1_ahead_3 : List UInt8 := [21, 6, 184, 0, 199, 185, 0, 65, 2, 0, 184, 1, 102, 172]
abbrev dktX1_ahead_3 : List UInt8 := dkwX1_ahead_3 ++ []
def dkwX1_ahead_2 : List UInt8 := [172, 42, 180, 0, 39, 27, 28, 29, 184, 0, 199, 185, 0, 65, 2, 0, 42, 180, 0, 39, 21, 4, 21, 5]
abbrev dktX1_ahead_2 : List UInt8 := dkwX1_ahead_2 ++ dktX1_ahead_3
def dkwX1_ahead_1 : List UInt8 := [89, 7, 21, 5, 79, 89, 8, 21, 6, 79, 184, 1, 81, 182, 1, 4, 182, 1, 62, 153, 0, 6, 16, 254]
abbrev dktX1_ahead_1 : List UInt8 := dkwX1_ahead_1 ++ dktX1_ahead_2
def dkwX1_ahead_0 : List UInt8 := [42, 42, 4, 16, 6, 188, 10, 89, 3, 27, 79, 89, 4, 28, 79, 89, 5, 29, 79, 89, 6, 21, 4, 79]
abbrev dktX1_ahead_0 : List UInt8 := dkwX1_ahead_0 ++ dktX1_ahead_1
theorem dksX1_ahead_0 : cX1_ahead.data.toList.drop 0 = dktX1_ahead_0 := by decide +kernel
theorem dksX1_ahead_1 : cX1_ahead.data.toList.drop 24 = dktX1_ahead_1 := dk_seg dksX1_ahead_0 24 rfl rfl
theorem dksX1_ahead_2 : cX1_ahead.data.toList.drop 48 = dktX1_ahead_2 := dk_seg dksX1_ahead_1 24 rfl rfl
theorem dksX1_ahead_3 : cX1_ahead.data.toList.drop 72 = dktX1_ahead_3 := dk_seg dksX1_ahead_2 24 rfl rfl
theorem dX1_ahead_0 : decode cX1_ahead 0 = .ok (.aload_n 0, 1) := dk_42 (dk_at dksX1_ahead_0 0 rfl rfl)
theorem dX1_ahead_1 : decode cX1_ahead 1 = .ok (.aload_n 0, 1) := dk_42 (dk_at dksX1_ahead_0 1 rfl rfl)
theorem dX1_ahead_2 : decode cX1_ahead 2 = .ok (.iconst 1, 1) := dk_4 (dk_at dksX1_ahead_0 2 rfl rfl)
theorem dX1_ahead_3 : decode cX1_ahead 3 = .ok (.bipush 6, 2) := dk_16 6 (dk_at dksX1_ahead_0 3 rfl rfl)
theorem dX1_ahead_5 : decode cX1_ahead 5 = .ok (.newarray .int, 2) := dk_188_10 (dk_at dksX1_ahead_0 5 rfl rfl)
theorem dX1_ahead_7 : decode cX1_ahead 7 = .ok (.dup, 1) := dk_89 (dk_at dksX1_ahead_0 7 rfl rfl)
theorem dX1_ahead_8 : decode cX1_ahead 8 = .ok (.iconst 0, 1) := dk_3 (dk_at dksX1_ahead_0 8 rfl rfl)
theorem dX1_ahead_9 : decode cX1_ahead 9 = .ok (.iload_n 1, 1) := dk_27 (dk_at dksX1_ahead_0 9 rfl rfl)
theorem dX1_ahead_10 : decode cX1_ahead 10 = .ok (.iastore, 1) := dk_79 (dk_at dksX1_ahead_0 10 rfl rfl)
theorem dX1_ahead_11 : decode cX1_ahead 11 = .ok (.dup, 1) := dk_89 (dk_at dksX1_ahead_0 11 rfl rfl)
theorem dX1_ahead_12 : decode cX1_ahead 12 = .ok (.iconst 1, 1) := dk_4 (dk_at dksX1_ahead_0 12 rfl rfl)
theorem dX1_ahead_13 : decode cX1_ahead 13 = .ok (.iload_n 2, 1) := dk_28 (dk_at dksX1_ahead_0 13 rfl rfl)
theorem dX1_ahead_14 : decode cX1_ahead 14 = .ok (.iastore, 1) := dk_79 (dk_at dksX1_ahead_0 14 rfl rfl)
theorem dX1_ahead_15 : decode cX1_ahead 15 = .ok (.dup, 1) := dk_89 (dk_at dksX1_ahead_0 15 rfl rfl)
theorem dX1_ahead_16 : decode cX1_ahead 16 = .ok (.iconst 2, 1) := dk_5 (dk_at dksX1_ahead_0 16 rfl rfl)
theorem dX1_ahead_17 : decode cX1_ahead 17 = .ok (.iload_n 3, 1) := dk_29 (dk_at dksX1_ahead_0 17 rfl rfl)
theorem dX1_ahead_18 : decode cX1_ahead 18 = .ok (.iastore, 1) := dk_79 (dk_at dksX1_ahead_0 18 rfl rfl)
theorem dX1_ahead_19 : decode cX1_ahead 19 = .ok (.dup, 1) := dk_89 (dk_at dksX1_ahead_0 19 rfl rfl)
theorem dX1_ahead_20 : decode cX1_ahead 20 = .ok (.iconst 3, 1) := dk_6 (dk_at dksX1_ahead_0 20 rfl rfl)
theorem dX1_ahead_21 : decode cX1_ahead 21 = .ok (.iload 4, 2) := dk_21 4 (dk_at dksX1_ahead_0 21 rfl rfl)
theorem dX1_ahead_23 : decode cX1_ahead 23 = .ok (.iastore, 1) := dk_79 (dk_at dksX1_ahead_0 23 rfl rfl)
theorem dX1_ahead_24 : decode cX1_ahead 24 = .ok (.dup, 1) := dk_89 (dk_at dksX1_ahead_1 0 rfl rfl)
theorem dX1_ahead_25 : decode cX1_ahead 25 = .ok (.iconst 4, 1) := dk_7 (dk_at dksX1_ahead_1 1 rfl rfl)
theorem dX1_ahead_26 : decode cX1_ahead 26 = .ok (.iload 5, 2) := dk_21 5 (dk_at dksX1_ahead_1 2 rfl rfl)
theorem dX1_ahead_28 : decode cX1_ahead 28 = .ok (.iastore, 1) := dk_79 (dk_at dksX1_ahead_1 4 rfl rfl)
theorem dX1_ahead_29 : decode cX1_ahead 29 = .ok (.dup, 1) := dk_89 (dk_at dksX1_ahead_1 5 rfl rfl)
theorem dX1_ahead_30 : decode cX1_ahead 30 = .ok (.iconst 5, 1) := dk_8 (dk_at dksX1_ahead_1 6 rfl rfl)
theorem dX1_ahead_31 : decode cX1_ahead 31 = .ok (.iload 6, 2) := dk_21 6 (dk_at dksX1_ahead_1 7 rfl rfl)
theorem dX1_ahead_33 : decode cX1_ahead 33 = .ok (.iastore, 1) := dk_79 (dk_at dksX1_ahead_1 9 rfl rfl)
theorem dX1_ahead_34 : decode cX1_ahead 34 = .ok (.invokestatic 337, 3) := dk_184 1 81 (dk_at dksX1_ahead_1 10 rfl rfl)
theorem dX1_ahead_37 : decode cX1_ahead 37 = .ok (.invokevirtual 260, 3) := dk_182 1 4 (dk_at dksX1_ahead_1 13 rfl rfl)
theorem dX1_ahead_40 : decode cX1_ahead 40 = .ok (.invokevirtual 318, 3) := dk_182 1 62 (dk_at dksX1_ahead_1 16 rfl rfl)
theorem dX1_ahead_43 : decode cX1_ahead 43 = .ok (.ifCond .eq 6, 3) := dk_153 0 6 (dk_at dksX1_ahead_1 19 rfl rfl)
theorem dX1_ahead_46 : decode cX1_ahead 46 = .ok (.bipush (-2), 2) := dk_16 254 (dk_at dksX1_ahead_1 22 rfl rfl)
theorem dX1_ahead_48 : decode cX1_ahead 48 = .ok (.ireturn, 1) := dk_172 (dk_at dksX1_ahead_2 0 rfl rfl)
theorem dX1_ahead_49 : decode cX1_ahead 49 = .ok (.aload_n 0, 1) := dk_42 (dk_at dksX1_ahead_2 1 rfl rfl)
theorem dX1_ahead_50 : decode cX1_ahead 50 = .ok (.getfield 39, 3) := dk_180 0 39 (dk_at dksX1_ahead_2 2 rfl rfl)
theorem dX1_ahead_53 : decode cX1_ahead 53 = .ok (.iload_n 1, 1) := dk_27 (dk_at dksX1_ahead_2 5 rfl rfl)
theorem dX1_ahead_54 : decode cX1_ahead 54 = .ok (.iload_n 2, 1) := dk_28 (dk_at dksX1_ahead_2 6 rfl rfl)
theorem dX1_ahead_55 : decode cX1_ahead 55 = .ok (.iload_n 3, 1) := dk_29 (dk_at dksX1_ahead_2 7 rfl rfl)
theorem dX1_ahead_56 : decode cX1_ahead 56 = .ok (.invokestatic 199, 3) := dk_184 0 199 (dk_at dksX1_ahead_2 8 rfl rfl)
theorem dX1_ahead_59 : decode cX1_ahead 59 = .ok (.invokeinterface 65 2, 5) := by decide +kernel
theorem dX1_ahead_64 : decode cX1_ahead 64 = .ok (.aload_n 0, 1) := dk_42 (dk_at dksX1_ahead_2 16 rfl rfl)
theorem dX1_ahead_65 : decode cX1_ahead 65 = .ok (.getfield 39, 3) := dk_180 0 39 (dk_at dksX1_ahead_2 17 rfl rfl)
theorem dX1_ahead_68 : decode cX1_ahead 68 = .ok (.iload 4, 2) := dk_21 4 (dk_at dksX1_ahead_2 20 rfl rfl)
theorem dX1_ahead_70 : decode cX1_ahead 70 = .ok (.iload 5, 2) := dk_21 5 (dk_at dksX1_ahead_2 22 rfl rfl)
theorem dX1_ahead_72 : decode cX1_ahead 72 = .ok (.iload 6, 2) := dk_21 6 (dk_at dksX1_ahead_3 0 rfl rfl)
theorem dX1_ahead_74 : decode cX1_ahead 74 = .ok (.invokestatic 199, 3) := dk_184 0 199 (dk_at dksX1_ahead_3 2 rfl rfl)
theorem dX1_ahead_77 : decode cX1_ahead 77 = .ok (.invokeinterface 65 2, 5) := by decide +kernel
theorem dX1_ahead_82 : decode cX1_ahead 82 = .ok (.invokestatic 358, 3) := dk_184 1 102 (dk_at dksX1_ahead_3 10 rfl rfl)
theorem dX1_ahead_85 : decode cX1_ahead 85 = .ok (.ireturn, 1) := dk_172 (dk_at dksX1_ahead_3 13 rfl rfl)
abbrev cX1_leadBy : ByteArray := prog_1_method_61_code
def yX1_leadBy : MethodName := ⟨RX1, "leadBy", "(IIII)I"⟩
def dkwX1_leadBy_5 : List UInt8 := [132, 7, 1, 167, 255, 187, 21, 6, 172]
abbrev dktX1_leadBy_5 : List UInt8 := dkwX1_leadBy_5 ++ []
def dkwX1_leadBy_4 : List UInt8 := [185, 0, 65, 2, 0, 164, 0, 17, 42, 180, 0, 232, 27, 50, 180, 0, 69, 21, 7, 46, 54, 6]
abbrev dktX1_leadBy_4 : List UInt8 := dkwX1_leadBy_4 ++ dktX1_leadBy_5
def dkwX1_leadBy_3 : List UInt8 := [180, 0, 232, 27, 50, 180, 0, 69, 21, 7, 46, 185, 0, 65, 2, 0, 25, 5, 21, 6]
abbrev dktX1_leadBy_3 : List UInt8 := dkwX1_leadBy_3 ++ dktX1_leadBy_4
def dkwX1_leadBy_2 : List UInt8 := [21, 7, 42, 180, 0, 232, 27, 50, 180, 0, 62, 162, 0, 61, 21, 6, 16, 254, 159, 0, 34, 25, 5, 42]
abbrev dktX1_leadBy_2 : List UInt8 := dkwX1_leadBy_2 ++ dktX1_leadBy_3
def dkwX1_leadBy_1 : List UInt8 := [182, 1, 62, 153, 0, 5, 2, 172, 28, 29, 21, 4, 184, 0, 36, 58, 5, 16, 254, 54, 6, 3, 54, 7]
abbrev dktX1_leadBy_1 : List UInt8 := dkwX1_leadBy_1 ++ dktX1_leadBy_2
def dkwX1_leadBy_0 : List UInt8 := [42, 42, 4, 188, 10, 89, 3, 27, 79, 184, 1, 69, 28, 29, 21, 4, 184, 1, 107, 182, 1, 4]
abbrev dktX1_leadBy_0 : List UInt8 := dkwX1_leadBy_0 ++ dktX1_leadBy_1
theorem dksX1_leadBy_0 : cX1_leadBy.data.toList.drop 0 = dktX1_leadBy_0 := by decide +kernel
theorem dksX1_leadBy_1 : cX1_leadBy.data.toList.drop 22 = dktX1_leadBy_1 := dk_seg dksX1_leadBy_0 22 rfl rfl
theorem dksX1_leadBy_2 : cX1_leadBy.data.toList.drop 46 = dktX1_leadBy_2 := dk_seg dksX1_leadBy_1 24 rfl rfl
theorem dksX1_leadBy_3 : cX1_leadBy.data.toList.drop 70 = dktX1_leadBy_3 := dk_seg dksX1_leadBy_2 24 rfl rfl
theorem dksX1_leadBy_4 : cX1_leadBy.data.toList.drop 90 = dktX1_leadBy_4 := dk_seg dksX1_leadBy_3 20 rfl rfl
theorem dksX1_leadBy_5 : cX1_leadBy.data.toList.drop 112 = dktX1_leadBy_5 := dk_seg dksX1_leadBy_4 22 rfl rfl
theorem dX1_leadBy_0 : decode cX1_leadBy 0 = .ok (.aload_n 0, 1) := dk_42 (dk_at dksX1_leadBy_0 0 rfl rfl)
theorem dX1_leadBy_1 : decode cX1_leadBy 1 = .ok (.aload_n 0, 1) := dk_42 (dk_at dksX1_leadBy_0 1 rfl rfl)
theorem dX1_leadBy_2 : decode cX1_leadBy 2 = .ok (.iconst 1, 1) := dk_4 (dk_at dksX1_leadBy_0 2 rfl rfl)
theorem dX1_leadBy_3 : decode cX1_leadBy 3 = .ok (.newarray .int, 2) := dk_188_10 (dk_at dksX1_leadBy_0 3 rfl rfl)
theorem dX1_leadBy_5 : decode cX1_leadBy 5 = .ok (.dup, 1) := dk_89 (dk_at dksX1_leadBy_0 5 rfl rfl)
theorem dX1_leadBy_6 : decode cX1_leadBy 6 = .ok (.iconst 0, 1) := dk_3 (dk_at dksX1_leadBy_0 6 rfl rfl)
theorem dX1_leadBy_7 : decode cX1_leadBy 7 = .ok (.iload_n 1, 1) := dk_27 (dk_at dksX1_leadBy_0 7 rfl rfl)
theorem dX1_leadBy_8 : decode cX1_leadBy 8 = .ok (.iastore, 1) := dk_79 (dk_at dksX1_leadBy_0 8 rfl rfl)
theorem dX1_leadBy_9 : decode cX1_leadBy 9 = .ok (.invokestatic 325, 3) := dk_184 1 69 (dk_at dksX1_leadBy_0 9 rfl rfl)
theorem dX1_leadBy_12 : decode cX1_leadBy 12 = .ok (.iload_n 2, 1) := dk_28 (dk_at dksX1_leadBy_0 12 rfl rfl)
theorem dX1_leadBy_13 : decode cX1_leadBy 13 = .ok (.iload_n 3, 1) := dk_29 (dk_at dksX1_leadBy_0 13 rfl rfl)
theorem dX1_leadBy_14 : decode cX1_leadBy 14 = .ok (.iload 4, 2) := dk_21 4 (dk_at dksX1_leadBy_0 14 rfl rfl)
theorem dX1_leadBy_16 : decode cX1_leadBy 16 = .ok (.invokestatic 363, 3) := dk_184 1 107 (dk_at dksX1_leadBy_0 16 rfl rfl)
theorem dX1_leadBy_19 : decode cX1_leadBy 19 = .ok (.invokevirtual 260, 3) := dk_182 1 4 (dk_at dksX1_leadBy_0 19 rfl rfl)
theorem dX1_leadBy_22 : decode cX1_leadBy 22 = .ok (.invokevirtual 318, 3) := dk_182 1 62 (dk_at dksX1_leadBy_1 0 rfl rfl)
theorem dX1_leadBy_25 : decode cX1_leadBy 25 = .ok (.ifCond .eq 5, 3) := dk_153 0 5 (dk_at dksX1_leadBy_1 3 rfl rfl)
theorem dX1_leadBy_28 : decode cX1_leadBy 28 = .ok (.iconst (-1), 1) := dk_2 (dk_at dksX1_leadBy_1 6 rfl rfl)
theorem dX1_leadBy_29 : decode cX1_leadBy 29 = .ok (.ireturn, 1) := dk_172 (dk_at dksX1_leadBy_1 7 rfl rfl)
theorem dX1_leadBy_30 : decode cX1_leadBy 30 = .ok (.iload_n 2, 1) := dk_28 (dk_at dksX1_leadBy_1 8 rfl rfl)
theorem dX1_leadBy_31 : decode cX1_leadBy 31 = .ok (.iload_n 3, 1) := dk_29 (dk_at dksX1_leadBy_1 9 rfl rfl)
theorem dX1_leadBy_32 : decode cX1_leadBy 32 = .ok (.iload 4, 2) := dk_21 4 (dk_at dksX1_leadBy_1 10 rfl rfl)
theorem dX1_leadBy_34 : decode cX1_leadBy 34 = .ok (.invokestatic 36, 3) := dk_184 0 36 (dk_at dksX1_leadBy_1 12 rfl rfl)
theorem dX1_leadBy_37 : decode cX1_leadBy 37 = .ok (.astore 5, 2) := dk_58 5 (dk_at dksX1_leadBy_1 15 rfl rfl)
theorem dX1_leadBy_39 : decode cX1_leadBy 39 = .ok (.bipush (-2), 2) := dk_16 254 (dk_at dksX1_leadBy_1 17 rfl rfl)
theorem dX1_leadBy_41 : decode cX1_leadBy 41 = .ok (.istore 6, 2) := dk_54 6 (dk_at dksX1_leadBy_1 19 rfl rfl)
theorem dX1_leadBy_43 : decode cX1_leadBy 43 = .ok (.iconst 0, 1) := dk_3 (dk_at dksX1_leadBy_1 21 rfl rfl)
theorem dX1_leadBy_44 : decode cX1_leadBy 44 = .ok (.istore 7, 2) := dk_54 7 (dk_at dksX1_leadBy_1 22 rfl rfl)
theorem dX1_leadBy_46 : decode cX1_leadBy 46 = .ok (.iload 7, 2) := dk_21 7 (dk_at dksX1_leadBy_2 0 rfl rfl)
theorem dX1_leadBy_48 : decode cX1_leadBy 48 = .ok (.aload_n 0, 1) := dk_42 (dk_at dksX1_leadBy_2 2 rfl rfl)
theorem dX1_leadBy_49 : decode cX1_leadBy 49 = .ok (.getfield 232, 3) := dk_180 0 232 (dk_at dksX1_leadBy_2 3 rfl rfl)
theorem dX1_leadBy_52 : decode cX1_leadBy 52 = .ok (.iload_n 1, 1) := dk_27 (dk_at dksX1_leadBy_2 6 rfl rfl)
theorem dX1_leadBy_53 : decode cX1_leadBy 53 = .ok (.aaload, 1) := dk_50 (dk_at dksX1_leadBy_2 7 rfl rfl)
theorem dX1_leadBy_54 : decode cX1_leadBy 54 = .ok (.getfield 62, 3) := dk_180 0 62 (dk_at dksX1_leadBy_2 8 rfl rfl)
theorem dX1_leadBy_57 : decode cX1_leadBy 57 = .ok (.if_icmp .ge 61, 3) := dk_162 0 61 (dk_at dksX1_leadBy_2 11 rfl rfl)
theorem dX1_leadBy_60 : decode cX1_leadBy 60 = .ok (.iload 6, 2) := dk_21 6 (dk_at dksX1_leadBy_2 14 rfl rfl)
theorem dX1_leadBy_62 : decode cX1_leadBy 62 = .ok (.bipush (-2), 2) := dk_16 254 (dk_at dksX1_leadBy_2 16 rfl rfl)
theorem dX1_leadBy_64 : decode cX1_leadBy 64 = .ok (.if_icmp .eq 34, 3) := dk_159 0 34 (dk_at dksX1_leadBy_2 18 rfl rfl)
theorem dX1_leadBy_67 : decode cX1_leadBy 67 = .ok (.aload 5, 2) := dk_25 5 (dk_at dksX1_leadBy_2 21 rfl rfl)
theorem dX1_leadBy_69 : decode cX1_leadBy 69 = .ok (.aload_n 0, 1) := dk_42 (dk_at dksX1_leadBy_2 23 rfl rfl)
theorem dX1_leadBy_70 : decode cX1_leadBy 70 = .ok (.getfield 232, 3) := dk_180 0 232 (dk_at dksX1_leadBy_3 0 rfl rfl)
theorem dX1_leadBy_73 : decode cX1_leadBy 73 = .ok (.iload_n 1, 1) := dk_27 (dk_at dksX1_leadBy_3 3 rfl rfl)
theorem dX1_leadBy_74 : decode cX1_leadBy 74 = .ok (.aaload, 1) := dk_50 (dk_at dksX1_leadBy_3 4 rfl rfl)
theorem dX1_leadBy_75 : decode cX1_leadBy 75 = .ok (.getfield 69, 3) := dk_180 0 69 (dk_at dksX1_leadBy_3 5 rfl rfl)
theorem dX1_leadBy_78 : decode cX1_leadBy 78 = .ok (.iload 7, 2) := dk_21 7 (dk_at dksX1_leadBy_3 8 rfl rfl)
theorem dX1_leadBy_80 : decode cX1_leadBy 80 = .ok (.iaload, 1) := dk_46 (dk_at dksX1_leadBy_3 10 rfl rfl)
theorem dX1_leadBy_81 : decode cX1_leadBy 81 = .ok (.invokeinterface 65 2, 5) := by decide +kernel
theorem dX1_leadBy_86 : decode cX1_leadBy 86 = .ok (.aload 5, 2) := dk_25 5 (dk_at dksX1_leadBy_3 16 rfl rfl)
theorem dX1_leadBy_88 : decode cX1_leadBy 88 = .ok (.iload 6, 2) := dk_21 6 (dk_at dksX1_leadBy_3 18 rfl rfl)
theorem dX1_leadBy_90 : decode cX1_leadBy 90 = .ok (.invokeinterface 65 2, 5) := by decide +kernel
theorem dX1_leadBy_95 : decode cX1_leadBy 95 = .ok (.if_icmp .le 17, 3) := dk_164 0 17 (dk_at dksX1_leadBy_4 5 rfl rfl)
theorem dX1_leadBy_98 : decode cX1_leadBy 98 = .ok (.aload_n 0, 1) := dk_42 (dk_at dksX1_leadBy_4 8 rfl rfl)
theorem dX1_leadBy_99 : decode cX1_leadBy 99 = .ok (.getfield 232, 3) := dk_180 0 232 (dk_at dksX1_leadBy_4 9 rfl rfl)
theorem dX1_leadBy_102 : decode cX1_leadBy 102 = .ok (.iload_n 1, 1) := dk_27 (dk_at dksX1_leadBy_4 12 rfl rfl)
theorem dX1_leadBy_103 : decode cX1_leadBy 103 = .ok (.aaload, 1) := dk_50 (dk_at dksX1_leadBy_4 13 rfl rfl)
theorem dX1_leadBy_104 : decode cX1_leadBy 104 = .ok (.getfield 69, 3) := dk_180 0 69 (dk_at dksX1_leadBy_4 14 rfl rfl)
theorem dX1_leadBy_107 : decode cX1_leadBy 107 = .ok (.iload 7, 2) := dk_21 7 (dk_at dksX1_leadBy_4 17 rfl rfl)
theorem dX1_leadBy_109 : decode cX1_leadBy 109 = .ok (.iaload, 1) := dk_46 (dk_at dksX1_leadBy_4 19 rfl rfl)
theorem dX1_leadBy_110 : decode cX1_leadBy 110 = .ok (.istore 6, 2) := dk_54 6 (dk_at dksX1_leadBy_4 20 rfl rfl)
theorem dX1_leadBy_112 : decode cX1_leadBy 112 = .ok (.iinc 7 1, 3) := dk_132 7 1 (dk_at dksX1_leadBy_5 0 rfl rfl)
theorem dX1_leadBy_115 : decode cX1_leadBy 115 = .ok (.goto (-69), 3) := dk_167 255 187 (dk_at dksX1_leadBy_5 3 rfl rfl)
theorem dX1_leadBy_118 : decode cX1_leadBy 118 = .ok (.iload 6, 2) := dk_21 6 (dk_at dksX1_leadBy_5 6 rfl rfl)
theorem dX1_leadBy_120 : decode cX1_leadBy 120 = .ok (.ireturn, 1) := dk_172 (dk_at dksX1_leadBy_5 8 rfl rfl)
abbrev cX1_isOrder : ByteArray := prog_1_method_60_code
def yX1_isOrder : MethodName := ⟨RX1, "isOrder", "(III)Z"⟩
def dkwX1_isOrder_1 : List UInt8 := [28, 159, 0, 7, 4, 167, 0, 4, 3, 172]
abbrev dktX1_isOrder_1 : List UInt8 := dkwX1_isOrder_1 ++ []
def dkwX1_isOrder_0 : List UInt8 := [26, 3, 5, 184, 1, 15, 153, 0, 26, 27, 184, 1, 78, 153, 0, 19, 28, 184, 1, 78, 153, 0, 12, 27]
abbrev dktX1_isOrder_0 : List UInt8 := dkwX1_isOrder_0 ++ dktX1_isOrder_1
theorem dksX1_isOrder_0 : cX1_isOrder.data.toList.drop 0 = dktX1_isOrder_0 := by decide +kernel
theorem dksX1_isOrder_1 : cX1_isOrder.data.toList.drop 24 = dktX1_isOrder_1 := dk_seg dksX1_isOrder_0 24 rfl rfl
theorem dX1_isOrder_0 : decode cX1_isOrder 0 = .ok (.iload_n 0, 1) := dk_26 (dk_at dksX1_isOrder_0 0 rfl rfl)
theorem dX1_isOrder_1 : decode cX1_isOrder 1 = .ok (.iconst 0, 1) := dk_3 (dk_at dksX1_isOrder_0 1 rfl rfl)
theorem dX1_isOrder_2 : decode cX1_isOrder 2 = .ok (.iconst 2, 1) := dk_5 (dk_at dksX1_isOrder_0 2 rfl rfl)
theorem dX1_isOrder_3 : decode cX1_isOrder 3 = .ok (.invokestatic 271, 3) := dk_184 1 15 (dk_at dksX1_isOrder_0 3 rfl rfl)
theorem dX1_isOrder_6 : decode cX1_isOrder 6 = .ok (.ifCond .eq 26, 3) := dk_153 0 26 (dk_at dksX1_isOrder_0 6 rfl rfl)
theorem dX1_isOrder_9 : decode cX1_isOrder 9 = .ok (.iload_n 1, 1) := dk_27 (dk_at dksX1_isOrder_0 9 rfl rfl)
theorem dX1_isOrder_10 : decode cX1_isOrder 10 = .ok (.invokestatic 334, 3) := dk_184 1 78 (dk_at dksX1_isOrder_0 10 rfl rfl)
theorem dX1_isOrder_13 : decode cX1_isOrder 13 = .ok (.ifCond .eq 19, 3) := dk_153 0 19 (dk_at dksX1_isOrder_0 13 rfl rfl)
theorem dX1_isOrder_16 : decode cX1_isOrder 16 = .ok (.iload_n 2, 1) := dk_28 (dk_at dksX1_isOrder_0 16 rfl rfl)
theorem dX1_isOrder_17 : decode cX1_isOrder 17 = .ok (.invokestatic 334, 3) := dk_184 1 78 (dk_at dksX1_isOrder_0 17 rfl rfl)
theorem dX1_isOrder_20 : decode cX1_isOrder 20 = .ok (.ifCond .eq 12, 3) := dk_153 0 12 (dk_at dksX1_isOrder_0 20 rfl rfl)
theorem dX1_isOrder_23 : decode cX1_isOrder 23 = .ok (.iload_n 1, 1) := dk_27 (dk_at dksX1_isOrder_0 23 rfl rfl)
theorem dX1_isOrder_24 : decode cX1_isOrder 24 = .ok (.iload_n 2, 1) := dk_28 (dk_at dksX1_isOrder_1 0 rfl rfl)
theorem dX1_isOrder_25 : decode cX1_isOrder 25 = .ok (.if_icmp .eq 7, 3) := dk_159 0 7 (dk_at dksX1_isOrder_1 1 rfl rfl)
theorem dX1_isOrder_28 : decode cX1_isOrder 28 = .ok (.iconst 1, 1) := dk_4 (dk_at dksX1_isOrder_1 4 rfl rfl)
theorem dX1_isOrder_29 : decode cX1_isOrder 29 = .ok (.goto 4, 3) := dk_167 0 4 (dk_at dksX1_isOrder_1 5 rfl rfl)
theorem dX1_isOrder_32 : decode cX1_isOrder 32 = .ok (.iconst 0, 1) := dk_3 (dk_at dksX1_isOrder_1 8 rfl rfl)
theorem dX1_isOrder_33 : decode cX1_isOrder 33 = .ok (.ireturn, 1) := dk_172 (dk_at dksX1_isOrder_1 9 rfl rfl)
abbrev cX1_divided : ByteArray := prog_1_method_66_code
def yX1_divided : MethodName := ⟨RX1, "divided", "(III)I"⟩
def dkwX1_divided_6 : List UInt8 := [180, 1, 142, 172]
abbrev dktX1_divided_6 : List UInt8 := dkwX1_divided_6 ++ []
def dkwX1_divided_5 : List UInt8 := [180, 1, 139, 180, 1, 135, 167, 0, 20, 29, 5, 160, 0, 8, 21, 4, 167, 0, 10, 42, 180, 0, 216]
abbrev dktX1_divided_5 : List UInt8 := dkwX1_divided_5 ++ dktX1_divided_6
def dkwX1_divided_4 : List UInt8 := [154, 0, 13, 42, 180, 0, 216, 180, 1, 136, 167, 0, 38, 29, 4, 160, 0, 16, 42, 180, 0, 216]
abbrev dktX1_divided_4 : List UInt8 := dkwX1_divided_4 ++ dktX1_divided_5
def dkwX1_divided_3 : List UInt8 := [25, 5, 21, 7, 50, 58, 8, 21, 4, 25, 8, 180, 1, 135, 96, 54, 4, 132, 7, 1, 167, 255, 229, 29]
abbrev dktX1_divided_3 : List UInt8 := dkwX1_divided_3 ++ dktX1_divided_4
def dkwX1_divided_2 : List UInt8 := [180, 0, 216, 180, 1, 131, 58, 5, 25, 5, 190, 54, 6, 3, 54, 7, 21, 7, 21, 6, 162, 0, 26]
abbrev dktX1_divided_2 : List UInt8 := dkwX1_divided_2 ++ dktX1_divided_3
def dkwX1_divided_1 : List UInt8 := [4, 167, 0, 4, 3, 4, 27, 28, 182, 1, 127, 182, 1, 62, 153, 0, 5, 2, 172, 3, 54, 4, 42]
abbrev dktX1_divided_1 : List UInt8 := dkwX1_divided_1 ++ dktX1_divided_2
def dkwX1_divided_0 : List UInt8 := [42, 42, 4, 188, 10, 89, 3, 27, 79, 184, 1, 69, 153, 0, 16, 29, 3, 6, 184, 1, 15, 153, 0, 7]
abbrev dktX1_divided_0 : List UInt8 := dkwX1_divided_0 ++ dktX1_divided_1
theorem dksX1_divided_0 : cX1_divided.data.toList.drop 0 = dktX1_divided_0 := by decide +kernel
theorem dksX1_divided_1 : cX1_divided.data.toList.drop 24 = dktX1_divided_1 := dk_seg dksX1_divided_0 24 rfl rfl
theorem dksX1_divided_2 : cX1_divided.data.toList.drop 47 = dktX1_divided_2 := dk_seg dksX1_divided_1 23 rfl rfl
theorem dksX1_divided_3 : cX1_divided.data.toList.drop 70 = dktX1_divided_3 := dk_seg dksX1_divided_2 23 rfl rfl
theorem dksX1_divided_4 : cX1_divided.data.toList.drop 94 = dktX1_divided_4 := dk_seg dksX1_divided_3 24 rfl rfl
theorem dksX1_divided_5 : cX1_divided.data.toList.drop 116 = dktX1_divided_5 := dk_seg dksX1_divided_4 22 rfl rfl
theorem dksX1_divided_6 : cX1_divided.data.toList.drop 139 = dktX1_divided_6 := dk_seg dksX1_divided_5 23 rfl rfl
theorem dX1_divided_0 : decode cX1_divided 0 = .ok (.aload_n 0, 1) := dk_42 (dk_at dksX1_divided_0 0 rfl rfl)
theorem dX1_divided_1 : decode cX1_divided 1 = .ok (.aload_n 0, 1) := dk_42 (dk_at dksX1_divided_0 1 rfl rfl)
theorem dX1_divided_2 : decode cX1_divided 2 = .ok (.iconst 1, 1) := dk_4 (dk_at dksX1_divided_0 2 rfl rfl)
theorem dX1_divided_3 : decode cX1_divided 3 = .ok (.newarray .int, 2) := dk_188_10 (dk_at dksX1_divided_0 3 rfl rfl)
theorem dX1_divided_5 : decode cX1_divided 5 = .ok (.dup, 1) := dk_89 (dk_at dksX1_divided_0 5 rfl rfl)
theorem dX1_divided_6 : decode cX1_divided 6 = .ok (.iconst 0, 1) := dk_3 (dk_at dksX1_divided_0 6 rfl rfl)
theorem dX1_divided_7 : decode cX1_divided 7 = .ok (.iload_n 1, 1) := dk_27 (dk_at dksX1_divided_0 7 rfl rfl)
theorem dX1_divided_8 : decode cX1_divided 8 = .ok (.iastore, 1) := dk_79 (dk_at dksX1_divided_0 8 rfl rfl)
theorem dX1_divided_9 : decode cX1_divided 9 = .ok (.invokestatic 325, 3) := dk_184 1 69 (dk_at dksX1_divided_0 9 rfl rfl)
theorem dX1_divided_12 : decode cX1_divided 12 = .ok (.ifCond .eq 16, 3) := dk_153 0 16 (dk_at dksX1_divided_0 12 rfl rfl)
theorem dX1_divided_15 : decode cX1_divided 15 = .ok (.iload_n 3, 1) := dk_29 (dk_at dksX1_divided_0 15 rfl rfl)
theorem dX1_divided_16 : decode cX1_divided 16 = .ok (.iconst 0, 1) := dk_3 (dk_at dksX1_divided_0 16 rfl rfl)
theorem dX1_divided_17 : decode cX1_divided 17 = .ok (.iconst 3, 1) := dk_6 (dk_at dksX1_divided_0 17 rfl rfl)
theorem dX1_divided_18 : decode cX1_divided 18 = .ok (.invokestatic 271, 3) := dk_184 1 15 (dk_at dksX1_divided_0 18 rfl rfl)
theorem dX1_divided_21 : decode cX1_divided 21 = .ok (.ifCond .eq 7, 3) := dk_153 0 7 (dk_at dksX1_divided_0 21 rfl rfl)
theorem dX1_divided_24 : decode cX1_divided 24 = .ok (.iconst 1, 1) := dk_4 (dk_at dksX1_divided_1 0 rfl rfl)
theorem dX1_divided_25 : decode cX1_divided 25 = .ok (.goto 4, 3) := dk_167 0 4 (dk_at dksX1_divided_1 1 rfl rfl)
theorem dX1_divided_28 : decode cX1_divided 28 = .ok (.iconst 0, 1) := dk_3 (dk_at dksX1_divided_1 4 rfl rfl)
theorem dX1_divided_29 : decode cX1_divided 29 = .ok (.iconst 1, 1) := dk_4 (dk_at dksX1_divided_1 5 rfl rfl)
theorem dX1_divided_30 : decode cX1_divided 30 = .ok (.iload_n 1, 1) := dk_27 (dk_at dksX1_divided_1 6 rfl rfl)
theorem dX1_divided_31 : decode cX1_divided 31 = .ok (.iload_n 2, 1) := dk_28 (dk_at dksX1_divided_1 7 rfl rfl)
theorem dX1_divided_32 : decode cX1_divided 32 = .ok (.invokevirtual 383, 3) := dk_182 1 127 (dk_at dksX1_divided_1 8 rfl rfl)
theorem dX1_divided_35 : decode cX1_divided 35 = .ok (.invokevirtual 318, 3) := dk_182 1 62 (dk_at dksX1_divided_1 11 rfl rfl)
theorem dX1_divided_38 : decode cX1_divided 38 = .ok (.ifCond .eq 5, 3) := dk_153 0 5 (dk_at dksX1_divided_1 14 rfl rfl)
theorem dX1_divided_41 : decode cX1_divided 41 = .ok (.iconst (-1), 1) := dk_2 (dk_at dksX1_divided_1 17 rfl rfl)
theorem dX1_divided_42 : decode cX1_divided 42 = .ok (.ireturn, 1) := dk_172 (dk_at dksX1_divided_1 18 rfl rfl)
theorem dX1_divided_43 : decode cX1_divided 43 = .ok (.iconst 0, 1) := dk_3 (dk_at dksX1_divided_1 19 rfl rfl)
theorem dX1_divided_44 : decode cX1_divided 44 = .ok (.istore 4, 2) := dk_54 4 (dk_at dksX1_divided_1 20 rfl rfl)
theorem dX1_divided_46 : decode cX1_divided 46 = .ok (.aload_n 0, 1) := dk_42 (dk_at dksX1_divided_1 22 rfl rfl)
theorem dX1_divided_47 : decode cX1_divided 47 = .ok (.getfield 216, 3) := dk_180 0 216 (dk_at dksX1_divided_2 0 rfl rfl)
theorem dX1_divided_50 : decode cX1_divided 50 = .ok (.getfield 387, 3) := dk_180 1 131 (dk_at dksX1_divided_2 3 rfl rfl)
theorem dX1_divided_53 : decode cX1_divided 53 = .ok (.astore 5, 2) := dk_58 5 (dk_at dksX1_divided_2 6 rfl rfl)
theorem dX1_divided_55 : decode cX1_divided 55 = .ok (.aload 5, 2) := dk_25 5 (dk_at dksX1_divided_2 8 rfl rfl)
theorem dX1_divided_57 : decode cX1_divided 57 = .ok (.arraylength, 1) := dk_190 (dk_at dksX1_divided_2 10 rfl rfl)
theorem dX1_divided_58 : decode cX1_divided 58 = .ok (.istore 6, 2) := dk_54 6 (dk_at dksX1_divided_2 11 rfl rfl)
theorem dX1_divided_60 : decode cX1_divided 60 = .ok (.iconst 0, 1) := dk_3 (dk_at dksX1_divided_2 13 rfl rfl)
theorem dX1_divided_61 : decode cX1_divided 61 = .ok (.istore 7, 2) := dk_54 7 (dk_at dksX1_divided_2 14 rfl rfl)
theorem dX1_divided_63 : decode cX1_divided 63 = .ok (.iload 7, 2) := dk_21 7 (dk_at dksX1_divided_2 16 rfl rfl)
theorem dX1_divided_65 : decode cX1_divided 65 = .ok (.iload 6, 2) := dk_21 6 (dk_at dksX1_divided_2 18 rfl rfl)
theorem dX1_divided_67 : decode cX1_divided 67 = .ok (.if_icmp .ge 26, 3) := dk_162 0 26 (dk_at dksX1_divided_2 20 rfl rfl)
theorem dX1_divided_70 : decode cX1_divided 70 = .ok (.aload 5, 2) := dk_25 5 (dk_at dksX1_divided_3 0 rfl rfl)
theorem dX1_divided_72 : decode cX1_divided 72 = .ok (.iload 7, 2) := dk_21 7 (dk_at dksX1_divided_3 2 rfl rfl)
theorem dX1_divided_74 : decode cX1_divided 74 = .ok (.aaload, 1) := dk_50 (dk_at dksX1_divided_3 4 rfl rfl)
theorem dX1_divided_75 : decode cX1_divided 75 = .ok (.astore 8, 2) := dk_58 8 (dk_at dksX1_divided_3 5 rfl rfl)
theorem dX1_divided_77 : decode cX1_divided 77 = .ok (.iload 4, 2) := dk_21 4 (dk_at dksX1_divided_3 7 rfl rfl)
theorem dX1_divided_79 : decode cX1_divided 79 = .ok (.aload 8, 2) := dk_25 8 (dk_at dksX1_divided_3 9 rfl rfl)
theorem dX1_divided_81 : decode cX1_divided 81 = .ok (.getfield 391, 3) := dk_180 1 135 (dk_at dksX1_divided_3 11 rfl rfl)
theorem dX1_divided_84 : decode cX1_divided 84 = .ok (.iadd, 1) := dk_96 (dk_at dksX1_divided_3 14 rfl rfl)
theorem dX1_divided_85 : decode cX1_divided 85 = .ok (.istore 4, 2) := dk_54 4 (dk_at dksX1_divided_3 15 rfl rfl)
theorem dX1_divided_87 : decode cX1_divided 87 = .ok (.iinc 7 1, 3) := dk_132 7 1 (dk_at dksX1_divided_3 17 rfl rfl)
theorem dX1_divided_90 : decode cX1_divided 90 = .ok (.goto (-27), 3) := dk_167 255 229 (dk_at dksX1_divided_3 20 rfl rfl)
theorem dX1_divided_93 : decode cX1_divided 93 = .ok (.iload_n 3, 1) := dk_29 (dk_at dksX1_divided_3 23 rfl rfl)
theorem dX1_divided_94 : decode cX1_divided 94 = .ok (.ifCond .ne 13, 3) := dk_154 0 13 (dk_at dksX1_divided_4 0 rfl rfl)
theorem dX1_divided_97 : decode cX1_divided 97 = .ok (.aload_n 0, 1) := dk_42 (dk_at dksX1_divided_4 3 rfl rfl)
theorem dX1_divided_98 : decode cX1_divided 98 = .ok (.getfield 216, 3) := dk_180 0 216 (dk_at dksX1_divided_4 4 rfl rfl)
theorem dX1_divided_101 : decode cX1_divided 101 = .ok (.getfield 392, 3) := dk_180 1 136 (dk_at dksX1_divided_4 7 rfl rfl)
theorem dX1_divided_104 : decode cX1_divided 104 = .ok (.goto 38, 3) := dk_167 0 38 (dk_at dksX1_divided_4 10 rfl rfl)
theorem dX1_divided_107 : decode cX1_divided 107 = .ok (.iload_n 3, 1) := dk_29 (dk_at dksX1_divided_4 13 rfl rfl)
theorem dX1_divided_108 : decode cX1_divided 108 = .ok (.iconst 1, 1) := dk_4 (dk_at dksX1_divided_4 14 rfl rfl)
theorem dX1_divided_109 : decode cX1_divided 109 = .ok (.if_icmp .ne 16, 3) := dk_160 0 16 (dk_at dksX1_divided_4 15 rfl rfl)
theorem dX1_divided_112 : decode cX1_divided 112 = .ok (.aload_n 0, 1) := dk_42 (dk_at dksX1_divided_4 18 rfl rfl)
theorem dX1_divided_113 : decode cX1_divided 113 = .ok (.getfield 216, 3) := dk_180 0 216 (dk_at dksX1_divided_4 19 rfl rfl)
theorem dX1_divided_116 : decode cX1_divided 116 = .ok (.getfield 395, 3) := dk_180 1 139 (dk_at dksX1_divided_5 0 rfl rfl)
theorem dX1_divided_119 : decode cX1_divided 119 = .ok (.getfield 391, 3) := dk_180 1 135 (dk_at dksX1_divided_5 3 rfl rfl)
theorem dX1_divided_122 : decode cX1_divided 122 = .ok (.goto 20, 3) := dk_167 0 20 (dk_at dksX1_divided_5 6 rfl rfl)
theorem dX1_divided_125 : decode cX1_divided 125 = .ok (.iload_n 3, 1) := dk_29 (dk_at dksX1_divided_5 9 rfl rfl)
theorem dX1_divided_126 : decode cX1_divided 126 = .ok (.iconst 2, 1) := dk_5 (dk_at dksX1_divided_5 10 rfl rfl)
theorem dX1_divided_127 : decode cX1_divided 127 = .ok (.if_icmp .ne 8, 3) := dk_160 0 8 (dk_at dksX1_divided_5 11 rfl rfl)
theorem dX1_divided_130 : decode cX1_divided 130 = .ok (.iload 4, 2) := dk_21 4 (dk_at dksX1_divided_5 14 rfl rfl)
theorem dX1_divided_132 : decode cX1_divided 132 = .ok (.goto 10, 3) := dk_167 0 10 (dk_at dksX1_divided_5 16 rfl rfl)
theorem dX1_divided_135 : decode cX1_divided 135 = .ok (.aload_n 0, 1) := dk_42 (dk_at dksX1_divided_5 19 rfl rfl)
theorem dX1_divided_136 : decode cX1_divided 136 = .ok (.getfield 216, 3) := dk_180 0 216 (dk_at dksX1_divided_5 20 rfl rfl)
theorem dX1_divided_139 : decode cX1_divided 139 = .ok (.getfield 398, 3) := dk_180 1 142 (dk_at dksX1_divided_6 0 rfl rfl)
theorem dX1_divided_142 : decode cX1_divided 142 = .ok (.ireturn, 1) := dk_172 (dk_at dksX1_divided_6 3 rfl rfl)
abbrev cX1_divisionWhy : ByteArray := prog_1_method_65_code
def yX1_divisionWhy : MethodName := ⟨RX1, "divisionWhy", "(ZZII)I"⟩
def dkwX1_divisionWhy_1 : List UInt8 := [21, 5, 153, 0, 8, 21, 5, 167, 0, 15, 42, 42, 180, 0, 232, 29, 50, 21, 4, 182, 1, 123, 172]
abbrev dktX1_divisionWhy_1 : List UInt8 := dkwX1_divisionWhy_1 ++ []
def dkwX1_divisionWhy_0 : List UInt8 := [42, 27, 28, 153, 0, 15, 21, 4, 184, 1, 120, 153, 0, 7, 4, 167, 0, 4, 3, 182, 1, 4, 54, 5]
abbrev dktX1_divisionWhy_0 : List UInt8 := dkwX1_divisionWhy_0 ++ dktX1_divisionWhy_1
theorem dksX1_divisionWhy_0 : cX1_divisionWhy.data.toList.drop 0 = dktX1_divisionWhy_0 := by decide +kernel
theorem dksX1_divisionWhy_1 : cX1_divisionWhy.data.toList.drop 24 = dktX1_divisionWhy_1 := dk_seg dksX1_divisionWhy_0 24 rfl rfl
theorem dX1_divisionWhy_0 : decode cX1_divisionWhy 0 = .ok (.aload_n 0, 1) := dk_42 (dk_at dksX1_divisionWhy_0 0 rfl rfl)
theorem dX1_divisionWhy_1 : decode cX1_divisionWhy 1 = .ok (.iload_n 1, 1) := dk_27 (dk_at dksX1_divisionWhy_0 1 rfl rfl)
theorem dX1_divisionWhy_2 : decode cX1_divisionWhy 2 = .ok (.iload_n 2, 1) := dk_28 (dk_at dksX1_divisionWhy_0 2 rfl rfl)
theorem dX1_divisionWhy_3 : decode cX1_divisionWhy 3 = .ok (.ifCond .eq 15, 3) := dk_153 0 15 (dk_at dksX1_divisionWhy_0 3 rfl rfl)
theorem dX1_divisionWhy_6 : decode cX1_divisionWhy 6 = .ok (.iload 4, 2) := dk_21 4 (dk_at dksX1_divisionWhy_0 6 rfl rfl)
theorem dX1_divisionWhy_8 : decode cX1_divisionWhy 8 = .ok (.invokestatic 376, 3) := dk_184 1 120 (dk_at dksX1_divisionWhy_0 8 rfl rfl)
theorem dX1_divisionWhy_11 : decode cX1_divisionWhy 11 = .ok (.ifCond .eq 7, 3) := dk_153 0 7 (dk_at dksX1_divisionWhy_0 11 rfl rfl)
theorem dX1_divisionWhy_14 : decode cX1_divisionWhy 14 = .ok (.iconst 1, 1) := dk_4 (dk_at dksX1_divisionWhy_0 14 rfl rfl)
theorem dX1_divisionWhy_15 : decode cX1_divisionWhy 15 = .ok (.goto 4, 3) := dk_167 0 4 (dk_at dksX1_divisionWhy_0 15 rfl rfl)
theorem dX1_divisionWhy_18 : decode cX1_divisionWhy 18 = .ok (.iconst 0, 1) := dk_3 (dk_at dksX1_divisionWhy_0 18 rfl rfl)
theorem dX1_divisionWhy_19 : decode cX1_divisionWhy 19 = .ok (.invokevirtual 260, 3) := dk_182 1 4 (dk_at dksX1_divisionWhy_0 19 rfl rfl)
theorem dX1_divisionWhy_22 : decode cX1_divisionWhy 22 = .ok (.istore 5, 2) := dk_54 5 (dk_at dksX1_divisionWhy_0 22 rfl rfl)
theorem dX1_divisionWhy_24 : decode cX1_divisionWhy 24 = .ok (.iload 5, 2) := dk_21 5 (dk_at dksX1_divisionWhy_1 0 rfl rfl)
theorem dX1_divisionWhy_26 : decode cX1_divisionWhy 26 = .ok (.ifCond .eq 8, 3) := dk_153 0 8 (dk_at dksX1_divisionWhy_1 2 rfl rfl)
theorem dX1_divisionWhy_29 : decode cX1_divisionWhy 29 = .ok (.iload 5, 2) := dk_21 5 (dk_at dksX1_divisionWhy_1 5 rfl rfl)
theorem dX1_divisionWhy_31 : decode cX1_divisionWhy 31 = .ok (.goto 15, 3) := dk_167 0 15 (dk_at dksX1_divisionWhy_1 7 rfl rfl)
theorem dX1_divisionWhy_34 : decode cX1_divisionWhy 34 = .ok (.aload_n 0, 1) := dk_42 (dk_at dksX1_divisionWhy_1 10 rfl rfl)
theorem dX1_divisionWhy_35 : decode cX1_divisionWhy 35 = .ok (.aload_n 0, 1) := dk_42 (dk_at dksX1_divisionWhy_1 11 rfl rfl)
theorem dX1_divisionWhy_36 : decode cX1_divisionWhy 36 = .ok (.getfield 232, 3) := dk_180 0 232 (dk_at dksX1_divisionWhy_1 12 rfl rfl)
theorem dX1_divisionWhy_39 : decode cX1_divisionWhy 39 = .ok (.iload_n 3, 1) := dk_29 (dk_at dksX1_divisionWhy_1 15 rfl rfl)
theorem dX1_divisionWhy_40 : decode cX1_divisionWhy 40 = .ok (.aaload, 1) := dk_50 (dk_at dksX1_divisionWhy_1 16 rfl rfl)
theorem dX1_divisionWhy_41 : decode cX1_divisionWhy 41 = .ok (.iload 4, 2) := dk_21 4 (dk_at dksX1_divisionWhy_1 17 rfl rfl)
theorem dX1_divisionWhy_43 : decode cX1_divisionWhy 43 = .ok (.invokevirtual 379, 3) := dk_182 1 123 (dk_at dksX1_divisionWhy_1 19 rfl rfl)
theorem dX1_divisionWhy_46 : decode cX1_divisionWhy 46 = .ok (.ireturn, 1) := dk_172 (dk_at dksX1_divisionWhy_1 22 rfl rfl)
abbrev cX1_isSet : ByteArray := prog_1_method_62_code
def yX1_isSet : MethodName := ⟨RX1, "isSet", "(I)Z"⟩
def dkwX1_isSet_0 : List UInt8 := [26, 4, 17, 0, 255, 184, 1, 15, 172]
abbrev dktX1_isSet_0 : List UInt8 := dkwX1_isSet_0 ++ []
theorem dksX1_isSet_0 : cX1_isSet.data.toList.drop 0 = dktX1_isSet_0 := by decide +kernel
theorem dX1_isSet_0 : decode cX1_isSet 0 = .ok (.iload_n 0, 1) := dk_26 (dk_at dksX1_isSet_0 0 rfl rfl)
theorem dX1_isSet_1 : decode cX1_isSet 1 = .ok (.iconst 1, 1) := dk_4 (dk_at dksX1_isSet_0 1 rfl rfl)
theorem dX1_isSet_2 : decode cX1_isSet 2 = .ok (.sipush 255, 3) := dk_17 0 255 (dk_at dksX1_isSet_0 2 rfl rfl)
theorem dX1_isSet_5 : decode cX1_isSet 5 = .ok (.invokestatic 271, 3) := dk_184 1 15 (dk_at dksX1_isSet_0 5 rfl rfl)
theorem dX1_isSet_8 : decode cX1_isSet 8 = .ok (.ireturn, 1) := dk_172 (dk_at dksX1_isSet_0 8 rfl rfl)
abbrev cX1_divides : ByteArray := prog_1_method_64_code
def yX1_divides : MethodName := ⟨RX1, "divides", "(LTermDesk$Poly;I)I"⟩
def dkwX1_divides_1 : List UInt8 := [153, 0, 7, 3, 167, 0, 4, 6, 172]
abbrev dktX1_divides_1 : List UInt8 := dkwX1_divides_1 ++ []
def dkwX1_divides_0 : List UInt8 := [42, 28, 182, 1, 110, 153, 0, 5, 8, 172, 42, 180, 0, 216, 43, 28, 182, 1, 113, 180, 1, 117]
abbrev dktX1_divides_0 : List UInt8 := dkwX1_divides_0 ++ dktX1_divides_1
theorem dksX1_divides_0 : cX1_divides.data.toList.drop 0 = dktX1_divides_0 := by decide +kernel
theorem dksX1_divides_1 : cX1_divides.data.toList.drop 22 = dktX1_divides_1 := dk_seg dksX1_divides_0 22 rfl rfl
theorem dX1_divides_0 : decode cX1_divides 0 = .ok (.aload_n 0, 1) := dk_42 (dk_at dksX1_divides_0 0 rfl rfl)
theorem dX1_divides_1 : decode cX1_divides 1 = .ok (.iload_n 2, 1) := dk_28 (dk_at dksX1_divides_0 1 rfl rfl)
theorem dX1_divides_2 : decode cX1_divides 2 = .ok (.invokevirtual 366, 3) := dk_182 1 110 (dk_at dksX1_divides_0 2 rfl rfl)
theorem dX1_divides_5 : decode cX1_divides 5 = .ok (.ifCond .eq 5, 3) := dk_153 0 5 (dk_at dksX1_divides_0 5 rfl rfl)
theorem dX1_divides_8 : decode cX1_divides 8 = .ok (.iconst 5, 1) := dk_8 (dk_at dksX1_divides_0 8 rfl rfl)
theorem dX1_divides_9 : decode cX1_divides 9 = .ok (.ireturn, 1) := dk_172 (dk_at dksX1_divides_0 9 rfl rfl)
theorem dX1_divides_10 : decode cX1_divides 10 = .ok (.aload_n 0, 1) := dk_42 (dk_at dksX1_divides_0 10 rfl rfl)
theorem dX1_divides_11 : decode cX1_divides 11 = .ok (.getfield 216, 3) := dk_180 0 216 (dk_at dksX1_divides_0 11 rfl rfl)
theorem dX1_divides_14 : decode cX1_divides 14 = .ok (.aload_n 1, 1) := dk_43 (dk_at dksX1_divides_0 14 rfl rfl)
theorem dX1_divides_15 : decode cX1_divides 15 = .ok (.iload_n 2, 1) := dk_28 (dk_at dksX1_divides_0 15 rfl rfl)
theorem dX1_divides_16 : decode cX1_divides 16 = .ok (.invokevirtual 369, 3) := dk_182 1 113 (dk_at dksX1_divides_0 16 rfl rfl)
theorem dX1_divides_19 : decode cX1_divides 19 = .ok (.getfield 373, 3) := dk_180 1 117 (dk_at dksX1_divides_0 19 rfl rfl)
theorem dX1_divides_22 : decode cX1_divides 22 = .ok (.ifCond .eq 7, 3) := dk_153 0 7 (dk_at dksX1_divides_1 0 rfl rfl)
theorem dX1_divides_25 : decode cX1_divides 25 = .ok (.iconst 0, 1) := dk_3 (dk_at dksX1_divides_1 3 rfl rfl)
theorem dX1_divides_26 : decode cX1_divides 26 = .ok (.goto 4, 3) := dk_167 0 4 (dk_at dksX1_divides_1 4 rfl rfl)
theorem dX1_divides_29 : decode cX1_divides 29 = .ok (.iconst 3, 1) := dk_6 (dk_at dksX1_divides_1 7 rfl rfl)
theorem dX1_divides_30 : decode cX1_divides 30 = .ok (.ireturn, 1) := dk_172 (dk_at dksX1_divides_1 8 rfl rfl)
abbrev cX1_hasZero : ByteArray := prog_1_method_63_code
def yX1_hasZero : MethodName := ⟨RX1, "hasZero", "(I)Z"⟩
def dkwX1_hasZero_1 : List UInt8 := [182, 0, 46, 153, 0, 5, 4, 172, 132, 2, 1, 167, 255, 224, 3, 172]
abbrev dktX1_hasZero_1 : List UInt8 := dkwX1_hasZero_1 ++ []
def dkwX1_hasZero_0 : List UInt8 := [3, 61, 28, 16, 8, 162, 0, 32, 27, 28, 122, 4, 126, 4, 160, 0, 17, 42, 180, 0, 232, 28, 50]
abbrev dktX1_hasZero_0 : List UInt8 := dkwX1_hasZero_0 ++ dktX1_hasZero_1
theorem dksX1_hasZero_0 : cX1_hasZero.data.toList.drop 0 = dktX1_hasZero_0 := by decide +kernel
theorem dksX1_hasZero_1 : cX1_hasZero.data.toList.drop 23 = dktX1_hasZero_1 := dk_seg dksX1_hasZero_0 23 rfl rfl
theorem dX1_hasZero_0 : decode cX1_hasZero 0 = .ok (.iconst 0, 1) := dk_3 (dk_at dksX1_hasZero_0 0 rfl rfl)
theorem dX1_hasZero_1 : decode cX1_hasZero 1 = .ok (.istore_n 2, 1) := dk_61 (dk_at dksX1_hasZero_0 1 rfl rfl)
theorem dX1_hasZero_2 : decode cX1_hasZero 2 = .ok (.iload_n 2, 1) := dk_28 (dk_at dksX1_hasZero_0 2 rfl rfl)
theorem dX1_hasZero_3 : decode cX1_hasZero 3 = .ok (.bipush 8, 2) := dk_16 8 (dk_at dksX1_hasZero_0 3 rfl rfl)
theorem dX1_hasZero_5 : decode cX1_hasZero 5 = .ok (.if_icmp .ge 32, 3) := dk_162 0 32 (dk_at dksX1_hasZero_0 5 rfl rfl)
theorem dX1_hasZero_8 : decode cX1_hasZero 8 = .ok (.iload_n 1, 1) := dk_27 (dk_at dksX1_hasZero_0 8 rfl rfl)
theorem dX1_hasZero_9 : decode cX1_hasZero 9 = .ok (.iload_n 2, 1) := dk_28 (dk_at dksX1_hasZero_0 9 rfl rfl)
theorem dX1_hasZero_10 : decode cX1_hasZero 10 = .ok (.ishr, 1) := dk_122 (dk_at dksX1_hasZero_0 10 rfl rfl)
theorem dX1_hasZero_11 : decode cX1_hasZero 11 = .ok (.iconst 1, 1) := dk_4 (dk_at dksX1_hasZero_0 11 rfl rfl)
theorem dX1_hasZero_12 : decode cX1_hasZero 12 = .ok (.iand, 1) := dk_126 (dk_at dksX1_hasZero_0 12 rfl rfl)
theorem dX1_hasZero_13 : decode cX1_hasZero 13 = .ok (.iconst 1, 1) := dk_4 (dk_at dksX1_hasZero_0 13 rfl rfl)
theorem dX1_hasZero_14 : decode cX1_hasZero 14 = .ok (.if_icmp .ne 17, 3) := dk_160 0 17 (dk_at dksX1_hasZero_0 14 rfl rfl)
theorem dX1_hasZero_17 : decode cX1_hasZero 17 = .ok (.aload_n 0, 1) := dk_42 (dk_at dksX1_hasZero_0 17 rfl rfl)
theorem dX1_hasZero_18 : decode cX1_hasZero 18 = .ok (.getfield 232, 3) := dk_180 0 232 (dk_at dksX1_hasZero_0 18 rfl rfl)
theorem dX1_hasZero_21 : decode cX1_hasZero 21 = .ok (.iload_n 2, 1) := dk_28 (dk_at dksX1_hasZero_0 21 rfl rfl)
theorem dX1_hasZero_22 : decode cX1_hasZero 22 = .ok (.aaload, 1) := dk_50 (dk_at dksX1_hasZero_0 22 rfl rfl)
theorem dX1_hasZero_23 : decode cX1_hasZero 23 = .ok (.invokevirtual 46, 3) := dk_182 0 46 (dk_at dksX1_hasZero_1 0 rfl rfl)
theorem dX1_hasZero_26 : decode cX1_hasZero 26 = .ok (.ifCond .eq 5, 3) := dk_153 0 5 (dk_at dksX1_hasZero_1 3 rfl rfl)
theorem dX1_hasZero_29 : decode cX1_hasZero 29 = .ok (.iconst 1, 1) := dk_4 (dk_at dksX1_hasZero_1 6 rfl rfl)
theorem dX1_hasZero_30 : decode cX1_hasZero 30 = .ok (.ireturn, 1) := dk_172 (dk_at dksX1_hasZero_1 7 rfl rfl)
theorem dX1_hasZero_31 : decode cX1_hasZero 31 = .ok (.iinc 2 1, 3) := dk_132 2 1 (dk_at dksX1_hasZero_1 8 rfl rfl)
theorem dX1_hasZero_34 : decode cX1_hasZero 34 = .ok (.goto (-32), 3) := dk_167 255 224 (dk_at dksX1_hasZero_1 11 rfl rfl)
theorem dX1_hasZero_37 : decode cX1_hasZero 37 = .ok (.iconst 0, 1) := dk_3 (dk_at dksX1_hasZero_1 14 rfl rfl)
theorem dX1_hasZero_38 : decode cX1_hasZero 38 = .ok (.ireturn, 1) := dk_172 (dk_at dksX1_hasZero_1 15 rfl rfl)
abbrev cX1_goesInto : ByteArray := prog_1_method_5_code
def yX1_goesInto : MethodName := ⟨RX1, "goesInto", "(II)Z"⟩
def dkwX1_goesInto_1 : List UInt8 := [132, 2, 1, 167, 255, 233, 4, 172]
abbrev dktX1_goesInto_1 : List UInt8 := dkwX1_goesInto_1 ++ []
def dkwX1_goesInto_0 : List UInt8 := [3, 61, 28, 6, 162, 0, 24, 26, 28, 184, 0, 3, 27, 28, 184, 0, 3, 164, 0, 5, 3, 172]
abbrev dktX1_goesInto_0 : List UInt8 := dkwX1_goesInto_0 ++ dktX1_goesInto_1
theorem dksX1_goesInto_0 : cX1_goesInto.data.toList.drop 0 = dktX1_goesInto_0 := by decide +kernel
theorem dksX1_goesInto_1 : cX1_goesInto.data.toList.drop 22 = dktX1_goesInto_1 := dk_seg dksX1_goesInto_0 22 rfl rfl
theorem dX1_goesInto_0 : decode cX1_goesInto 0 = .ok (.iconst 0, 1) := dk_3 (dk_at dksX1_goesInto_0 0 rfl rfl)
theorem dX1_goesInto_1 : decode cX1_goesInto 1 = .ok (.istore_n 2, 1) := dk_61 (dk_at dksX1_goesInto_0 1 rfl rfl)
theorem dX1_goesInto_2 : decode cX1_goesInto 2 = .ok (.iload_n 2, 1) := dk_28 (dk_at dksX1_goesInto_0 2 rfl rfl)
theorem dX1_goesInto_3 : decode cX1_goesInto 3 = .ok (.iconst 3, 1) := dk_6 (dk_at dksX1_goesInto_0 3 rfl rfl)
theorem dX1_goesInto_4 : decode cX1_goesInto 4 = .ok (.if_icmp .ge 24, 3) := dk_162 0 24 (dk_at dksX1_goesInto_0 4 rfl rfl)
theorem dX1_goesInto_7 : decode cX1_goesInto 7 = .ok (.iload_n 0, 1) := dk_26 (dk_at dksX1_goesInto_0 7 rfl rfl)
theorem dX1_goesInto_8 : decode cX1_goesInto 8 = .ok (.iload_n 2, 1) := dk_28 (dk_at dksX1_goesInto_0 8 rfl rfl)
theorem dX1_goesInto_9 : decode cX1_goesInto 9 = .ok (.invokestatic 3, 3) := dk_184 0 3 (dk_at dksX1_goesInto_0 9 rfl rfl)
theorem dX1_goesInto_12 : decode cX1_goesInto 12 = .ok (.iload_n 1, 1) := dk_27 (dk_at dksX1_goesInto_0 12 rfl rfl)
theorem dX1_goesInto_13 : decode cX1_goesInto 13 = .ok (.iload_n 2, 1) := dk_28 (dk_at dksX1_goesInto_0 13 rfl rfl)
theorem dX1_goesInto_14 : decode cX1_goesInto 14 = .ok (.invokestatic 3, 3) := dk_184 0 3 (dk_at dksX1_goesInto_0 14 rfl rfl)
theorem dX1_goesInto_17 : decode cX1_goesInto 17 = .ok (.if_icmp .le 5, 3) := dk_164 0 5 (dk_at dksX1_goesInto_0 17 rfl rfl)
theorem dX1_goesInto_20 : decode cX1_goesInto 20 = .ok (.iconst 0, 1) := dk_3 (dk_at dksX1_goesInto_0 20 rfl rfl)
theorem dX1_goesInto_21 : decode cX1_goesInto 21 = .ok (.ireturn, 1) := dk_172 (dk_at dksX1_goesInto_0 21 rfl rfl)
theorem dX1_goesInto_22 : decode cX1_goesInto 22 = .ok (.iinc 2 1, 3) := dk_132 2 1 (dk_at dksX1_goesInto_1 0 rfl rfl)
theorem dX1_goesInto_25 : decode cX1_goesInto 25 = .ok (.goto (-23), 3) := dk_167 255 233 (dk_at dksX1_goesInto_1 3 rfl rfl)
theorem dX1_goesInto_28 : decode cX1_goesInto 28 = .ok (.iconst 1, 1) := dk_4 (dk_at dksX1_goesInto_1 6 rfl rfl)
theorem dX1_goesInto_29 : decode cX1_goesInto 29 = .ok (.ireturn, 1) := dk_172 (dk_at dksX1_goesInto_1 7 rfl rfl)
abbrev cX1_goes : ByteArray := prog_1_method_12_code
def yX1_goes : MethodName := ⟨RX1, "goes", "(LTermDesk$Poly;I)Z"⟩
def dkwX1_goes_1 : List UInt8 := [96, 16, 15, 164, 0, 5, 3, 172, 132, 2, 1, 167, 255, 223, 4, 172]
abbrev dktX1_goes_1 : List UInt8 := dkwX1_goes_1 ++ []
def dkwX1_goes_0 : List UInt8 := [3, 61, 28, 6, 162, 0, 34, 42, 182, 0, 46, 154, 0, 21, 42, 28, 182, 0, 52, 27, 28, 184, 0, 3]
abbrev dktX1_goes_0 : List UInt8 := dkwX1_goes_0 ++ dktX1_goes_1
theorem dksX1_goes_0 : cX1_goes.data.toList.drop 0 = dktX1_goes_0 := by decide +kernel
theorem dksX1_goes_1 : cX1_goes.data.toList.drop 24 = dktX1_goes_1 := dk_seg dksX1_goes_0 24 rfl rfl
theorem dX1_goes_0 : decode cX1_goes 0 = .ok (.iconst 0, 1) := dk_3 (dk_at dksX1_goes_0 0 rfl rfl)
theorem dX1_goes_1 : decode cX1_goes 1 = .ok (.istore_n 2, 1) := dk_61 (dk_at dksX1_goes_0 1 rfl rfl)
theorem dX1_goes_2 : decode cX1_goes 2 = .ok (.iload_n 2, 1) := dk_28 (dk_at dksX1_goes_0 2 rfl rfl)
theorem dX1_goes_3 : decode cX1_goes 3 = .ok (.iconst 3, 1) := dk_6 (dk_at dksX1_goes_0 3 rfl rfl)
theorem dX1_goes_4 : decode cX1_goes 4 = .ok (.if_icmp .ge 34, 3) := dk_162 0 34 (dk_at dksX1_goes_0 4 rfl rfl)
theorem dX1_goes_7 : decode cX1_goes 7 = .ok (.aload_n 0, 1) := dk_42 (dk_at dksX1_goes_0 7 rfl rfl)
theorem dX1_goes_8 : decode cX1_goes 8 = .ok (.invokevirtual 46, 3) := dk_182 0 46 (dk_at dksX1_goes_0 8 rfl rfl)
theorem dX1_goes_11 : decode cX1_goes 11 = .ok (.ifCond .ne 21, 3) := dk_154 0 21 (dk_at dksX1_goes_0 11 rfl rfl)
theorem dX1_goes_14 : decode cX1_goes 14 = .ok (.aload_n 0, 1) := dk_42 (dk_at dksX1_goes_0 14 rfl rfl)
theorem dX1_goes_15 : decode cX1_goes 15 = .ok (.iload_n 2, 1) := dk_28 (dk_at dksX1_goes_0 15 rfl rfl)
theorem dX1_goes_16 : decode cX1_goes 16 = .ok (.invokevirtual 52, 3) := dk_182 0 52 (dk_at dksX1_goes_0 16 rfl rfl)
theorem dX1_goes_19 : decode cX1_goes 19 = .ok (.iload_n 1, 1) := dk_27 (dk_at dksX1_goes_0 19 rfl rfl)
theorem dX1_goes_20 : decode cX1_goes 20 = .ok (.iload_n 2, 1) := dk_28 (dk_at dksX1_goes_0 20 rfl rfl)
theorem dX1_goes_21 : decode cX1_goes 21 = .ok (.invokestatic 3, 3) := dk_184 0 3 (dk_at dksX1_goes_0 21 rfl rfl)
theorem dX1_goes_24 : decode cX1_goes 24 = .ok (.iadd, 1) := dk_96 (dk_at dksX1_goes_1 0 rfl rfl)
theorem dX1_goes_25 : decode cX1_goes 25 = .ok (.bipush 15, 2) := dk_16 15 (dk_at dksX1_goes_1 1 rfl rfl)
theorem dX1_goes_27 : decode cX1_goes 27 = .ok (.if_icmp .le 5, 3) := dk_164 0 5 (dk_at dksX1_goes_1 3 rfl rfl)
theorem dX1_goes_30 : decode cX1_goes 30 = .ok (.iconst 0, 1) := dk_3 (dk_at dksX1_goes_1 6 rfl rfl)
theorem dX1_goes_31 : decode cX1_goes 31 = .ok (.ireturn, 1) := dk_172 (dk_at dksX1_goes_1 7 rfl rfl)
theorem dX1_goes_32 : decode cX1_goes 32 = .ok (.iinc 2 1, 3) := dk_132 2 1 (dk_at dksX1_goes_1 8 rfl rfl)
theorem dX1_goes_35 : decode cX1_goes 35 = .ok (.goto (-33), 3) := dk_167 255 223 (dk_at dksX1_goes_1 11 rfl rfl)
theorem dX1_goes_38 : decode cX1_goes 38 = .ok (.iconst 1, 1) := dk_4 (dk_at dksX1_goes_1 14 rfl rfl)
theorem dX1_goes_39 : decode cX1_goes 39 = .ok (.ireturn, 1) := dk_172 (dk_at dksX1_goes_1 15 rfl rfl)
abbrev cX1_merges : ByteArray := prog_1_method_13_code
def yX1_merges : MethodName := ⟨RX1, "merges", "(LTermDesk$Row;[I[IILTermDesk$Poly;II)LTermDesk$Row;"⟩
def dkwX1_merges_8 : List UInt8 := [112, 182, 0, 72, 132, 8, 1, 132, 9, 1, 167, 255, 73, 43, 176]
abbrev dktX1_merges_8 : List UInt8 := dkwX1_merges_8 ++ []
def dkwX1_merges_7 : List UInt8 := [44, 21, 8, 46, 45, 21, 8, 46, 25, 5, 180, 0, 76, 21, 9, 46, 21, 6, 104, 96, 42, 180, 0, 23]
abbrev dktX1_merges_7 : List UInt8 := dkwX1_merges_7 ++ dktX1_merges_8
def dkwX1_merges_6 : List UInt8 := [180, 0, 76, 21, 9, 46, 21, 6, 104, 42, 180, 0, 23, 112, 182, 0, 72, 132, 9, 1, 167, 0, 38, 43]
abbrev dktX1_merges_6 : List UInt8 := dkwX1_merges_6 ++ dktX1_merges_7
def dkwX1_merges_5 : List UInt8 := [167, 0, 82, 21, 11, 21, 10, 164, 0, 40, 43, 25, 5, 180, 0, 69, 21, 9, 46, 21, 7, 96, 25, 5]
abbrev dktX1_merges_5 : List UInt8 := dkwX1_merges_5 ++ dktX1_merges_6
def dkwX1_merges_4 : List UInt8 := [54, 11, 21, 10, 21, 11, 164, 0, 21, 43, 44, 21, 8, 46, 45, 21, 8, 46, 182, 0, 72, 132, 8, 1]
abbrev dktX1_merges_4 : List UInt8 := dkwX1_merges_4 ++ dktX1_merges_5
def dkwX1_merges_3 : List UInt8 := [180, 0, 39, 25, 5, 180, 0, 69, 21, 9, 46, 21, 7, 96, 185, 0, 65, 2, 0, 167, 0, 4, 2]
abbrev dktX1_merges_3 : List UInt8 := dkwX1_merges_3 ++ dktX1_merges_4
def dkwX1_merges_2 : List UInt8 := [185, 0, 65, 2, 0, 167, 0, 4, 2, 54, 10, 21, 9, 25, 5, 180, 0, 62, 162, 0, 26, 42]
abbrev dktX1_merges_2 : List UInt8 := dkwX1_merges_2 ++ dktX1_merges_3
def dkwX1_merges_1 : List UInt8 := [180, 0, 62, 162, 0, 172, 21, 8, 21, 4, 162, 0, 19, 42, 180, 0, 39, 44, 21, 8, 46]
abbrev dktX1_merges_1 : List UInt8 := dkwX1_merges_1 ++ dktX1_merges_2
def dkwX1_merges_0 : List UInt8 := [43, 182, 0, 56, 87, 3, 54, 8, 3, 54, 9, 21, 8, 21, 4, 161, 0, 13, 21, 9, 25, 5]
abbrev dktX1_merges_0 : List UInt8 := dkwX1_merges_0 ++ dktX1_merges_1
theorem dksX1_merges_0 : cX1_merges.data.toList.drop 0 = dktX1_merges_0 := by decide +kernel
theorem dksX1_merges_1 : cX1_merges.data.toList.drop 22 = dktX1_merges_1 := dk_seg dksX1_merges_0 22 rfl rfl
theorem dksX1_merges_2 : cX1_merges.data.toList.drop 43 = dktX1_merges_2 := dk_seg dksX1_merges_1 21 rfl rfl
theorem dksX1_merges_3 : cX1_merges.data.toList.drop 65 = dktX1_merges_3 := dk_seg dksX1_merges_2 22 rfl rfl
theorem dksX1_merges_4 : cX1_merges.data.toList.drop 88 = dktX1_merges_4 := dk_seg dksX1_merges_3 23 rfl rfl
theorem dksX1_merges_5 : cX1_merges.data.toList.drop 112 = dktX1_merges_5 := dk_seg dksX1_merges_4 24 rfl rfl
theorem dksX1_merges_6 : cX1_merges.data.toList.drop 136 = dktX1_merges_6 := dk_seg dksX1_merges_5 24 rfl rfl
theorem dksX1_merges_7 : cX1_merges.data.toList.drop 160 = dktX1_merges_7 := dk_seg dksX1_merges_6 24 rfl rfl
theorem dksX1_merges_8 : cX1_merges.data.toList.drop 184 = dktX1_merges_8 := dk_seg dksX1_merges_7 24 rfl rfl
theorem dX1_merges_0 : decode cX1_merges 0 = .ok (.aload_n 1, 1) := dk_43 (dk_at dksX1_merges_0 0 rfl rfl)
theorem dX1_merges_1 : decode cX1_merges 1 = .ok (.invokevirtual 56, 3) := dk_182 0 56 (dk_at dksX1_merges_0 1 rfl rfl)
theorem dX1_merges_4 : decode cX1_merges 4 = .ok (.pop, 1) := dk_87 (dk_at dksX1_merges_0 4 rfl rfl)
theorem dX1_merges_5 : decode cX1_merges 5 = .ok (.iconst 0, 1) := dk_3 (dk_at dksX1_merges_0 5 rfl rfl)
theorem dX1_merges_6 : decode cX1_merges 6 = .ok (.istore 8, 2) := dk_54 8 (dk_at dksX1_merges_0 6 rfl rfl)
theorem dX1_merges_8 : decode cX1_merges 8 = .ok (.iconst 0, 1) := dk_3 (dk_at dksX1_merges_0 8 rfl rfl)
theorem dX1_merges_9 : decode cX1_merges 9 = .ok (.istore 9, 2) := dk_54 9 (dk_at dksX1_merges_0 9 rfl rfl)
theorem dX1_merges_11 : decode cX1_merges 11 = .ok (.iload 8, 2) := dk_21 8 (dk_at dksX1_merges_0 11 rfl rfl)
theorem dX1_merges_13 : decode cX1_merges 13 = .ok (.iload 4, 2) := dk_21 4 (dk_at dksX1_merges_0 13 rfl rfl)
theorem dX1_merges_15 : decode cX1_merges 15 = .ok (.if_icmp .lt 13, 3) := dk_161 0 13 (dk_at dksX1_merges_0 15 rfl rfl)
theorem dX1_merges_18 : decode cX1_merges 18 = .ok (.iload 9, 2) := dk_21 9 (dk_at dksX1_merges_0 18 rfl rfl)
theorem dX1_merges_20 : decode cX1_merges 20 = .ok (.aload 5, 2) := dk_25 5 (dk_at dksX1_merges_0 20 rfl rfl)
theorem dX1_merges_22 : decode cX1_merges 22 = .ok (.getfield 62, 3) := dk_180 0 62 (dk_at dksX1_merges_1 0 rfl rfl)
theorem dX1_merges_25 : decode cX1_merges 25 = .ok (.if_icmp .ge 172, 3) := dk_162 0 172 (dk_at dksX1_merges_1 3 rfl rfl)
theorem dX1_merges_28 : decode cX1_merges 28 = .ok (.iload 8, 2) := dk_21 8 (dk_at dksX1_merges_1 6 rfl rfl)
theorem dX1_merges_30 : decode cX1_merges 30 = .ok (.iload 4, 2) := dk_21 4 (dk_at dksX1_merges_1 8 rfl rfl)
theorem dX1_merges_32 : decode cX1_merges 32 = .ok (.if_icmp .ge 19, 3) := dk_162 0 19 (dk_at dksX1_merges_1 10 rfl rfl)
theorem dX1_merges_35 : decode cX1_merges 35 = .ok (.aload_n 0, 1) := dk_42 (dk_at dksX1_merges_1 13 rfl rfl)
theorem dX1_merges_36 : decode cX1_merges 36 = .ok (.getfield 39, 3) := dk_180 0 39 (dk_at dksX1_merges_1 14 rfl rfl)
theorem dX1_merges_39 : decode cX1_merges 39 = .ok (.aload_n 2, 1) := dk_44 (dk_at dksX1_merges_1 17 rfl rfl)
theorem dX1_merges_40 : decode cX1_merges 40 = .ok (.iload 8, 2) := dk_21 8 (dk_at dksX1_merges_1 18 rfl rfl)
theorem dX1_merges_42 : decode cX1_merges 42 = .ok (.iaload, 1) := dk_46 (dk_at dksX1_merges_1 20 rfl rfl)
theorem dX1_merges_43 : decode cX1_merges 43 = .ok (.invokeinterface 65 2, 5) := by decide +kernel
theorem dX1_merges_48 : decode cX1_merges 48 = .ok (.goto 4, 3) := dk_167 0 4 (dk_at dksX1_merges_2 5 rfl rfl)
theorem dX1_merges_51 : decode cX1_merges 51 = .ok (.iconst (-1), 1) := dk_2 (dk_at dksX1_merges_2 8 rfl rfl)
theorem dX1_merges_52 : decode cX1_merges 52 = .ok (.istore 10, 2) := dk_54 10 (dk_at dksX1_merges_2 9 rfl rfl)
theorem dX1_merges_54 : decode cX1_merges 54 = .ok (.iload 9, 2) := dk_21 9 (dk_at dksX1_merges_2 11 rfl rfl)
theorem dX1_merges_56 : decode cX1_merges 56 = .ok (.aload 5, 2) := dk_25 5 (dk_at dksX1_merges_2 13 rfl rfl)
theorem dX1_merges_58 : decode cX1_merges 58 = .ok (.getfield 62, 3) := dk_180 0 62 (dk_at dksX1_merges_2 15 rfl rfl)
theorem dX1_merges_61 : decode cX1_merges 61 = .ok (.if_icmp .ge 26, 3) := dk_162 0 26 (dk_at dksX1_merges_2 18 rfl rfl)
theorem dX1_merges_64 : decode cX1_merges 64 = .ok (.aload_n 0, 1) := dk_42 (dk_at dksX1_merges_2 21 rfl rfl)
theorem dX1_merges_65 : decode cX1_merges 65 = .ok (.getfield 39, 3) := dk_180 0 39 (dk_at dksX1_merges_3 0 rfl rfl)
theorem dX1_merges_68 : decode cX1_merges 68 = .ok (.aload 5, 2) := dk_25 5 (dk_at dksX1_merges_3 3 rfl rfl)
theorem dX1_merges_70 : decode cX1_merges 70 = .ok (.getfield 69, 3) := dk_180 0 69 (dk_at dksX1_merges_3 5 rfl rfl)
theorem dX1_merges_73 : decode cX1_merges 73 = .ok (.iload 9, 2) := dk_21 9 (dk_at dksX1_merges_3 8 rfl rfl)
theorem dX1_merges_75 : decode cX1_merges 75 = .ok (.iaload, 1) := dk_46 (dk_at dksX1_merges_3 10 rfl rfl)
theorem dX1_merges_76 : decode cX1_merges 76 = .ok (.iload 7, 2) := dk_21 7 (dk_at dksX1_merges_3 11 rfl rfl)
theorem dX1_merges_78 : decode cX1_merges 78 = .ok (.iadd, 1) := dk_96 (dk_at dksX1_merges_3 13 rfl rfl)
theorem dX1_merges_79 : decode cX1_merges 79 = .ok (.invokeinterface 65 2, 5) := by decide +kernel
theorem dX1_merges_84 : decode cX1_merges 84 = .ok (.goto 4, 3) := dk_167 0 4 (dk_at dksX1_merges_3 19 rfl rfl)
theorem dX1_merges_87 : decode cX1_merges 87 = .ok (.iconst (-1), 1) := dk_2 (dk_at dksX1_merges_3 22 rfl rfl)
theorem dX1_merges_88 : decode cX1_merges 88 = .ok (.istore 11, 2) := dk_54 11 (dk_at dksX1_merges_4 0 rfl rfl)
theorem dX1_merges_90 : decode cX1_merges 90 = .ok (.iload 10, 2) := dk_21 10 (dk_at dksX1_merges_4 2 rfl rfl)
theorem dX1_merges_92 : decode cX1_merges 92 = .ok (.iload 11, 2) := dk_21 11 (dk_at dksX1_merges_4 4 rfl rfl)
theorem dX1_merges_94 : decode cX1_merges 94 = .ok (.if_icmp .le 21, 3) := dk_164 0 21 (dk_at dksX1_merges_4 6 rfl rfl)
theorem dX1_merges_97 : decode cX1_merges 97 = .ok (.aload_n 1, 1) := dk_43 (dk_at dksX1_merges_4 9 rfl rfl)
theorem dX1_merges_98 : decode cX1_merges 98 = .ok (.aload_n 2, 1) := dk_44 (dk_at dksX1_merges_4 10 rfl rfl)
theorem dX1_merges_99 : decode cX1_merges 99 = .ok (.iload 8, 2) := dk_21 8 (dk_at dksX1_merges_4 11 rfl rfl)
theorem dX1_merges_101 : decode cX1_merges 101 = .ok (.iaload, 1) := dk_46 (dk_at dksX1_merges_4 13 rfl rfl)
theorem dX1_merges_102 : decode cX1_merges 102 = .ok (.aload_n 3, 1) := dk_45 (dk_at dksX1_merges_4 14 rfl rfl)
theorem dX1_merges_103 : decode cX1_merges 103 = .ok (.iload 8, 2) := dk_21 8 (dk_at dksX1_merges_4 15 rfl rfl)
theorem dX1_merges_105 : decode cX1_merges 105 = .ok (.iaload, 1) := dk_46 (dk_at dksX1_merges_4 17 rfl rfl)
theorem dX1_merges_106 : decode cX1_merges 106 = .ok (.invokevirtual 72, 3) := dk_182 0 72 (dk_at dksX1_merges_4 18 rfl rfl)
theorem dX1_merges_109 : decode cX1_merges 109 = .ok (.iinc 8 1, 3) := dk_132 8 1 (dk_at dksX1_merges_4 21 rfl rfl)
theorem dX1_merges_112 : decode cX1_merges 112 = .ok (.goto 82, 3) := dk_167 0 82 (dk_at dksX1_merges_5 0 rfl rfl)
theorem dX1_merges_115 : decode cX1_merges 115 = .ok (.iload 11, 2) := dk_21 11 (dk_at dksX1_merges_5 3 rfl rfl)
theorem dX1_merges_117 : decode cX1_merges 117 = .ok (.iload 10, 2) := dk_21 10 (dk_at dksX1_merges_5 5 rfl rfl)
theorem dX1_merges_119 : decode cX1_merges 119 = .ok (.if_icmp .le 40, 3) := dk_164 0 40 (dk_at dksX1_merges_5 7 rfl rfl)
theorem dX1_merges_122 : decode cX1_merges 122 = .ok (.aload_n 1, 1) := dk_43 (dk_at dksX1_merges_5 10 rfl rfl)
theorem dX1_merges_123 : decode cX1_merges 123 = .ok (.aload 5, 2) := dk_25 5 (dk_at dksX1_merges_5 11 rfl rfl)
theorem dX1_merges_125 : decode cX1_merges 125 = .ok (.getfield 69, 3) := dk_180 0 69 (dk_at dksX1_merges_5 13 rfl rfl)
theorem dX1_merges_128 : decode cX1_merges 128 = .ok (.iload 9, 2) := dk_21 9 (dk_at dksX1_merges_5 16 rfl rfl)
theorem dX1_merges_130 : decode cX1_merges 130 = .ok (.iaload, 1) := dk_46 (dk_at dksX1_merges_5 18 rfl rfl)
theorem dX1_merges_131 : decode cX1_merges 131 = .ok (.iload 7, 2) := dk_21 7 (dk_at dksX1_merges_5 19 rfl rfl)
theorem dX1_merges_133 : decode cX1_merges 133 = .ok (.iadd, 1) := dk_96 (dk_at dksX1_merges_5 21 rfl rfl)
theorem dX1_merges_134 : decode cX1_merges 134 = .ok (.aload 5, 2) := dk_25 5 (dk_at dksX1_merges_5 22 rfl rfl)
theorem dX1_merges_136 : decode cX1_merges 136 = .ok (.getfield 76, 3) := dk_180 0 76 (dk_at dksX1_merges_6 0 rfl rfl)
theorem dX1_merges_139 : decode cX1_merges 139 = .ok (.iload 9, 2) := dk_21 9 (dk_at dksX1_merges_6 3 rfl rfl)
theorem dX1_merges_141 : decode cX1_merges 141 = .ok (.iaload, 1) := dk_46 (dk_at dksX1_merges_6 5 rfl rfl)
theorem dX1_merges_142 : decode cX1_merges 142 = .ok (.iload 6, 2) := dk_21 6 (dk_at dksX1_merges_6 6 rfl rfl)
theorem dX1_merges_144 : decode cX1_merges 144 = .ok (.imul, 1) := dk_104 (dk_at dksX1_merges_6 8 rfl rfl)
theorem dX1_merges_145 : decode cX1_merges 145 = .ok (.aload_n 0, 1) := dk_42 (dk_at dksX1_merges_6 9 rfl rfl)
theorem dX1_merges_146 : decode cX1_merges 146 = .ok (.getfield 23, 3) := dk_180 0 23 (dk_at dksX1_merges_6 10 rfl rfl)
theorem dX1_merges_149 : decode cX1_merges 149 = .ok (.irem, 1) := dk_112 (dk_at dksX1_merges_6 13 rfl rfl)
theorem dX1_merges_150 : decode cX1_merges 150 = .ok (.invokevirtual 72, 3) := dk_182 0 72 (dk_at dksX1_merges_6 14 rfl rfl)
theorem dX1_merges_153 : decode cX1_merges 153 = .ok (.iinc 9 1, 3) := dk_132 9 1 (dk_at dksX1_merges_6 17 rfl rfl)
theorem dX1_merges_156 : decode cX1_merges 156 = .ok (.goto 38, 3) := dk_167 0 38 (dk_at dksX1_merges_6 20 rfl rfl)
theorem dX1_merges_159 : decode cX1_merges 159 = .ok (.aload_n 1, 1) := dk_43 (dk_at dksX1_merges_6 23 rfl rfl)
theorem dX1_merges_160 : decode cX1_merges 160 = .ok (.aload_n 2, 1) := dk_44 (dk_at dksX1_merges_7 0 rfl rfl)
theorem dX1_merges_161 : decode cX1_merges 161 = .ok (.iload 8, 2) := dk_21 8 (dk_at dksX1_merges_7 1 rfl rfl)
theorem dX1_merges_163 : decode cX1_merges 163 = .ok (.iaload, 1) := dk_46 (dk_at dksX1_merges_7 3 rfl rfl)
theorem dX1_merges_164 : decode cX1_merges 164 = .ok (.aload_n 3, 1) := dk_45 (dk_at dksX1_merges_7 4 rfl rfl)
theorem dX1_merges_165 : decode cX1_merges 165 = .ok (.iload 8, 2) := dk_21 8 (dk_at dksX1_merges_7 5 rfl rfl)
theorem dX1_merges_167 : decode cX1_merges 167 = .ok (.iaload, 1) := dk_46 (dk_at dksX1_merges_7 7 rfl rfl)
theorem dX1_merges_168 : decode cX1_merges 168 = .ok (.aload 5, 2) := dk_25 5 (dk_at dksX1_merges_7 8 rfl rfl)
theorem dX1_merges_170 : decode cX1_merges 170 = .ok (.getfield 76, 3) := dk_180 0 76 (dk_at dksX1_merges_7 10 rfl rfl)
theorem dX1_merges_173 : decode cX1_merges 173 = .ok (.iload 9, 2) := dk_21 9 (dk_at dksX1_merges_7 13 rfl rfl)
theorem dX1_merges_175 : decode cX1_merges 175 = .ok (.iaload, 1) := dk_46 (dk_at dksX1_merges_7 15 rfl rfl)
theorem dX1_merges_176 : decode cX1_merges 176 = .ok (.iload 6, 2) := dk_21 6 (dk_at dksX1_merges_7 16 rfl rfl)
theorem dX1_merges_178 : decode cX1_merges 178 = .ok (.imul, 1) := dk_104 (dk_at dksX1_merges_7 18 rfl rfl)
theorem dX1_merges_179 : decode cX1_merges 179 = .ok (.iadd, 1) := dk_96 (dk_at dksX1_merges_7 19 rfl rfl)
theorem dX1_merges_180 : decode cX1_merges 180 = .ok (.aload_n 0, 1) := dk_42 (dk_at dksX1_merges_7 20 rfl rfl)
theorem dX1_merges_181 : decode cX1_merges 181 = .ok (.getfield 23, 3) := dk_180 0 23 (dk_at dksX1_merges_7 21 rfl rfl)
theorem dX1_merges_184 : decode cX1_merges 184 = .ok (.irem, 1) := dk_112 (dk_at dksX1_merges_8 0 rfl rfl)
theorem dX1_merges_185 : decode cX1_merges 185 = .ok (.invokevirtual 72, 3) := dk_182 0 72 (dk_at dksX1_merges_8 1 rfl rfl)
theorem dX1_merges_188 : decode cX1_merges 188 = .ok (.iinc 8 1, 3) := dk_132 8 1 (dk_at dksX1_merges_8 4 rfl rfl)
theorem dX1_merges_191 : decode cX1_merges 191 = .ok (.iinc 9 1, 3) := dk_132 9 1 (dk_at dksX1_merges_8 7 rfl rfl)
theorem dX1_merges_194 : decode cX1_merges 194 = .ok (.goto (-183), 3) := dk_167 255 73 (dk_at dksX1_merges_8 10 rfl rfl)
theorem dX1_merges_197 : decode cX1_merges 197 = .ok (.aload_n 1, 1) := dk_43 (dk_at dksX1_merges_8 13 rfl rfl)
theorem dX1_merges_198 : decode cX1_merges 198 = .ok (.areturn, 1) := dk_176 (dk_at dksX1_merges_8 14 rfl rfl)
abbrev cX1_divides_2 : ByteArray := prog_1_method_67_code
def yX1_divides_2 : MethodName := ⟨RX1, "divides", "(II)I"⟩
def dkwX1_divides_2_2 : List UInt8 := [172, 42, 180, 0, 216, 180, 1, 139, 180, 1, 135, 154, 0, 7, 4, 167, 0, 4, 3, 172]
abbrev dktX1_divides_2_2 : List UInt8 := dkwX1_divides_2_2 ++ []
def dkwX1_divides_2_1 : List UInt8 := [79, 184, 1, 69, 153, 0, 9, 4, 27, 120, 167, 0, 4, 3, 182, 1, 127, 182, 1, 62, 153, 0, 5, 2]
abbrev dktX1_divides_2_1 : List UInt8 := dkwX1_divides_2_1 ++ dktX1_divides_2_2
def dkwX1_divides_2_0 : List UInt8 := [42, 42, 5, 188, 10, 89, 3, 27, 79, 89, 4, 28, 79, 184, 1, 69, 4, 28, 4, 188, 10, 89, 3, 27]
abbrev dktX1_divides_2_0 : List UInt8 := dkwX1_divides_2_0 ++ dktX1_divides_2_1
theorem dksX1_divides_2_0 : cX1_divides_2.data.toList.drop 0 = dktX1_divides_2_0 := by decide +kernel
theorem dksX1_divides_2_1 : cX1_divides_2.data.toList.drop 24 = dktX1_divides_2_1 := dk_seg dksX1_divides_2_0 24 rfl rfl
theorem dksX1_divides_2_2 : cX1_divides_2.data.toList.drop 48 = dktX1_divides_2_2 := dk_seg dksX1_divides_2_1 24 rfl rfl
theorem dX1_divides_2_0 : decode cX1_divides_2 0 = .ok (.aload_n 0, 1) := dk_42 (dk_at dksX1_divides_2_0 0 rfl rfl)
theorem dX1_divides_2_1 : decode cX1_divides_2 1 = .ok (.aload_n 0, 1) := dk_42 (dk_at dksX1_divides_2_0 1 rfl rfl)
theorem dX1_divides_2_2 : decode cX1_divides_2 2 = .ok (.iconst 2, 1) := dk_5 (dk_at dksX1_divides_2_0 2 rfl rfl)
theorem dX1_divides_2_3 : decode cX1_divides_2 3 = .ok (.newarray .int, 2) := dk_188_10 (dk_at dksX1_divides_2_0 3 rfl rfl)
theorem dX1_divides_2_5 : decode cX1_divides_2 5 = .ok (.dup, 1) := dk_89 (dk_at dksX1_divides_2_0 5 rfl rfl)
theorem dX1_divides_2_6 : decode cX1_divides_2 6 = .ok (.iconst 0, 1) := dk_3 (dk_at dksX1_divides_2_0 6 rfl rfl)
theorem dX1_divides_2_7 : decode cX1_divides_2 7 = .ok (.iload_n 1, 1) := dk_27 (dk_at dksX1_divides_2_0 7 rfl rfl)
theorem dX1_divides_2_8 : decode cX1_divides_2 8 = .ok (.iastore, 1) := dk_79 (dk_at dksX1_divides_2_0 8 rfl rfl)
theorem dX1_divides_2_9 : decode cX1_divides_2 9 = .ok (.dup, 1) := dk_89 (dk_at dksX1_divides_2_0 9 rfl rfl)
theorem dX1_divides_2_10 : decode cX1_divides_2 10 = .ok (.iconst 1, 1) := dk_4 (dk_at dksX1_divides_2_0 10 rfl rfl)
theorem dX1_divides_2_11 : decode cX1_divides_2 11 = .ok (.iload_n 2, 1) := dk_28 (dk_at dksX1_divides_2_0 11 rfl rfl)
theorem dX1_divides_2_12 : decode cX1_divides_2 12 = .ok (.iastore, 1) := dk_79 (dk_at dksX1_divides_2_0 12 rfl rfl)
theorem dX1_divides_2_13 : decode cX1_divides_2 13 = .ok (.invokestatic 325, 3) := dk_184 1 69 (dk_at dksX1_divides_2_0 13 rfl rfl)
theorem dX1_divides_2_16 : decode cX1_divides_2 16 = .ok (.iconst 1, 1) := dk_4 (dk_at dksX1_divides_2_0 16 rfl rfl)
theorem dX1_divides_2_17 : decode cX1_divides_2 17 = .ok (.iload_n 2, 1) := dk_28 (dk_at dksX1_divides_2_0 17 rfl rfl)
theorem dX1_divides_2_18 : decode cX1_divides_2 18 = .ok (.iconst 1, 1) := dk_4 (dk_at dksX1_divides_2_0 18 rfl rfl)
theorem dX1_divides_2_19 : decode cX1_divides_2 19 = .ok (.newarray .int, 2) := dk_188_10 (dk_at dksX1_divides_2_0 19 rfl rfl)
theorem dX1_divides_2_21 : decode cX1_divides_2 21 = .ok (.dup, 1) := dk_89 (dk_at dksX1_divides_2_0 21 rfl rfl)
theorem dX1_divides_2_22 : decode cX1_divides_2 22 = .ok (.iconst 0, 1) := dk_3 (dk_at dksX1_divides_2_0 22 rfl rfl)
theorem dX1_divides_2_23 : decode cX1_divides_2 23 = .ok (.iload_n 1, 1) := dk_27 (dk_at dksX1_divides_2_0 23 rfl rfl)
theorem dX1_divides_2_24 : decode cX1_divides_2 24 = .ok (.iastore, 1) := dk_79 (dk_at dksX1_divides_2_1 0 rfl rfl)
theorem dX1_divides_2_25 : decode cX1_divides_2 25 = .ok (.invokestatic 325, 3) := dk_184 1 69 (dk_at dksX1_divides_2_1 1 rfl rfl)
theorem dX1_divides_2_28 : decode cX1_divides_2 28 = .ok (.ifCond .eq 9, 3) := dk_153 0 9 (dk_at dksX1_divides_2_1 4 rfl rfl)
theorem dX1_divides_2_31 : decode cX1_divides_2 31 = .ok (.iconst 1, 1) := dk_4 (dk_at dksX1_divides_2_1 7 rfl rfl)
theorem dX1_divides_2_32 : decode cX1_divides_2 32 = .ok (.iload_n 1, 1) := dk_27 (dk_at dksX1_divides_2_1 8 rfl rfl)
theorem dX1_divides_2_33 : decode cX1_divides_2 33 = .ok (.ishl, 1) := dk_120 (dk_at dksX1_divides_2_1 9 rfl rfl)
theorem dX1_divides_2_34 : decode cX1_divides_2 34 = .ok (.goto 4, 3) := dk_167 0 4 (dk_at dksX1_divides_2_1 10 rfl rfl)
theorem dX1_divides_2_37 : decode cX1_divides_2 37 = .ok (.iconst 0, 1) := dk_3 (dk_at dksX1_divides_2_1 13 rfl rfl)
theorem dX1_divides_2_38 : decode cX1_divides_2 38 = .ok (.invokevirtual 383, 3) := dk_182 1 127 (dk_at dksX1_divides_2_1 14 rfl rfl)
theorem dX1_divides_2_41 : decode cX1_divides_2 41 = .ok (.invokevirtual 318, 3) := dk_182 1 62 (dk_at dksX1_divides_2_1 17 rfl rfl)
theorem dX1_divides_2_44 : decode cX1_divides_2 44 = .ok (.ifCond .eq 5, 3) := dk_153 0 5 (dk_at dksX1_divides_2_1 20 rfl rfl)
theorem dX1_divides_2_47 : decode cX1_divides_2 47 = .ok (.iconst (-1), 1) := dk_2 (dk_at dksX1_divides_2_1 23 rfl rfl)
theorem dX1_divides_2_48 : decode cX1_divides_2 48 = .ok (.ireturn, 1) := dk_172 (dk_at dksX1_divides_2_2 0 rfl rfl)
theorem dX1_divides_2_49 : decode cX1_divides_2 49 = .ok (.aload_n 0, 1) := dk_42 (dk_at dksX1_divides_2_2 1 rfl rfl)
theorem dX1_divides_2_50 : decode cX1_divides_2 50 = .ok (.getfield 216, 3) := dk_180 0 216 (dk_at dksX1_divides_2_2 2 rfl rfl)
theorem dX1_divides_2_53 : decode cX1_divides_2 53 = .ok (.getfield 395, 3) := dk_180 1 139 (dk_at dksX1_divides_2_2 5 rfl rfl)
theorem dX1_divides_2_56 : decode cX1_divides_2 56 = .ok (.getfield 391, 3) := dk_180 1 135 (dk_at dksX1_divides_2_2 8 rfl rfl)
theorem dX1_divides_2_59 : decode cX1_divides_2 59 = .ok (.ifCond .ne 7, 3) := dk_154 0 7 (dk_at dksX1_divides_2_2 11 rfl rfl)
theorem dX1_divides_2_62 : decode cX1_divides_2 62 = .ok (.iconst 1, 1) := dk_4 (dk_at dksX1_divides_2_2 14 rfl rfl)
theorem dX1_divides_2_63 : decode cX1_divides_2 63 = .ok (.goto 4, 3) := dk_167 0 4 (dk_at dksX1_divides_2_2 15 rfl rfl)
theorem dX1_divides_2_66 : decode cX1_divides_2 66 = .ok (.iconst 0, 1) := dk_3 (dk_at dksX1_divides_2_2 18 rfl rfl)
theorem dX1_divides_2_67 : decode cX1_divides_2 67 = .ok (.ireturn, 1) := dk_172 (dk_at dksX1_divides_2_2 19 rfl rfl)
abbrev cX1_missing : ByteArray := prog_1_method_69_code
def yX1_missing : MethodName := ⟨RX1, "missing", "(I)I"⟩
def dkwX1_missing_5 : List UInt8 := [28, 172]
abbrev dktX1_missing_5 : List UInt8 := dkwX1_missing_5 ++ []
def dkwX1_missing_4 : List UInt8 := [21, 6, 156, 0, 11, 42, 21, 6, 116, 182, 1, 19, 172, 28, 21, 6, 96, 61, 132, 3, 1, 167, 255, 178]
abbrev dktX1_missing_4 : List UInt8 := dkwX1_missing_4 ++ dktX1_missing_5
def dkwX1_missing_3 : List UInt8 := [27, 21, 5, 122, 4, 126, 154, 0, 6, 167, 0, 32, 42, 21, 4, 21, 5, 27, 182, 1, 148, 54, 6]
abbrev dktX1_missing_3 : List UInt8 := dkwX1_missing_3 ++ dktX1_missing_4
def dkwX1_missing_2 : List UInt8 := [54, 4, 29, 16, 8, 112, 54, 5, 21, 4, 21, 5, 162, 0, 53, 27, 21, 4, 122, 4, 126, 153, 0, 44]
abbrev dktX1_missing_2 : List UInt8 := dkwX1_missing_2 ++ dktX1_missing_3
def dkwX1_missing_1 : List UInt8 := [153, 0, 9, 42, 8, 182, 1, 19, 172, 3, 61, 3, 62, 29, 16, 64, 162, 0, 78, 29, 16, 8, 108]
abbrev dktX1_missing_1 : List UInt8 := dkwX1_missing_1 ++ dktX1_missing_2
def dkwX1_missing_0 : List UInt8 := [42, 42, 4, 27, 184, 1, 120, 182, 1, 4, 182, 1, 62, 153, 0, 5, 2, 172, 42, 27, 182, 1, 110]
abbrev dktX1_missing_0 : List UInt8 := dkwX1_missing_0 ++ dktX1_missing_1
theorem dksX1_missing_0 : cX1_missing.data.toList.drop 0 = dktX1_missing_0 := by decide +kernel
theorem dksX1_missing_1 : cX1_missing.data.toList.drop 23 = dktX1_missing_1 := dk_seg dksX1_missing_0 23 rfl rfl
theorem dksX1_missing_2 : cX1_missing.data.toList.drop 46 = dktX1_missing_2 := dk_seg dksX1_missing_1 23 rfl rfl
theorem dksX1_missing_3 : cX1_missing.data.toList.drop 70 = dktX1_missing_3 := dk_seg dksX1_missing_2 24 rfl rfl
theorem dksX1_missing_4 : cX1_missing.data.toList.drop 93 = dktX1_missing_4 := dk_seg dksX1_missing_3 23 rfl rfl
theorem dksX1_missing_5 : cX1_missing.data.toList.drop 117 = dktX1_missing_5 := dk_seg dksX1_missing_4 24 rfl rfl
theorem dX1_missing_0 : decode cX1_missing 0 = .ok (.aload_n 0, 1) := dk_42 (dk_at dksX1_missing_0 0 rfl rfl)
theorem dX1_missing_1 : decode cX1_missing 1 = .ok (.aload_n 0, 1) := dk_42 (dk_at dksX1_missing_0 1 rfl rfl)
theorem dX1_missing_2 : decode cX1_missing 2 = .ok (.iconst 1, 1) := dk_4 (dk_at dksX1_missing_0 2 rfl rfl)
theorem dX1_missing_3 : decode cX1_missing 3 = .ok (.iload_n 1, 1) := dk_27 (dk_at dksX1_missing_0 3 rfl rfl)
theorem dX1_missing_4 : decode cX1_missing 4 = .ok (.invokestatic 376, 3) := dk_184 1 120 (dk_at dksX1_missing_0 4 rfl rfl)
theorem dX1_missing_7 : decode cX1_missing 7 = .ok (.invokevirtual 260, 3) := dk_182 1 4 (dk_at dksX1_missing_0 7 rfl rfl)
theorem dX1_missing_10 : decode cX1_missing 10 = .ok (.invokevirtual 318, 3) := dk_182 1 62 (dk_at dksX1_missing_0 10 rfl rfl)
theorem dX1_missing_13 : decode cX1_missing 13 = .ok (.ifCond .eq 5, 3) := dk_153 0 5 (dk_at dksX1_missing_0 13 rfl rfl)
theorem dX1_missing_16 : decode cX1_missing 16 = .ok (.iconst (-1), 1) := dk_2 (dk_at dksX1_missing_0 16 rfl rfl)
theorem dX1_missing_17 : decode cX1_missing 17 = .ok (.ireturn, 1) := dk_172 (dk_at dksX1_missing_0 17 rfl rfl)
theorem dX1_missing_18 : decode cX1_missing 18 = .ok (.aload_n 0, 1) := dk_42 (dk_at dksX1_missing_0 18 rfl rfl)
theorem dX1_missing_19 : decode cX1_missing 19 = .ok (.iload_n 1, 1) := dk_27 (dk_at dksX1_missing_0 19 rfl rfl)
theorem dX1_missing_20 : decode cX1_missing 20 = .ok (.invokevirtual 366, 3) := dk_182 1 110 (dk_at dksX1_missing_0 20 rfl rfl)
theorem dX1_missing_23 : decode cX1_missing 23 = .ok (.ifCond .eq 9, 3) := dk_153 0 9 (dk_at dksX1_missing_1 0 rfl rfl)
theorem dX1_missing_26 : decode cX1_missing 26 = .ok (.aload_n 0, 1) := dk_42 (dk_at dksX1_missing_1 3 rfl rfl)
theorem dX1_missing_27 : decode cX1_missing 27 = .ok (.iconst 5, 1) := dk_8 (dk_at dksX1_missing_1 4 rfl rfl)
theorem dX1_missing_28 : decode cX1_missing 28 = .ok (.invokevirtual 275, 3) := dk_182 1 19 (dk_at dksX1_missing_1 5 rfl rfl)
theorem dX1_missing_31 : decode cX1_missing 31 = .ok (.ireturn, 1) := dk_172 (dk_at dksX1_missing_1 8 rfl rfl)
theorem dX1_missing_32 : decode cX1_missing 32 = .ok (.iconst 0, 1) := dk_3 (dk_at dksX1_missing_1 9 rfl rfl)
theorem dX1_missing_33 : decode cX1_missing 33 = .ok (.istore_n 2, 1) := dk_61 (dk_at dksX1_missing_1 10 rfl rfl)
theorem dX1_missing_34 : decode cX1_missing 34 = .ok (.iconst 0, 1) := dk_3 (dk_at dksX1_missing_1 11 rfl rfl)
theorem dX1_missing_35 : decode cX1_missing 35 = .ok (.istore_n 3, 1) := dk_62 (dk_at dksX1_missing_1 12 rfl rfl)
theorem dX1_missing_36 : decode cX1_missing 36 = .ok (.iload_n 3, 1) := dk_29 (dk_at dksX1_missing_1 13 rfl rfl)
theorem dX1_missing_37 : decode cX1_missing 37 = .ok (.bipush 64, 2) := dk_16 64 (dk_at dksX1_missing_1 14 rfl rfl)
theorem dX1_missing_39 : decode cX1_missing 39 = .ok (.if_icmp .ge 78, 3) := dk_162 0 78 (dk_at dksX1_missing_1 16 rfl rfl)
theorem dX1_missing_42 : decode cX1_missing 42 = .ok (.iload_n 3, 1) := dk_29 (dk_at dksX1_missing_1 19 rfl rfl)
theorem dX1_missing_43 : decode cX1_missing 43 = .ok (.bipush 8, 2) := dk_16 8 (dk_at dksX1_missing_1 20 rfl rfl)
theorem dX1_missing_45 : decode cX1_missing 45 = .ok (.idiv, 1) := dk_108 (dk_at dksX1_missing_1 22 rfl rfl)
theorem dX1_missing_46 : decode cX1_missing 46 = .ok (.istore 4, 2) := dk_54 4 (dk_at dksX1_missing_2 0 rfl rfl)
theorem dX1_missing_48 : decode cX1_missing 48 = .ok (.iload_n 3, 1) := dk_29 (dk_at dksX1_missing_2 2 rfl rfl)
theorem dX1_missing_49 : decode cX1_missing 49 = .ok (.bipush 8, 2) := dk_16 8 (dk_at dksX1_missing_2 3 rfl rfl)
theorem dX1_missing_51 : decode cX1_missing 51 = .ok (.irem, 1) := dk_112 (dk_at dksX1_missing_2 5 rfl rfl)
theorem dX1_missing_52 : decode cX1_missing 52 = .ok (.istore 5, 2) := dk_54 5 (dk_at dksX1_missing_2 6 rfl rfl)
theorem dX1_missing_54 : decode cX1_missing 54 = .ok (.iload 4, 2) := dk_21 4 (dk_at dksX1_missing_2 8 rfl rfl)
theorem dX1_missing_56 : decode cX1_missing 56 = .ok (.iload 5, 2) := dk_21 5 (dk_at dksX1_missing_2 10 rfl rfl)
theorem dX1_missing_58 : decode cX1_missing 58 = .ok (.if_icmp .ge 53, 3) := dk_162 0 53 (dk_at dksX1_missing_2 12 rfl rfl)
theorem dX1_missing_61 : decode cX1_missing 61 = .ok (.iload_n 1, 1) := dk_27 (dk_at dksX1_missing_2 15 rfl rfl)
theorem dX1_missing_62 : decode cX1_missing 62 = .ok (.iload 4, 2) := dk_21 4 (dk_at dksX1_missing_2 16 rfl rfl)
theorem dX1_missing_64 : decode cX1_missing 64 = .ok (.ishr, 1) := dk_122 (dk_at dksX1_missing_2 18 rfl rfl)
theorem dX1_missing_65 : decode cX1_missing 65 = .ok (.iconst 1, 1) := dk_4 (dk_at dksX1_missing_2 19 rfl rfl)
theorem dX1_missing_66 : decode cX1_missing 66 = .ok (.iand, 1) := dk_126 (dk_at dksX1_missing_2 20 rfl rfl)
theorem dX1_missing_67 : decode cX1_missing 67 = .ok (.ifCond .eq 44, 3) := dk_153 0 44 (dk_at dksX1_missing_2 21 rfl rfl)
theorem dX1_missing_70 : decode cX1_missing 70 = .ok (.iload_n 1, 1) := dk_27 (dk_at dksX1_missing_3 0 rfl rfl)
theorem dX1_missing_71 : decode cX1_missing 71 = .ok (.iload 5, 2) := dk_21 5 (dk_at dksX1_missing_3 1 rfl rfl)
theorem dX1_missing_73 : decode cX1_missing 73 = .ok (.ishr, 1) := dk_122 (dk_at dksX1_missing_3 3 rfl rfl)
theorem dX1_missing_74 : decode cX1_missing 74 = .ok (.iconst 1, 1) := dk_4 (dk_at dksX1_missing_3 4 rfl rfl)
theorem dX1_missing_75 : decode cX1_missing 75 = .ok (.iand, 1) := dk_126 (dk_at dksX1_missing_3 5 rfl rfl)
theorem dX1_missing_76 : decode cX1_missing 76 = .ok (.ifCond .ne 6, 3) := dk_154 0 6 (dk_at dksX1_missing_3 6 rfl rfl)
theorem dX1_missing_79 : decode cX1_missing 79 = .ok (.goto 32, 3) := dk_167 0 32 (dk_at dksX1_missing_3 9 rfl rfl)
theorem dX1_missing_82 : decode cX1_missing 82 = .ok (.aload_n 0, 1) := dk_42 (dk_at dksX1_missing_3 12 rfl rfl)
theorem dX1_missing_83 : decode cX1_missing 83 = .ok (.iload 4, 2) := dk_21 4 (dk_at dksX1_missing_3 13 rfl rfl)
theorem dX1_missing_85 : decode cX1_missing 85 = .ok (.iload 5, 2) := dk_21 5 (dk_at dksX1_missing_3 15 rfl rfl)
theorem dX1_missing_87 : decode cX1_missing 87 = .ok (.iload_n 1, 1) := dk_27 (dk_at dksX1_missing_3 17 rfl rfl)
theorem dX1_missing_88 : decode cX1_missing 88 = .ok (.invokevirtual 404, 3) := dk_182 1 148 (dk_at dksX1_missing_3 18 rfl rfl)
theorem dX1_missing_91 : decode cX1_missing 91 = .ok (.istore 6, 2) := dk_54 6 (dk_at dksX1_missing_3 21 rfl rfl)
theorem dX1_missing_93 : decode cX1_missing 93 = .ok (.iload 6, 2) := dk_21 6 (dk_at dksX1_missing_4 0 rfl rfl)
theorem dX1_missing_95 : decode cX1_missing 95 = .ok (.ifCond .ge 11, 3) := dk_156 0 11 (dk_at dksX1_missing_4 2 rfl rfl)
theorem dX1_missing_98 : decode cX1_missing 98 = .ok (.aload_n 0, 1) := dk_42 (dk_at dksX1_missing_4 5 rfl rfl)
theorem dX1_missing_99 : decode cX1_missing 99 = .ok (.iload 6, 2) := dk_21 6 (dk_at dksX1_missing_4 6 rfl rfl)
theorem dX1_missing_101 : decode cX1_missing 101 = .ok (.ineg, 1) := dk_116 (dk_at dksX1_missing_4 8 rfl rfl)
theorem dX1_missing_102 : decode cX1_missing 102 = .ok (.invokevirtual 275, 3) := dk_182 1 19 (dk_at dksX1_missing_4 9 rfl rfl)
theorem dX1_missing_105 : decode cX1_missing 105 = .ok (.ireturn, 1) := dk_172 (dk_at dksX1_missing_4 12 rfl rfl)
theorem dX1_missing_106 : decode cX1_missing 106 = .ok (.iload_n 2, 1) := dk_28 (dk_at dksX1_missing_4 13 rfl rfl)
theorem dX1_missing_107 : decode cX1_missing 107 = .ok (.iload 6, 2) := dk_21 6 (dk_at dksX1_missing_4 14 rfl rfl)
theorem dX1_missing_109 : decode cX1_missing 109 = .ok (.iadd, 1) := dk_96 (dk_at dksX1_missing_4 16 rfl rfl)
theorem dX1_missing_110 : decode cX1_missing 110 = .ok (.istore_n 2, 1) := dk_61 (dk_at dksX1_missing_4 17 rfl rfl)
theorem dX1_missing_111 : decode cX1_missing 111 = .ok (.iinc 3 1, 3) := dk_132 3 1 (dk_at dksX1_missing_4 18 rfl rfl)
theorem dX1_missing_114 : decode cX1_missing 114 = .ok (.goto (-78), 3) := dk_167 255 178 (dk_at dksX1_missing_4 21 rfl rfl)
theorem dX1_missing_117 : decode cX1_missing 117 = .ok (.iload_n 2, 1) := dk_28 (dk_at dksX1_missing_5 0 rfl rfl)
theorem dX1_missing_118 : decode cX1_missing 118 = .ok (.ireturn, 1) := dk_172 (dk_at dksX1_missing_5 1 rfl rfl)
abbrev cX1_leaves : ByteArray := prog_1_method_68_code
def yX1_leaves : MethodName := ⟨RX1, "leaves", "(III)I"⟩
def dkwX1_leaves_3 : List UInt8 := [3, 167, 0, 4, 4, 172]
abbrev dktX1_leaves_3 : List UInt8 := dkwX1_leaves_3 ++ []
def dkwX1_leaves_2 : List UInt8 := [21, 5, 153, 0, 9, 21, 5, 116, 167, 0, 21, 42, 180, 0, 216, 180, 1, 139, 180, 1, 135, 154, 0, 7]
abbrev dktX1_leaves_2 : List UInt8 := dkwX1_leaves_2 ++ dktX1_leaves_3
def dkwX1_leaves_1 : List UInt8 := [25, 4, 180, 0, 62, 16, 60, 164, 0, 7, 6, 167, 0, 10, 42, 25, 4, 29, 182, 1, 123, 54, 5]
abbrev dktX1_leaves_1 : List UInt8 := dkwX1_leaves_1 ++ dktX1_leaves_2
def dkwX1_leaves_0 : List UInt8 := [42, 42, 180, 0, 232, 27, 50, 42, 180, 0, 232, 28, 50, 182, 1, 144, 58, 4, 25, 4, 198, 0, 13]
abbrev dktX1_leaves_0 : List UInt8 := dkwX1_leaves_0 ++ dktX1_leaves_1
theorem dksX1_leaves_0 : cX1_leaves.data.toList.drop 0 = dktX1_leaves_0 := by decide +kernel
theorem dksX1_leaves_1 : cX1_leaves.data.toList.drop 23 = dktX1_leaves_1 := dk_seg dksX1_leaves_0 23 rfl rfl
theorem dksX1_leaves_2 : cX1_leaves.data.toList.drop 46 = dktX1_leaves_2 := dk_seg dksX1_leaves_1 23 rfl rfl
theorem dksX1_leaves_3 : cX1_leaves.data.toList.drop 70 = dktX1_leaves_3 := dk_seg dksX1_leaves_2 24 rfl rfl
theorem dX1_leaves_0 : decode cX1_leaves 0 = .ok (.aload_n 0, 1) := dk_42 (dk_at dksX1_leaves_0 0 rfl rfl)
theorem dX1_leaves_1 : decode cX1_leaves 1 = .ok (.aload_n 0, 1) := dk_42 (dk_at dksX1_leaves_0 1 rfl rfl)
theorem dX1_leaves_2 : decode cX1_leaves 2 = .ok (.getfield 232, 3) := dk_180 0 232 (dk_at dksX1_leaves_0 2 rfl rfl)
theorem dX1_leaves_5 : decode cX1_leaves 5 = .ok (.iload_n 1, 1) := dk_27 (dk_at dksX1_leaves_0 5 rfl rfl)
theorem dX1_leaves_6 : decode cX1_leaves 6 = .ok (.aaload, 1) := dk_50 (dk_at dksX1_leaves_0 6 rfl rfl)
theorem dX1_leaves_7 : decode cX1_leaves 7 = .ok (.aload_n 0, 1) := dk_42 (dk_at dksX1_leaves_0 7 rfl rfl)
theorem dX1_leaves_8 : decode cX1_leaves 8 = .ok (.getfield 232, 3) := dk_180 0 232 (dk_at dksX1_leaves_0 8 rfl rfl)
theorem dX1_leaves_11 : decode cX1_leaves 11 = .ok (.iload_n 2, 1) := dk_28 (dk_at dksX1_leaves_0 11 rfl rfl)
theorem dX1_leaves_12 : decode cX1_leaves 12 = .ok (.aaload, 1) := dk_50 (dk_at dksX1_leaves_0 12 rfl rfl)
theorem dX1_leaves_13 : decode cX1_leaves 13 = .ok (.invokevirtual 400, 3) := dk_182 1 144 (dk_at dksX1_leaves_0 13 rfl rfl)
theorem dX1_leaves_16 : decode cX1_leaves 16 = .ok (.astore 4, 2) := dk_58 4 (dk_at dksX1_leaves_0 16 rfl rfl)
theorem dX1_leaves_18 : decode cX1_leaves 18 = .ok (.aload 4, 2) := dk_25 4 (dk_at dksX1_leaves_0 18 rfl rfl)
theorem dX1_leaves_20 : decode cX1_leaves 20 = .ok (.ifnull 13, 3) := dk_198 0 13 (dk_at dksX1_leaves_0 20 rfl rfl)
theorem dX1_leaves_23 : decode cX1_leaves 23 = .ok (.aload 4, 2) := dk_25 4 (dk_at dksX1_leaves_1 0 rfl rfl)
theorem dX1_leaves_25 : decode cX1_leaves 25 = .ok (.getfield 62, 3) := dk_180 0 62 (dk_at dksX1_leaves_1 2 rfl rfl)
theorem dX1_leaves_28 : decode cX1_leaves 28 = .ok (.bipush 60, 2) := dk_16 60 (dk_at dksX1_leaves_1 5 rfl rfl)
theorem dX1_leaves_30 : decode cX1_leaves 30 = .ok (.if_icmp .le 7, 3) := dk_164 0 7 (dk_at dksX1_leaves_1 7 rfl rfl)
theorem dX1_leaves_33 : decode cX1_leaves 33 = .ok (.iconst 3, 1) := dk_6 (dk_at dksX1_leaves_1 10 rfl rfl)
theorem dX1_leaves_34 : decode cX1_leaves 34 = .ok (.goto 10, 3) := dk_167 0 10 (dk_at dksX1_leaves_1 11 rfl rfl)
theorem dX1_leaves_37 : decode cX1_leaves 37 = .ok (.aload_n 0, 1) := dk_42 (dk_at dksX1_leaves_1 14 rfl rfl)
theorem dX1_leaves_38 : decode cX1_leaves 38 = .ok (.aload 4, 2) := dk_25 4 (dk_at dksX1_leaves_1 15 rfl rfl)
theorem dX1_leaves_40 : decode cX1_leaves 40 = .ok (.iload_n 3, 1) := dk_29 (dk_at dksX1_leaves_1 17 rfl rfl)
theorem dX1_leaves_41 : decode cX1_leaves 41 = .ok (.invokevirtual 379, 3) := dk_182 1 123 (dk_at dksX1_leaves_1 18 rfl rfl)
theorem dX1_leaves_44 : decode cX1_leaves 44 = .ok (.istore 5, 2) := dk_54 5 (dk_at dksX1_leaves_1 21 rfl rfl)
theorem dX1_leaves_46 : decode cX1_leaves 46 = .ok (.iload 5, 2) := dk_21 5 (dk_at dksX1_leaves_2 0 rfl rfl)
theorem dX1_leaves_48 : decode cX1_leaves 48 = .ok (.ifCond .eq 9, 3) := dk_153 0 9 (dk_at dksX1_leaves_2 2 rfl rfl)
theorem dX1_leaves_51 : decode cX1_leaves 51 = .ok (.iload 5, 2) := dk_21 5 (dk_at dksX1_leaves_2 5 rfl rfl)
theorem dX1_leaves_53 : decode cX1_leaves 53 = .ok (.ineg, 1) := dk_116 (dk_at dksX1_leaves_2 7 rfl rfl)
theorem dX1_leaves_54 : decode cX1_leaves 54 = .ok (.goto 21, 3) := dk_167 0 21 (dk_at dksX1_leaves_2 8 rfl rfl)
theorem dX1_leaves_57 : decode cX1_leaves 57 = .ok (.aload_n 0, 1) := dk_42 (dk_at dksX1_leaves_2 11 rfl rfl)
theorem dX1_leaves_58 : decode cX1_leaves 58 = .ok (.getfield 216, 3) := dk_180 0 216 (dk_at dksX1_leaves_2 12 rfl rfl)
theorem dX1_leaves_61 : decode cX1_leaves 61 = .ok (.getfield 395, 3) := dk_180 1 139 (dk_at dksX1_leaves_2 15 rfl rfl)
theorem dX1_leaves_64 : decode cX1_leaves 64 = .ok (.getfield 391, 3) := dk_180 1 135 (dk_at dksX1_leaves_2 18 rfl rfl)
theorem dX1_leaves_67 : decode cX1_leaves 67 = .ok (.ifCond .ne 7, 3) := dk_154 0 7 (dk_at dksX1_leaves_2 21 rfl rfl)
theorem dX1_leaves_70 : decode cX1_leaves 70 = .ok (.iconst 0, 1) := dk_3 (dk_at dksX1_leaves_3 0 rfl rfl)
theorem dX1_leaves_71 : decode cX1_leaves 71 = .ok (.goto 4, 3) := dk_167 0 4 (dk_at dksX1_leaves_3 1 rfl rfl)
theorem dX1_leaves_74 : decode cX1_leaves 74 = .ok (.iconst 1, 1) := dk_4 (dk_at dksX1_leaves_3 4 rfl rfl)
theorem dX1_leaves_75 : decode cX1_leaves 75 = .ok (.ireturn, 1) := dk_172 (dk_at dksX1_leaves_3 5 rfl rfl)
abbrev cX1_pair : ByteArray := prog_1_method_20_code
def yX1_pair : MethodName := ⟨RX1, "pair", "(LTermDesk$Poly;LTermDesk$Poly;)LTermDesk$Poly;"⟩
def dkwX1_pair_5 : List UInt8 := [182, 0, 131, 42, 180, 0, 23, 4, 100, 21, 4, 182, 0, 118, 176]
abbrev dktX1_pair_5 : List UInt8 := dkwX1_pair_5 ++ []
def dkwX1_pair_4 : List UInt8 := [182, 0, 131, 4, 29, 182, 0, 118, 58, 5, 25, 5, 199, 0, 7, 1, 167, 0, 22, 42, 25, 5, 42, 44]
abbrev dktX1_pair_4 : List UInt8 := dkwX1_pair_4 ++ dktX1_pair_5
def dkwX1_pair_3 : List UInt8 := [21, 5, 104, 120, 128, 54, 4, 132, 5, 1, 167, 255, 185, 42, 187, 0, 47, 89, 183, 0, 117, 42, 43]
abbrev dktX1_pair_3 : List UInt8 := dkwX1_pair_3 ++ dktX1_pair_4
def dkwX1_pair_2 : List UInt8 := [100, 184, 0, 126, 7, 21, 5, 104, 120, 128, 62, 21, 4, 3, 21, 6, 21, 7, 100, 184, 0, 126, 7]
abbrev dktX1_pair_2 : List UInt8 := dkwX1_pair_2 ++ dktX1_pair_3
def dkwX1_pair_1 : List UInt8 := [184, 0, 3, 54, 6, 44, 180, 0, 69, 3, 46, 21, 5, 184, 0, 3, 54, 7, 29, 3, 21, 7, 21, 6]
abbrev dktX1_pair_1 : List UInt8 := dkwX1_pair_1 ++ dktX1_pair_2
def dkwX1_pair_0 : List UInt8 := [3, 62, 3, 54, 4, 3, 54, 5, 21, 5, 6, 162, 0, 71, 43, 180, 0, 69, 3, 46, 21, 5]
abbrev dktX1_pair_0 : List UInt8 := dkwX1_pair_0 ++ dktX1_pair_1
theorem dksX1_pair_0 : cX1_pair.data.toList.drop 0 = dktX1_pair_0 := by decide +kernel
theorem dksX1_pair_1 : cX1_pair.data.toList.drop 22 = dktX1_pair_1 := dk_seg dksX1_pair_0 22 rfl rfl
theorem dksX1_pair_2 : cX1_pair.data.toList.drop 46 = dktX1_pair_2 := dk_seg dksX1_pair_1 24 rfl rfl
theorem dksX1_pair_3 : cX1_pair.data.toList.drop 69 = dktX1_pair_3 := dk_seg dksX1_pair_2 23 rfl rfl
theorem dksX1_pair_4 : cX1_pair.data.toList.drop 92 = dktX1_pair_4 := dk_seg dksX1_pair_3 23 rfl rfl
theorem dksX1_pair_5 : cX1_pair.data.toList.drop 116 = dktX1_pair_5 := dk_seg dksX1_pair_4 24 rfl rfl
theorem dX1_pair_0 : decode cX1_pair 0 = .ok (.iconst 0, 1) := dk_3 (dk_at dksX1_pair_0 0 rfl rfl)
theorem dX1_pair_1 : decode cX1_pair 1 = .ok (.istore_n 3, 1) := dk_62 (dk_at dksX1_pair_0 1 rfl rfl)
theorem dX1_pair_2 : decode cX1_pair 2 = .ok (.iconst 0, 1) := dk_3 (dk_at dksX1_pair_0 2 rfl rfl)
theorem dX1_pair_3 : decode cX1_pair 3 = .ok (.istore 4, 2) := dk_54 4 (dk_at dksX1_pair_0 3 rfl rfl)
theorem dX1_pair_5 : decode cX1_pair 5 = .ok (.iconst 0, 1) := dk_3 (dk_at dksX1_pair_0 5 rfl rfl)
theorem dX1_pair_6 : decode cX1_pair 6 = .ok (.istore 5, 2) := dk_54 5 (dk_at dksX1_pair_0 6 rfl rfl)
theorem dX1_pair_8 : decode cX1_pair 8 = .ok (.iload 5, 2) := dk_21 5 (dk_at dksX1_pair_0 8 rfl rfl)
theorem dX1_pair_10 : decode cX1_pair 10 = .ok (.iconst 3, 1) := dk_6 (dk_at dksX1_pair_0 10 rfl rfl)
theorem dX1_pair_11 : decode cX1_pair 11 = .ok (.if_icmp .ge 71, 3) := dk_162 0 71 (dk_at dksX1_pair_0 11 rfl rfl)
theorem dX1_pair_14 : decode cX1_pair 14 = .ok (.aload_n 1, 1) := dk_43 (dk_at dksX1_pair_0 14 rfl rfl)
theorem dX1_pair_15 : decode cX1_pair 15 = .ok (.getfield 69, 3) := dk_180 0 69 (dk_at dksX1_pair_0 15 rfl rfl)
theorem dX1_pair_18 : decode cX1_pair 18 = .ok (.iconst 0, 1) := dk_3 (dk_at dksX1_pair_0 18 rfl rfl)
theorem dX1_pair_19 : decode cX1_pair 19 = .ok (.iaload, 1) := dk_46 (dk_at dksX1_pair_0 19 rfl rfl)
theorem dX1_pair_20 : decode cX1_pair 20 = .ok (.iload 5, 2) := dk_21 5 (dk_at dksX1_pair_0 20 rfl rfl)
theorem dX1_pair_22 : decode cX1_pair 22 = .ok (.invokestatic 3, 3) := dk_184 0 3 (dk_at dksX1_pair_1 0 rfl rfl)
theorem dX1_pair_25 : decode cX1_pair 25 = .ok (.istore 6, 2) := dk_54 6 (dk_at dksX1_pair_1 3 rfl rfl)
theorem dX1_pair_27 : decode cX1_pair 27 = .ok (.aload_n 2, 1) := dk_44 (dk_at dksX1_pair_1 5 rfl rfl)
theorem dX1_pair_28 : decode cX1_pair 28 = .ok (.getfield 69, 3) := dk_180 0 69 (dk_at dksX1_pair_1 6 rfl rfl)
theorem dX1_pair_31 : decode cX1_pair 31 = .ok (.iconst 0, 1) := dk_3 (dk_at dksX1_pair_1 9 rfl rfl)
theorem dX1_pair_32 : decode cX1_pair 32 = .ok (.iaload, 1) := dk_46 (dk_at dksX1_pair_1 10 rfl rfl)
theorem dX1_pair_33 : decode cX1_pair 33 = .ok (.iload 5, 2) := dk_21 5 (dk_at dksX1_pair_1 11 rfl rfl)
theorem dX1_pair_35 : decode cX1_pair 35 = .ok (.invokestatic 3, 3) := dk_184 0 3 (dk_at dksX1_pair_1 13 rfl rfl)
theorem dX1_pair_38 : decode cX1_pair 38 = .ok (.istore 7, 2) := dk_54 7 (dk_at dksX1_pair_1 16 rfl rfl)
theorem dX1_pair_40 : decode cX1_pair 40 = .ok (.iload_n 3, 1) := dk_29 (dk_at dksX1_pair_1 18 rfl rfl)
theorem dX1_pair_41 : decode cX1_pair 41 = .ok (.iconst 0, 1) := dk_3 (dk_at dksX1_pair_1 19 rfl rfl)
theorem dX1_pair_42 : decode cX1_pair 42 = .ok (.iload 7, 2) := dk_21 7 (dk_at dksX1_pair_1 20 rfl rfl)
theorem dX1_pair_44 : decode cX1_pair 44 = .ok (.iload 6, 2) := dk_21 6 (dk_at dksX1_pair_1 22 rfl rfl)
theorem dX1_pair_46 : decode cX1_pair 46 = .ok (.isub, 1) := dk_100 (dk_at dksX1_pair_2 0 rfl rfl)
theorem dX1_pair_47 : decode cX1_pair 47 = .ok (.invokestatic 126, 3) := dk_184 0 126 (dk_at dksX1_pair_2 1 rfl rfl)
theorem dX1_pair_50 : decode cX1_pair 50 = .ok (.iconst 4, 1) := dk_7 (dk_at dksX1_pair_2 4 rfl rfl)
theorem dX1_pair_51 : decode cX1_pair 51 = .ok (.iload 5, 2) := dk_21 5 (dk_at dksX1_pair_2 5 rfl rfl)
theorem dX1_pair_53 : decode cX1_pair 53 = .ok (.imul, 1) := dk_104 (dk_at dksX1_pair_2 7 rfl rfl)
theorem dX1_pair_54 : decode cX1_pair 54 = .ok (.ishl, 1) := dk_120 (dk_at dksX1_pair_2 8 rfl rfl)
theorem dX1_pair_55 : decode cX1_pair 55 = .ok (.ior, 1) := dk_128 (dk_at dksX1_pair_2 9 rfl rfl)
theorem dX1_pair_56 : decode cX1_pair 56 = .ok (.istore_n 3, 1) := dk_62 (dk_at dksX1_pair_2 10 rfl rfl)
theorem dX1_pair_57 : decode cX1_pair 57 = .ok (.iload 4, 2) := dk_21 4 (dk_at dksX1_pair_2 11 rfl rfl)
theorem dX1_pair_59 : decode cX1_pair 59 = .ok (.iconst 0, 1) := dk_3 (dk_at dksX1_pair_2 13 rfl rfl)
theorem dX1_pair_60 : decode cX1_pair 60 = .ok (.iload 6, 2) := dk_21 6 (dk_at dksX1_pair_2 14 rfl rfl)
theorem dX1_pair_62 : decode cX1_pair 62 = .ok (.iload 7, 2) := dk_21 7 (dk_at dksX1_pair_2 16 rfl rfl)
theorem dX1_pair_64 : decode cX1_pair 64 = .ok (.isub, 1) := dk_100 (dk_at dksX1_pair_2 18 rfl rfl)
theorem dX1_pair_65 : decode cX1_pair 65 = .ok (.invokestatic 126, 3) := dk_184 0 126 (dk_at dksX1_pair_2 19 rfl rfl)
theorem dX1_pair_68 : decode cX1_pair 68 = .ok (.iconst 4, 1) := dk_7 (dk_at dksX1_pair_2 22 rfl rfl)
theorem dX1_pair_69 : decode cX1_pair 69 = .ok (.iload 5, 2) := dk_21 5 (dk_at dksX1_pair_3 0 rfl rfl)
theorem dX1_pair_71 : decode cX1_pair 71 = .ok (.imul, 1) := dk_104 (dk_at dksX1_pair_3 2 rfl rfl)
theorem dX1_pair_72 : decode cX1_pair 72 = .ok (.ishl, 1) := dk_120 (dk_at dksX1_pair_3 3 rfl rfl)
theorem dX1_pair_73 : decode cX1_pair 73 = .ok (.ior, 1) := dk_128 (dk_at dksX1_pair_3 4 rfl rfl)
theorem dX1_pair_74 : decode cX1_pair 74 = .ok (.istore 4, 2) := dk_54 4 (dk_at dksX1_pair_3 5 rfl rfl)
theorem dX1_pair_76 : decode cX1_pair 76 = .ok (.iinc 5 1, 3) := dk_132 5 1 (dk_at dksX1_pair_3 7 rfl rfl)
theorem dX1_pair_79 : decode cX1_pair 79 = .ok (.goto (-71), 3) := dk_167 255 185 (dk_at dksX1_pair_3 10 rfl rfl)
theorem dX1_pair_82 : decode cX1_pair 82 = .ok (.aload_n 0, 1) := dk_42 (dk_at dksX1_pair_3 13 rfl rfl)
theorem dX1_pair_83 : decode cX1_pair 83 = .ok (.new 47, 3) := dk_187 0 47 (dk_at dksX1_pair_3 14 rfl rfl)
theorem dX1_pair_86 : decode cX1_pair 86 = .ok (.dup, 1) := dk_89 (dk_at dksX1_pair_3 17 rfl rfl)
theorem dX1_pair_87 : decode cX1_pair 87 = .ok (.invokespecial 117, 3) := dk_183 0 117 (dk_at dksX1_pair_3 18 rfl rfl)
theorem dX1_pair_90 : decode cX1_pair 90 = .ok (.aload_n 0, 1) := dk_42 (dk_at dksX1_pair_3 21 rfl rfl)
theorem dX1_pair_91 : decode cX1_pair 91 = .ok (.aload_n 1, 1) := dk_43 (dk_at dksX1_pair_3 22 rfl rfl)
theorem dX1_pair_92 : decode cX1_pair 92 = .ok (.invokevirtual 131, 3) := dk_182 0 131 (dk_at dksX1_pair_4 0 rfl rfl)
theorem dX1_pair_95 : decode cX1_pair 95 = .ok (.iconst 1, 1) := dk_4 (dk_at dksX1_pair_4 3 rfl rfl)
theorem dX1_pair_96 : decode cX1_pair 96 = .ok (.iload_n 3, 1) := dk_29 (dk_at dksX1_pair_4 4 rfl rfl)
theorem dX1_pair_97 : decode cX1_pair 97 = .ok (.invokevirtual 118, 3) := dk_182 0 118 (dk_at dksX1_pair_4 5 rfl rfl)
theorem dX1_pair_100 : decode cX1_pair 100 = .ok (.astore 5, 2) := dk_58 5 (dk_at dksX1_pair_4 8 rfl rfl)
theorem dX1_pair_102 : decode cX1_pair 102 = .ok (.aload 5, 2) := dk_25 5 (dk_at dksX1_pair_4 10 rfl rfl)
theorem dX1_pair_104 : decode cX1_pair 104 = .ok (.ifnonnull 7, 3) := dk_199 0 7 (dk_at dksX1_pair_4 12 rfl rfl)
theorem dX1_pair_107 : decode cX1_pair 107 = .ok (.aconst_null, 1) := dk_1 (dk_at dksX1_pair_4 15 rfl rfl)
theorem dX1_pair_108 : decode cX1_pair 108 = .ok (.goto 22, 3) := dk_167 0 22 (dk_at dksX1_pair_4 16 rfl rfl)
theorem dX1_pair_111 : decode cX1_pair 111 = .ok (.aload_n 0, 1) := dk_42 (dk_at dksX1_pair_4 19 rfl rfl)
theorem dX1_pair_112 : decode cX1_pair 112 = .ok (.aload 5, 2) := dk_25 5 (dk_at dksX1_pair_4 20 rfl rfl)
theorem dX1_pair_114 : decode cX1_pair 114 = .ok (.aload_n 0, 1) := dk_42 (dk_at dksX1_pair_4 22 rfl rfl)
theorem dX1_pair_115 : decode cX1_pair 115 = .ok (.aload_n 2, 1) := dk_44 (dk_at dksX1_pair_4 23 rfl rfl)
theorem dX1_pair_116 : decode cX1_pair 116 = .ok (.invokevirtual 131, 3) := dk_182 0 131 (dk_at dksX1_pair_5 0 rfl rfl)
theorem dX1_pair_119 : decode cX1_pair 119 = .ok (.aload_n 0, 1) := dk_42 (dk_at dksX1_pair_5 3 rfl rfl)
theorem dX1_pair_120 : decode cX1_pair 120 = .ok (.getfield 23, 3) := dk_180 0 23 (dk_at dksX1_pair_5 4 rfl rfl)
theorem dX1_pair_123 : decode cX1_pair 123 = .ok (.iconst 1, 1) := dk_4 (dk_at dksX1_pair_5 7 rfl rfl)
theorem dX1_pair_124 : decode cX1_pair 124 = .ok (.isub, 1) := dk_100 (dk_at dksX1_pair_5 8 rfl rfl)
theorem dX1_pair_125 : decode cX1_pair 125 = .ok (.iload 4, 2) := dk_21 4 (dk_at dksX1_pair_5 9 rfl rfl)
theorem dX1_pair_127 : decode cX1_pair 127 = .ok (.invokevirtual 118, 3) := dk_182 0 118 (dk_at dksX1_pair_5 11 rfl rfl)
theorem dX1_pair_130 : decode cX1_pair 130 = .ok (.areturn, 1) := dk_176 (dk_at dksX1_pair_5 14 rfl rfl)
abbrev cX1_monic : ByteArray := prog_1_method_19_code
def yX1_monic : MethodName := ⟨RX1, "monic", "(LTermDesk$Poly;)LTermDesk$Poly;"⟩
def dkwX1_monic_1 : List UInt8 := [182, 0, 122, 176]
abbrev dktX1_monic_1 : List UInt8 := dkwX1_monic_1 ++ []
def dkwX1_monic_0 : List UInt8 := [43, 182, 0, 46, 153, 0, 7, 43, 167, 0, 19, 42, 43, 42, 180, 0, 43, 43, 180, 0, 76, 3, 46, 46]
abbrev dktX1_monic_0 : List UInt8 := dkwX1_monic_0 ++ dktX1_monic_1
theorem dksX1_monic_0 : cX1_monic.data.toList.drop 0 = dktX1_monic_0 := by decide +kernel
theorem dksX1_monic_1 : cX1_monic.data.toList.drop 24 = dktX1_monic_1 := dk_seg dksX1_monic_0 24 rfl rfl
theorem dX1_monic_0 : decode cX1_monic 0 = .ok (.aload_n 1, 1) := dk_43 (dk_at dksX1_monic_0 0 rfl rfl)
theorem dX1_monic_1 : decode cX1_monic 1 = .ok (.invokevirtual 46, 3) := dk_182 0 46 (dk_at dksX1_monic_0 1 rfl rfl)
theorem dX1_monic_4 : decode cX1_monic 4 = .ok (.ifCond .eq 7, 3) := dk_153 0 7 (dk_at dksX1_monic_0 4 rfl rfl)
theorem dX1_monic_7 : decode cX1_monic 7 = .ok (.aload_n 1, 1) := dk_43 (dk_at dksX1_monic_0 7 rfl rfl)
theorem dX1_monic_8 : decode cX1_monic 8 = .ok (.goto 19, 3) := dk_167 0 19 (dk_at dksX1_monic_0 8 rfl rfl)
theorem dX1_monic_11 : decode cX1_monic 11 = .ok (.aload_n 0, 1) := dk_42 (dk_at dksX1_monic_0 11 rfl rfl)
theorem dX1_monic_12 : decode cX1_monic 12 = .ok (.aload_n 1, 1) := dk_43 (dk_at dksX1_monic_0 12 rfl rfl)
theorem dX1_monic_13 : decode cX1_monic 13 = .ok (.aload_n 0, 1) := dk_42 (dk_at dksX1_monic_0 13 rfl rfl)
theorem dX1_monic_14 : decode cX1_monic 14 = .ok (.getfield 43, 3) := dk_180 0 43 (dk_at dksX1_monic_0 14 rfl rfl)
theorem dX1_monic_17 : decode cX1_monic 17 = .ok (.aload_n 1, 1) := dk_43 (dk_at dksX1_monic_0 17 rfl rfl)
theorem dX1_monic_18 : decode cX1_monic 18 = .ok (.getfield 76, 3) := dk_180 0 76 (dk_at dksX1_monic_0 18 rfl rfl)
theorem dX1_monic_21 : decode cX1_monic 21 = .ok (.iconst 0, 1) := dk_3 (dk_at dksX1_monic_0 21 rfl rfl)
theorem dX1_monic_22 : decode cX1_monic 22 = .ok (.iaload, 1) := dk_46 (dk_at dksX1_monic_0 22 rfl rfl)
theorem dX1_monic_23 : decode cX1_monic 23 = .ok (.iaload, 1) := dk_46 (dk_at dksX1_monic_0 23 rfl rfl)
theorem dX1_monic_24 : decode cX1_monic 24 = .ok (.invokevirtual 122, 3) := dk_182 0 122 (dk_at dksX1_monic_1 0 rfl rfl)
theorem dX1_monic_27 : decode cX1_monic 27 = .ok (.areturn, 1) := dk_176 (dk_at dksX1_monic_1 3 rfl rfl)
abbrev cX1_scaled : ByteArray := prog_1_method_18_code
def yX1_scaled : MethodName := ⟨RX1, "scaled", "(LTermDesk$Poly;I)LTermDesk$Poly;"⟩
def dkwX1_scaled_0 : List UInt8 := [42, 187, 0, 47, 89, 183, 0, 117, 43, 28, 3, 182, 0, 118, 176]
abbrev dktX1_scaled_0 : List UInt8 := dkwX1_scaled_0 ++ []
theorem dksX1_scaled_0 : cX1_scaled.data.toList.drop 0 = dktX1_scaled_0 := by decide +kernel
theorem dX1_scaled_0 : decode cX1_scaled 0 = .ok (.aload_n 0, 1) := dk_42 (dk_at dksX1_scaled_0 0 rfl rfl)
theorem dX1_scaled_1 : decode cX1_scaled 1 = .ok (.new 47, 3) := dk_187 0 47 (dk_at dksX1_scaled_0 1 rfl rfl)
theorem dX1_scaled_4 : decode cX1_scaled 4 = .ok (.dup, 1) := dk_89 (dk_at dksX1_scaled_0 4 rfl rfl)
theorem dX1_scaled_5 : decode cX1_scaled 5 = .ok (.invokespecial 117, 3) := dk_183 0 117 (dk_at dksX1_scaled_0 5 rfl rfl)
theorem dX1_scaled_8 : decode cX1_scaled 8 = .ok (.aload_n 1, 1) := dk_43 (dk_at dksX1_scaled_0 8 rfl rfl)
theorem dX1_scaled_9 : decode cX1_scaled 9 = .ok (.iload_n 2, 1) := dk_28 (dk_at dksX1_scaled_0 9 rfl rfl)
theorem dX1_scaled_10 : decode cX1_scaled 10 = .ok (.iconst 0, 1) := dk_3 (dk_at dksX1_scaled_0 10 rfl rfl)
theorem dX1_scaled_11 : decode cX1_scaled 11 = .ok (.invokevirtual 118, 3) := dk_182 0 118 (dk_at dksX1_scaled_0 11 rfl rfl)
theorem dX1_scaled_14 : decode cX1_scaled 14 = .ok (.areturn, 1) := dk_176 (dk_at dksX1_scaled_0 14 rfl rfl)
abbrev cX1_sum_2 : ByteArray := prog_1_method_14_code
def yX1_sum_2 : MethodName := ⟨RX1, "sum", "(LTermDesk$Poly;LTermDesk$Poly;II)LTermDesk$Poly;"⟩
def dkwX1_sum_2_1 : List UInt8 := [180, 0, 62, 44, 29, 21, 4, 182, 0, 87, 182, 0, 91, 167, 0, 4, 1, 176]
abbrev dktX1_sum_2_1 : List UInt8 := dkwX1_sum_2_1 ++ []
def dkwX1_sum_2_0 : List UInt8 := [44, 21, 4, 184, 0, 79, 153, 0, 33, 42, 42, 180, 0, 83, 43, 180, 0, 69, 43, 180, 0, 76, 43]
abbrev dktX1_sum_2_0 : List UInt8 := dkwX1_sum_2_0 ++ dktX1_sum_2_1
theorem dksX1_sum_2_0 : cX1_sum_2.data.toList.drop 0 = dktX1_sum_2_0 := by decide +kernel
theorem dksX1_sum_2_1 : cX1_sum_2.data.toList.drop 23 = dktX1_sum_2_1 := dk_seg dksX1_sum_2_0 23 rfl rfl
theorem dX1_sum_2_0 : decode cX1_sum_2 0 = .ok (.aload_n 2, 1) := dk_44 (dk_at dksX1_sum_2_0 0 rfl rfl)
theorem dX1_sum_2_1 : decode cX1_sum_2 1 = .ok (.iload 4, 2) := dk_21 4 (dk_at dksX1_sum_2_0 1 rfl rfl)
theorem dX1_sum_2_3 : decode cX1_sum_2 3 = .ok (.invokestatic 79, 3) := dk_184 0 79 (dk_at dksX1_sum_2_0 3 rfl rfl)
theorem dX1_sum_2_6 : decode cX1_sum_2 6 = .ok (.ifCond .eq 33, 3) := dk_153 0 33 (dk_at dksX1_sum_2_0 6 rfl rfl)
theorem dX1_sum_2_9 : decode cX1_sum_2 9 = .ok (.aload_n 0, 1) := dk_42 (dk_at dksX1_sum_2_0 9 rfl rfl)
theorem dX1_sum_2_10 : decode cX1_sum_2 10 = .ok (.aload_n 0, 1) := dk_42 (dk_at dksX1_sum_2_0 10 rfl rfl)
theorem dX1_sum_2_11 : decode cX1_sum_2 11 = .ok (.getfield 83, 3) := dk_180 0 83 (dk_at dksX1_sum_2_0 11 rfl rfl)
theorem dX1_sum_2_14 : decode cX1_sum_2 14 = .ok (.aload_n 1, 1) := dk_43 (dk_at dksX1_sum_2_0 14 rfl rfl)
theorem dX1_sum_2_15 : decode cX1_sum_2 15 = .ok (.getfield 69, 3) := dk_180 0 69 (dk_at dksX1_sum_2_0 15 rfl rfl)
theorem dX1_sum_2_18 : decode cX1_sum_2 18 = .ok (.aload_n 1, 1) := dk_43 (dk_at dksX1_sum_2_0 18 rfl rfl)
theorem dX1_sum_2_19 : decode cX1_sum_2 19 = .ok (.getfield 76, 3) := dk_180 0 76 (dk_at dksX1_sum_2_0 19 rfl rfl)
theorem dX1_sum_2_22 : decode cX1_sum_2 22 = .ok (.aload_n 1, 1) := dk_43 (dk_at dksX1_sum_2_0 22 rfl rfl)
theorem dX1_sum_2_23 : decode cX1_sum_2 23 = .ok (.getfield 62, 3) := dk_180 0 62 (dk_at dksX1_sum_2_1 0 rfl rfl)
theorem dX1_sum_2_26 : decode cX1_sum_2 26 = .ok (.aload_n 2, 1) := dk_44 (dk_at dksX1_sum_2_1 3 rfl rfl)
theorem dX1_sum_2_27 : decode cX1_sum_2 27 = .ok (.iload_n 3, 1) := dk_29 (dk_at dksX1_sum_2_1 4 rfl rfl)
theorem dX1_sum_2_28 : decode cX1_sum_2 28 = .ok (.iload 4, 2) := dk_21 4 (dk_at dksX1_sum_2_1 5 rfl rfl)
theorem dX1_sum_2_30 : decode cX1_sum_2 30 = .ok (.invokevirtual 87, 3) := dk_182 0 87 (dk_at dksX1_sum_2_1 7 rfl rfl)
theorem dX1_sum_2_33 : decode cX1_sum_2 33 = .ok (.invokevirtual 91, 3) := dk_182 0 91 (dk_at dksX1_sum_2_1 10 rfl rfl)
theorem dX1_sum_2_36 : decode cX1_sum_2 36 = .ok (.goto 4, 3) := dk_167 0 4 (dk_at dksX1_sum_2_1 13 rfl rfl)
theorem dX1_sum_2_39 : decode cX1_sum_2 39 = .ok (.aconst_null, 1) := dk_1 (dk_at dksX1_sum_2_1 16 rfl rfl)
theorem dX1_sum_2_40 : decode cX1_sum_2 40 = .ok (.areturn, 1) := dk_176 (dk_at dksX1_sum_2_1 17 rfl rfl)
abbrev cX1_add : ByteArray := prog_1_method_72_code
def yX1_add : MethodName := ⟨RX1, "add", "(III)I"⟩
def dkwX1_add_2 : List UInt8 := [4, 3, 182, 0, 118, 29, 182, 1, 157, 172]
abbrev dktX1_add_2 : List UInt8 := dkwX1_add_2 ++ []
def dkwX1_add_1 : List UInt8 := [182, 1, 62, 153, 0, 7, 2, 167, 0, 26, 42, 42, 42, 180, 0, 232, 27, 50, 42, 180, 0, 232, 28, 50]
abbrev dktX1_add_1 : List UInt8 := dkwX1_add_1 ++ dktX1_add_2
def dkwX1_add_0 : List UInt8 := [42, 42, 6, 188, 10, 89, 3, 27, 79, 89, 4, 28, 79, 89, 5, 29, 79, 184, 1, 69, 182, 1, 59]
abbrev dktX1_add_0 : List UInt8 := dkwX1_add_0 ++ dktX1_add_1
theorem dksX1_add_0 : cX1_add.data.toList.drop 0 = dktX1_add_0 := by decide +kernel
theorem dksX1_add_1 : cX1_add.data.toList.drop 23 = dktX1_add_1 := dk_seg dksX1_add_0 23 rfl rfl
theorem dksX1_add_2 : cX1_add.data.toList.drop 47 = dktX1_add_2 := dk_seg dksX1_add_1 24 rfl rfl
theorem dX1_add_0 : decode cX1_add 0 = .ok (.aload_n 0, 1) := dk_42 (dk_at dksX1_add_0 0 rfl rfl)
theorem dX1_add_1 : decode cX1_add 1 = .ok (.aload_n 0, 1) := dk_42 (dk_at dksX1_add_0 1 rfl rfl)
theorem dX1_add_2 : decode cX1_add 2 = .ok (.iconst 3, 1) := dk_6 (dk_at dksX1_add_0 2 rfl rfl)
theorem dX1_add_3 : decode cX1_add 3 = .ok (.newarray .int, 2) := dk_188_10 (dk_at dksX1_add_0 3 rfl rfl)
theorem dX1_add_5 : decode cX1_add 5 = .ok (.dup, 1) := dk_89 (dk_at dksX1_add_0 5 rfl rfl)
theorem dX1_add_6 : decode cX1_add 6 = .ok (.iconst 0, 1) := dk_3 (dk_at dksX1_add_0 6 rfl rfl)
theorem dX1_add_7 : decode cX1_add 7 = .ok (.iload_n 1, 1) := dk_27 (dk_at dksX1_add_0 7 rfl rfl)
theorem dX1_add_8 : decode cX1_add 8 = .ok (.iastore, 1) := dk_79 (dk_at dksX1_add_0 8 rfl rfl)
theorem dX1_add_9 : decode cX1_add 9 = .ok (.dup, 1) := dk_89 (dk_at dksX1_add_0 9 rfl rfl)
theorem dX1_add_10 : decode cX1_add 10 = .ok (.iconst 1, 1) := dk_4 (dk_at dksX1_add_0 10 rfl rfl)
theorem dX1_add_11 : decode cX1_add 11 = .ok (.iload_n 2, 1) := dk_28 (dk_at dksX1_add_0 11 rfl rfl)
theorem dX1_add_12 : decode cX1_add 12 = .ok (.iastore, 1) := dk_79 (dk_at dksX1_add_0 12 rfl rfl)
theorem dX1_add_13 : decode cX1_add 13 = .ok (.dup, 1) := dk_89 (dk_at dksX1_add_0 13 rfl rfl)
theorem dX1_add_14 : decode cX1_add 14 = .ok (.iconst 2, 1) := dk_5 (dk_at dksX1_add_0 14 rfl rfl)
theorem dX1_add_15 : decode cX1_add 15 = .ok (.iload_n 3, 1) := dk_29 (dk_at dksX1_add_0 15 rfl rfl)
theorem dX1_add_16 : decode cX1_add 16 = .ok (.iastore, 1) := dk_79 (dk_at dksX1_add_0 16 rfl rfl)
theorem dX1_add_17 : decode cX1_add 17 = .ok (.invokestatic 325, 3) := dk_184 1 69 (dk_at dksX1_add_0 17 rfl rfl)
theorem dX1_add_20 : decode cX1_add 20 = .ok (.invokevirtual 315, 3) := dk_182 1 59 (dk_at dksX1_add_0 20 rfl rfl)
theorem dX1_add_23 : decode cX1_add 23 = .ok (.invokevirtual 318, 3) := dk_182 1 62 (dk_at dksX1_add_1 0 rfl rfl)
theorem dX1_add_26 : decode cX1_add 26 = .ok (.ifCond .eq 7, 3) := dk_153 0 7 (dk_at dksX1_add_1 3 rfl rfl)
theorem dX1_add_29 : decode cX1_add 29 = .ok (.iconst (-1), 1) := dk_2 (dk_at dksX1_add_1 6 rfl rfl)
theorem dX1_add_30 : decode cX1_add 30 = .ok (.goto 26, 3) := dk_167 0 26 (dk_at dksX1_add_1 7 rfl rfl)
theorem dX1_add_33 : decode cX1_add 33 = .ok (.aload_n 0, 1) := dk_42 (dk_at dksX1_add_1 10 rfl rfl)
theorem dX1_add_34 : decode cX1_add 34 = .ok (.aload_n 0, 1) := dk_42 (dk_at dksX1_add_1 11 rfl rfl)
theorem dX1_add_35 : decode cX1_add 35 = .ok (.aload_n 0, 1) := dk_42 (dk_at dksX1_add_1 12 rfl rfl)
theorem dX1_add_36 : decode cX1_add 36 = .ok (.getfield 232, 3) := dk_180 0 232 (dk_at dksX1_add_1 13 rfl rfl)
theorem dX1_add_39 : decode cX1_add 39 = .ok (.iload_n 1, 1) := dk_27 (dk_at dksX1_add_1 16 rfl rfl)
theorem dX1_add_40 : decode cX1_add 40 = .ok (.aaload, 1) := dk_50 (dk_at dksX1_add_1 17 rfl rfl)
theorem dX1_add_41 : decode cX1_add 41 = .ok (.aload_n 0, 1) := dk_42 (dk_at dksX1_add_1 18 rfl rfl)
theorem dX1_add_42 : decode cX1_add 42 = .ok (.getfield 232, 3) := dk_180 0 232 (dk_at dksX1_add_1 19 rfl rfl)
theorem dX1_add_45 : decode cX1_add 45 = .ok (.iload_n 2, 1) := dk_28 (dk_at dksX1_add_1 22 rfl rfl)
theorem dX1_add_46 : decode cX1_add 46 = .ok (.aaload, 1) := dk_50 (dk_at dksX1_add_1 23 rfl rfl)
theorem dX1_add_47 : decode cX1_add 47 = .ok (.iconst 1, 1) := dk_4 (dk_at dksX1_add_2 0 rfl rfl)
theorem dX1_add_48 : decode cX1_add 48 = .ok (.iconst 0, 1) := dk_3 (dk_at dksX1_add_2 1 rfl rfl)
theorem dX1_add_49 : decode cX1_add 49 = .ok (.invokevirtual 118, 3) := dk_182 0 118 (dk_at dksX1_add_2 2 rfl rfl)
theorem dX1_add_52 : decode cX1_add 52 = .ok (.iload_n 3, 1) := dk_29 (dk_at dksX1_add_2 5 rfl rfl)
theorem dX1_add_53 : decode cX1_add 53 = .ok (.invokevirtual 413, 3) := dk_182 1 157 (dk_at dksX1_add_2 6 rfl rfl)
theorem dX1_add_56 : decode cX1_add 56 = .ok (.ireturn, 1) := dk_172 (dk_at dksX1_add_2 9 rfl rfl)
abbrev cX1_lays : ByteArray := prog_1_method_71_code
def yX1_lays : MethodName := ⟨RX1, "lays", "(LTermDesk$Poly;I)I"⟩
def dkwX1_lays_1 : List UInt8 := [180, 0, 232, 28, 43, 83, 43, 180, 0, 62, 172]
abbrev dktX1_lays_1 : List UInt8 := dkwX1_lays_1 ++ []
def dkwX1_lays_0 : List UInt8 := [43, 198, 0, 12, 43, 180, 0, 62, 16, 60, 164, 0, 9, 42, 6, 182, 1, 19, 172, 42, 182, 1, 154, 42]
abbrev dktX1_lays_0 : List UInt8 := dkwX1_lays_0 ++ dktX1_lays_1
theorem dksX1_lays_0 : cX1_lays.data.toList.drop 0 = dktX1_lays_0 := by decide +kernel
theorem dksX1_lays_1 : cX1_lays.data.toList.drop 24 = dktX1_lays_1 := dk_seg dksX1_lays_0 24 rfl rfl
theorem dX1_lays_0 : decode cX1_lays 0 = .ok (.aload_n 1, 1) := dk_43 (dk_at dksX1_lays_0 0 rfl rfl)
theorem dX1_lays_1 : decode cX1_lays 1 = .ok (.ifnull 12, 3) := dk_198 0 12 (dk_at dksX1_lays_0 1 rfl rfl)
theorem dX1_lays_4 : decode cX1_lays 4 = .ok (.aload_n 1, 1) := dk_43 (dk_at dksX1_lays_0 4 rfl rfl)
theorem dX1_lays_5 : decode cX1_lays 5 = .ok (.getfield 62, 3) := dk_180 0 62 (dk_at dksX1_lays_0 5 rfl rfl)
theorem dX1_lays_8 : decode cX1_lays 8 = .ok (.bipush 60, 2) := dk_16 60 (dk_at dksX1_lays_0 8 rfl rfl)
theorem dX1_lays_10 : decode cX1_lays 10 = .ok (.if_icmp .le 9, 3) := dk_164 0 9 (dk_at dksX1_lays_0 10 rfl rfl)
theorem dX1_lays_13 : decode cX1_lays 13 = .ok (.aload_n 0, 1) := dk_42 (dk_at dksX1_lays_0 13 rfl rfl)
theorem dX1_lays_14 : decode cX1_lays 14 = .ok (.iconst 3, 1) := dk_6 (dk_at dksX1_lays_0 14 rfl rfl)
theorem dX1_lays_15 : decode cX1_lays 15 = .ok (.invokevirtual 275, 3) := dk_182 1 19 (dk_at dksX1_lays_0 15 rfl rfl)
theorem dX1_lays_18 : decode cX1_lays 18 = .ok (.ireturn, 1) := dk_172 (dk_at dksX1_lays_0 18 rfl rfl)
theorem dX1_lays_19 : decode cX1_lays 19 = .ok (.aload_n 0, 1) := dk_42 (dk_at dksX1_lays_0 19 rfl rfl)
theorem dX1_lays_20 : decode cX1_lays 20 = .ok (.invokevirtual 410, 3) := dk_182 1 154 (dk_at dksX1_lays_0 20 rfl rfl)
theorem dX1_lays_23 : decode cX1_lays 23 = .ok (.aload_n 0, 1) := dk_42 (dk_at dksX1_lays_0 23 rfl rfl)
theorem dX1_lays_24 : decode cX1_lays 24 = .ok (.getfield 232, 3) := dk_180 0 232 (dk_at dksX1_lays_1 0 rfl rfl)
theorem dX1_lays_27 : decode cX1_lays 27 = .ok (.iload_n 2, 1) := dk_28 (dk_at dksX1_lays_1 3 rfl rfl)
theorem dX1_lays_28 : decode cX1_lays 28 = .ok (.aload_n 1, 1) := dk_43 (dk_at dksX1_lays_1 4 rfl rfl)
theorem dX1_lays_29 : decode cX1_lays 29 = .ok (.aastore, 1) := dk_83 (dk_at dksX1_lays_1 5 rfl rfl)
theorem dX1_lays_30 : decode cX1_lays 30 = .ok (.aload_n 1, 1) := dk_43 (dk_at dksX1_lays_1 6 rfl rfl)
theorem dX1_lays_31 : decode cX1_lays 31 = .ok (.getfield 62, 3) := dk_180 0 62 (dk_at dksX1_lays_1 7 rfl rfl)
theorem dX1_lays_34 : decode cX1_lays 34 = .ok (.ireturn, 1) := dk_172 (dk_at dksX1_lays_1 10 rfl rfl)
abbrev cX1_keeps : ByteArray := prog_1_method_70_code
def yX1_keeps : MethodName := ⟨RX1, "keeps", "()V"⟩
def dkwX1_keeps_5 : List UInt8 := [177]
abbrev dktX1_keeps_5 : List UInt8 := dkwX1_keeps_5 ++ []
def dkwX1_keeps_4 : List UInt8 := [104, 7, 42, 180, 0, 30, 104, 96, 42, 180, 0, 33, 96, 79, 42, 89, 180, 1, 56, 4, 96, 181, 1, 56]
abbrev dktX1_keeps_4 : List UInt8 := dkwX1_keeps_4 ++ dktX1_keeps_5
def dkwX1_keeps_3 : List UInt8 := [180, 0, 232, 182, 1, 150, 192, 0, 236, 83, 42, 180, 0, 241, 42, 180, 1, 56, 16, 16, 42, 180, 0, 27]
abbrev dktX1_keeps_3 : List UInt8 := dkwX1_keeps_3 ++ dktX1_keeps_4
def dkwX1_keeps_2 : List UInt8 := [167, 255, 219, 42, 89, 180, 1, 56, 4, 100, 181, 1, 56, 42, 180, 0, 237, 42, 180, 1, 56, 42]
abbrev dktX1_keeps_2 : List UInt8 := dkwX1_keeps_2 ++ dktX1_keeps_3
def dkwX1_keeps_1 : List UInt8 := [42, 180, 0, 237, 27, 50, 83, 42, 180, 0, 241, 27, 4, 100, 42, 180, 0, 241, 27, 46, 79, 132, 1, 1]
abbrev dktX1_keeps_1 : List UInt8 := dkwX1_keeps_1 ++ dktX1_keeps_2
def dkwX1_keeps_0 : List UInt8 := [42, 180, 1, 56, 16, 8, 160, 0, 55, 4, 60, 27, 16, 8, 162, 0, 37, 42, 180, 0, 237, 27, 4, 100]
abbrev dktX1_keeps_0 : List UInt8 := dkwX1_keeps_0 ++ dktX1_keeps_1
theorem dksX1_keeps_0 : cX1_keeps.data.toList.drop 0 = dktX1_keeps_0 := by decide +kernel
theorem dksX1_keeps_1 : cX1_keeps.data.toList.drop 24 = dktX1_keeps_1 := dk_seg dksX1_keeps_0 24 rfl rfl
theorem dksX1_keeps_2 : cX1_keeps.data.toList.drop 48 = dktX1_keeps_2 := dk_seg dksX1_keeps_1 24 rfl rfl
theorem dksX1_keeps_3 : cX1_keeps.data.toList.drop 70 = dktX1_keeps_3 := dk_seg dksX1_keeps_2 22 rfl rfl
theorem dksX1_keeps_4 : cX1_keeps.data.toList.drop 94 = dktX1_keeps_4 := dk_seg dksX1_keeps_3 24 rfl rfl
theorem dksX1_keeps_5 : cX1_keeps.data.toList.drop 118 = dktX1_keeps_5 := dk_seg dksX1_keeps_4 24 rfl rfl
theorem dX1_keeps_0 : decode cX1_keeps 0 = .ok (.aload_n 0, 1) := dk_42 (dk_at dksX1_keeps_0 0 rfl rfl)
theorem dX1_keeps_1 : decode cX1_keeps 1 = .ok (.getfield 312, 3) := dk_180 1 56 (dk_at dksX1_keeps_0 1 rfl rfl)
theorem dX1_keeps_4 : decode cX1_keeps 4 = .ok (.bipush 8, 2) := dk_16 8 (dk_at dksX1_keeps_0 4 rfl rfl)
theorem dX1_keeps_6 : decode cX1_keeps 6 = .ok (.if_icmp .ne 55, 3) := dk_160 0 55 (dk_at dksX1_keeps_0 6 rfl rfl)
theorem dX1_keeps_9 : decode cX1_keeps 9 = .ok (.iconst 1, 1) := dk_4 (dk_at dksX1_keeps_0 9 rfl rfl)
theorem dX1_keeps_10 : decode cX1_keeps 10 = .ok (.istore_n 1, 1) := dk_60 (dk_at dksX1_keeps_0 10 rfl rfl)
theorem dX1_keeps_11 : decode cX1_keeps 11 = .ok (.iload_n 1, 1) := dk_27 (dk_at dksX1_keeps_0 11 rfl rfl)
theorem dX1_keeps_12 : decode cX1_keeps 12 = .ok (.bipush 8, 2) := dk_16 8 (dk_at dksX1_keeps_0 12 rfl rfl)
theorem dX1_keeps_14 : decode cX1_keeps 14 = .ok (.if_icmp .ge 37, 3) := dk_162 0 37 (dk_at dksX1_keeps_0 14 rfl rfl)
theorem dX1_keeps_17 : decode cX1_keeps 17 = .ok (.aload_n 0, 1) := dk_42 (dk_at dksX1_keeps_0 17 rfl rfl)
theorem dX1_keeps_18 : decode cX1_keeps 18 = .ok (.getfield 237, 3) := dk_180 0 237 (dk_at dksX1_keeps_0 18 rfl rfl)
theorem dX1_keeps_21 : decode cX1_keeps 21 = .ok (.iload_n 1, 1) := dk_27 (dk_at dksX1_keeps_0 21 rfl rfl)
theorem dX1_keeps_22 : decode cX1_keeps 22 = .ok (.iconst 1, 1) := dk_4 (dk_at dksX1_keeps_0 22 rfl rfl)
theorem dX1_keeps_23 : decode cX1_keeps 23 = .ok (.isub, 1) := dk_100 (dk_at dksX1_keeps_0 23 rfl rfl)
theorem dX1_keeps_24 : decode cX1_keeps 24 = .ok (.aload_n 0, 1) := dk_42 (dk_at dksX1_keeps_1 0 rfl rfl)
theorem dX1_keeps_25 : decode cX1_keeps 25 = .ok (.getfield 237, 3) := dk_180 0 237 (dk_at dksX1_keeps_1 1 rfl rfl)
theorem dX1_keeps_28 : decode cX1_keeps 28 = .ok (.iload_n 1, 1) := dk_27 (dk_at dksX1_keeps_1 4 rfl rfl)
theorem dX1_keeps_29 : decode cX1_keeps 29 = .ok (.aaload, 1) := dk_50 (dk_at dksX1_keeps_1 5 rfl rfl)
theorem dX1_keeps_30 : decode cX1_keeps 30 = .ok (.aastore, 1) := dk_83 (dk_at dksX1_keeps_1 6 rfl rfl)
theorem dX1_keeps_31 : decode cX1_keeps 31 = .ok (.aload_n 0, 1) := dk_42 (dk_at dksX1_keeps_1 7 rfl rfl)
theorem dX1_keeps_32 : decode cX1_keeps 32 = .ok (.getfield 241, 3) := dk_180 0 241 (dk_at dksX1_keeps_1 8 rfl rfl)
theorem dX1_keeps_35 : decode cX1_keeps 35 = .ok (.iload_n 1, 1) := dk_27 (dk_at dksX1_keeps_1 11 rfl rfl)
theorem dX1_keeps_36 : decode cX1_keeps 36 = .ok (.iconst 1, 1) := dk_4 (dk_at dksX1_keeps_1 12 rfl rfl)
theorem dX1_keeps_37 : decode cX1_keeps 37 = .ok (.isub, 1) := dk_100 (dk_at dksX1_keeps_1 13 rfl rfl)
theorem dX1_keeps_38 : decode cX1_keeps 38 = .ok (.aload_n 0, 1) := dk_42 (dk_at dksX1_keeps_1 14 rfl rfl)
theorem dX1_keeps_39 : decode cX1_keeps 39 = .ok (.getfield 241, 3) := dk_180 0 241 (dk_at dksX1_keeps_1 15 rfl rfl)
theorem dX1_keeps_42 : decode cX1_keeps 42 = .ok (.iload_n 1, 1) := dk_27 (dk_at dksX1_keeps_1 18 rfl rfl)
theorem dX1_keeps_43 : decode cX1_keeps 43 = .ok (.iaload, 1) := dk_46 (dk_at dksX1_keeps_1 19 rfl rfl)
theorem dX1_keeps_44 : decode cX1_keeps 44 = .ok (.iastore, 1) := dk_79 (dk_at dksX1_keeps_1 20 rfl rfl)
theorem dX1_keeps_45 : decode cX1_keeps 45 = .ok (.iinc 1 1, 3) := dk_132 1 1 (dk_at dksX1_keeps_1 21 rfl rfl)
theorem dX1_keeps_48 : decode cX1_keeps 48 = .ok (.goto (-37), 3) := dk_167 255 219 (dk_at dksX1_keeps_2 0 rfl rfl)
theorem dX1_keeps_51 : decode cX1_keeps 51 = .ok (.aload_n 0, 1) := dk_42 (dk_at dksX1_keeps_2 3 rfl rfl)
theorem dX1_keeps_52 : decode cX1_keeps 52 = .ok (.dup, 1) := dk_89 (dk_at dksX1_keeps_2 4 rfl rfl)
theorem dX1_keeps_53 : decode cX1_keeps 53 = .ok (.getfield 312, 3) := dk_180 1 56 (dk_at dksX1_keeps_2 5 rfl rfl)
theorem dX1_keeps_56 : decode cX1_keeps 56 = .ok (.iconst 1, 1) := dk_4 (dk_at dksX1_keeps_2 8 rfl rfl)
theorem dX1_keeps_57 : decode cX1_keeps 57 = .ok (.isub, 1) := dk_100 (dk_at dksX1_keeps_2 9 rfl rfl)
theorem dX1_keeps_58 : decode cX1_keeps 58 = .ok (.putfield 312, 3) := dk_181 1 56 (dk_at dksX1_keeps_2 10 rfl rfl)
theorem dX1_keeps_61 : decode cX1_keeps 61 = .ok (.aload_n 0, 1) := dk_42 (dk_at dksX1_keeps_2 13 rfl rfl)
theorem dX1_keeps_62 : decode cX1_keeps 62 = .ok (.getfield 237, 3) := dk_180 0 237 (dk_at dksX1_keeps_2 14 rfl rfl)
theorem dX1_keeps_65 : decode cX1_keeps 65 = .ok (.aload_n 0, 1) := dk_42 (dk_at dksX1_keeps_2 17 rfl rfl)
theorem dX1_keeps_66 : decode cX1_keeps 66 = .ok (.getfield 312, 3) := dk_180 1 56 (dk_at dksX1_keeps_2 18 rfl rfl)
theorem dX1_keeps_69 : decode cX1_keeps 69 = .ok (.aload_n 0, 1) := dk_42 (dk_at dksX1_keeps_2 21 rfl rfl)
theorem dX1_keeps_70 : decode cX1_keeps 70 = .ok (.getfield 232, 3) := dk_180 0 232 (dk_at dksX1_keeps_3 0 rfl rfl)
theorem dX1_keeps_73 : decode cX1_keeps 73 = .ok (.invokevirtual 406, 3) := dk_182 1 150 (dk_at dksX1_keeps_3 3 rfl rfl)
theorem dX1_keeps_76 : decode cX1_keeps 76 = .ok (.checkcast 236, 3) := dk_192 0 236 (dk_at dksX1_keeps_3 6 rfl rfl)
theorem dX1_keeps_79 : decode cX1_keeps 79 = .ok (.aastore, 1) := dk_83 (dk_at dksX1_keeps_3 9 rfl rfl)
theorem dX1_keeps_80 : decode cX1_keeps 80 = .ok (.aload_n 0, 1) := dk_42 (dk_at dksX1_keeps_3 10 rfl rfl)
theorem dX1_keeps_81 : decode cX1_keeps 81 = .ok (.getfield 241, 3) := dk_180 0 241 (dk_at dksX1_keeps_3 11 rfl rfl)
theorem dX1_keeps_84 : decode cX1_keeps 84 = .ok (.aload_n 0, 1) := dk_42 (dk_at dksX1_keeps_3 14 rfl rfl)
theorem dX1_keeps_85 : decode cX1_keeps 85 = .ok (.getfield 312, 3) := dk_180 1 56 (dk_at dksX1_keeps_3 15 rfl rfl)
theorem dX1_keeps_88 : decode cX1_keeps 88 = .ok (.bipush 16, 2) := dk_16 16 (dk_at dksX1_keeps_3 18 rfl rfl)
theorem dX1_keeps_90 : decode cX1_keeps 90 = .ok (.aload_n 0, 1) := dk_42 (dk_at dksX1_keeps_3 20 rfl rfl)
theorem dX1_keeps_91 : decode cX1_keeps 91 = .ok (.getfield 27, 3) := dk_180 0 27 (dk_at dksX1_keeps_3 21 rfl rfl)
theorem dX1_keeps_94 : decode cX1_keeps 94 = .ok (.imul, 1) := dk_104 (dk_at dksX1_keeps_4 0 rfl rfl)
theorem dX1_keeps_95 : decode cX1_keeps 95 = .ok (.iconst 4, 1) := dk_7 (dk_at dksX1_keeps_4 1 rfl rfl)
theorem dX1_keeps_96 : decode cX1_keeps 96 = .ok (.aload_n 0, 1) := dk_42 (dk_at dksX1_keeps_4 2 rfl rfl)
theorem dX1_keeps_97 : decode cX1_keeps 97 = .ok (.getfield 30, 3) := dk_180 0 30 (dk_at dksX1_keeps_4 3 rfl rfl)
theorem dX1_keeps_100 : decode cX1_keeps 100 = .ok (.imul, 1) := dk_104 (dk_at dksX1_keeps_4 6 rfl rfl)
theorem dX1_keeps_101 : decode cX1_keeps 101 = .ok (.iadd, 1) := dk_96 (dk_at dksX1_keeps_4 7 rfl rfl)
theorem dX1_keeps_102 : decode cX1_keeps 102 = .ok (.aload_n 0, 1) := dk_42 (dk_at dksX1_keeps_4 8 rfl rfl)
theorem dX1_keeps_103 : decode cX1_keeps 103 = .ok (.getfield 33, 3) := dk_180 0 33 (dk_at dksX1_keeps_4 9 rfl rfl)
theorem dX1_keeps_106 : decode cX1_keeps 106 = .ok (.iadd, 1) := dk_96 (dk_at dksX1_keeps_4 12 rfl rfl)
theorem dX1_keeps_107 : decode cX1_keeps 107 = .ok (.iastore, 1) := dk_79 (dk_at dksX1_keeps_4 13 rfl rfl)
theorem dX1_keeps_108 : decode cX1_keeps 108 = .ok (.aload_n 0, 1) := dk_42 (dk_at dksX1_keeps_4 14 rfl rfl)
theorem dX1_keeps_109 : decode cX1_keeps 109 = .ok (.dup, 1) := dk_89 (dk_at dksX1_keeps_4 15 rfl rfl)
theorem dX1_keeps_110 : decode cX1_keeps 110 = .ok (.getfield 312, 3) := dk_180 1 56 (dk_at dksX1_keeps_4 16 rfl rfl)
theorem dX1_keeps_113 : decode cX1_keeps 113 = .ok (.iconst 1, 1) := dk_4 (dk_at dksX1_keeps_4 19 rfl rfl)
theorem dX1_keeps_114 : decode cX1_keeps 114 = .ok (.iadd, 1) := dk_96 (dk_at dksX1_keeps_4 20 rfl rfl)
theorem dX1_keeps_115 : decode cX1_keeps 115 = .ok (.putfield 312, 3) := dk_181 1 56 (dk_at dksX1_keeps_4 21 rfl rfl)
theorem dX1_keeps_118 : decode cX1_keeps 118 = .ok (.return_, 1) := dk_177 (dk_at dksX1_keeps_5 0 rfl rfl)
abbrev cX1_less : ByteArray := prog_1_method_73_code
def yX1_less : MethodName := ⟨RX1, "less", "(III)I"⟩
def dkwX1_less_2 : List UInt8 := [42, 180, 0, 23, 4, 100, 3, 182, 0, 118, 29, 182, 1, 157, 172]
abbrev dktX1_less_2 : List UInt8 := dkwX1_less_2 ++ []
def dkwX1_less_1 : List UInt8 := [182, 1, 62, 153, 0, 7, 2, 167, 0, 31, 42, 42, 42, 180, 0, 232, 27, 50, 42, 180, 0, 232, 28, 50]
abbrev dktX1_less_1 : List UInt8 := dkwX1_less_1 ++ dktX1_less_2
def dkwX1_less_0 : List UInt8 := [42, 42, 6, 188, 10, 89, 3, 27, 79, 89, 4, 28, 79, 89, 5, 29, 79, 184, 1, 69, 182, 1, 59]
abbrev dktX1_less_0 : List UInt8 := dkwX1_less_0 ++ dktX1_less_1
theorem dksX1_less_0 : cX1_less.data.toList.drop 0 = dktX1_less_0 := by decide +kernel
theorem dksX1_less_1 : cX1_less.data.toList.drop 23 = dktX1_less_1 := dk_seg dksX1_less_0 23 rfl rfl
theorem dksX1_less_2 : cX1_less.data.toList.drop 47 = dktX1_less_2 := dk_seg dksX1_less_1 24 rfl rfl
theorem dX1_less_0 : decode cX1_less 0 = .ok (.aload_n 0, 1) := dk_42 (dk_at dksX1_less_0 0 rfl rfl)
theorem dX1_less_1 : decode cX1_less 1 = .ok (.aload_n 0, 1) := dk_42 (dk_at dksX1_less_0 1 rfl rfl)
theorem dX1_less_2 : decode cX1_less 2 = .ok (.iconst 3, 1) := dk_6 (dk_at dksX1_less_0 2 rfl rfl)
theorem dX1_less_3 : decode cX1_less 3 = .ok (.newarray .int, 2) := dk_188_10 (dk_at dksX1_less_0 3 rfl rfl)
theorem dX1_less_5 : decode cX1_less 5 = .ok (.dup, 1) := dk_89 (dk_at dksX1_less_0 5 rfl rfl)
theorem dX1_less_6 : decode cX1_less 6 = .ok (.iconst 0, 1) := dk_3 (dk_at dksX1_less_0 6 rfl rfl)
theorem dX1_less_7 : decode cX1_less 7 = .ok (.iload_n 1, 1) := dk_27 (dk_at dksX1_less_0 7 rfl rfl)
theorem dX1_less_8 : decode cX1_less 8 = .ok (.iastore, 1) := dk_79 (dk_at dksX1_less_0 8 rfl rfl)
theorem dX1_less_9 : decode cX1_less 9 = .ok (.dup, 1) := dk_89 (dk_at dksX1_less_0 9 rfl rfl)
theorem dX1_less_10 : decode cX1_less 10 = .ok (.iconst 1, 1) := dk_4 (dk_at dksX1_less_0 10 rfl rfl)
theorem dX1_less_11 : decode cX1_less 11 = .ok (.iload_n 2, 1) := dk_28 (dk_at dksX1_less_0 11 rfl rfl)
theorem dX1_less_12 : decode cX1_less 12 = .ok (.iastore, 1) := dk_79 (dk_at dksX1_less_0 12 rfl rfl)
theorem dX1_less_13 : decode cX1_less 13 = .ok (.dup, 1) := dk_89 (dk_at dksX1_less_0 13 rfl rfl)
theorem dX1_less_14 : decode cX1_less 14 = .ok (.iconst 2, 1) := dk_5 (dk_at dksX1_less_0 14 rfl rfl)
theorem dX1_less_15 : decode cX1_less 15 = .ok (.iload_n 3, 1) := dk_29 (dk_at dksX1_less_0 15 rfl rfl)
theorem dX1_less_16 : decode cX1_less 16 = .ok (.iastore, 1) := dk_79 (dk_at dksX1_less_0 16 rfl rfl)
theorem dX1_less_17 : decode cX1_less 17 = .ok (.invokestatic 325, 3) := dk_184 1 69 (dk_at dksX1_less_0 17 rfl rfl)
theorem dX1_less_20 : decode cX1_less 20 = .ok (.invokevirtual 315, 3) := dk_182 1 59 (dk_at dksX1_less_0 20 rfl rfl)
theorem dX1_less_23 : decode cX1_less 23 = .ok (.invokevirtual 318, 3) := dk_182 1 62 (dk_at dksX1_less_1 0 rfl rfl)
theorem dX1_less_26 : decode cX1_less 26 = .ok (.ifCond .eq 7, 3) := dk_153 0 7 (dk_at dksX1_less_1 3 rfl rfl)
theorem dX1_less_29 : decode cX1_less 29 = .ok (.iconst (-1), 1) := dk_2 (dk_at dksX1_less_1 6 rfl rfl)
theorem dX1_less_30 : decode cX1_less 30 = .ok (.goto 31, 3) := dk_167 0 31 (dk_at dksX1_less_1 7 rfl rfl)
theorem dX1_less_33 : decode cX1_less 33 = .ok (.aload_n 0, 1) := dk_42 (dk_at dksX1_less_1 10 rfl rfl)
theorem dX1_less_34 : decode cX1_less 34 = .ok (.aload_n 0, 1) := dk_42 (dk_at dksX1_less_1 11 rfl rfl)
theorem dX1_less_35 : decode cX1_less 35 = .ok (.aload_n 0, 1) := dk_42 (dk_at dksX1_less_1 12 rfl rfl)
theorem dX1_less_36 : decode cX1_less 36 = .ok (.getfield 232, 3) := dk_180 0 232 (dk_at dksX1_less_1 13 rfl rfl)
theorem dX1_less_39 : decode cX1_less 39 = .ok (.iload_n 1, 1) := dk_27 (dk_at dksX1_less_1 16 rfl rfl)
theorem dX1_less_40 : decode cX1_less 40 = .ok (.aaload, 1) := dk_50 (dk_at dksX1_less_1 17 rfl rfl)
theorem dX1_less_41 : decode cX1_less 41 = .ok (.aload_n 0, 1) := dk_42 (dk_at dksX1_less_1 18 rfl rfl)
theorem dX1_less_42 : decode cX1_less 42 = .ok (.getfield 232, 3) := dk_180 0 232 (dk_at dksX1_less_1 19 rfl rfl)
theorem dX1_less_45 : decode cX1_less 45 = .ok (.iload_n 2, 1) := dk_28 (dk_at dksX1_less_1 22 rfl rfl)
theorem dX1_less_46 : decode cX1_less 46 = .ok (.aaload, 1) := dk_50 (dk_at dksX1_less_1 23 rfl rfl)
theorem dX1_less_47 : decode cX1_less 47 = .ok (.aload_n 0, 1) := dk_42 (dk_at dksX1_less_2 0 rfl rfl)
theorem dX1_less_48 : decode cX1_less 48 = .ok (.getfield 23, 3) := dk_180 0 23 (dk_at dksX1_less_2 1 rfl rfl)
theorem dX1_less_51 : decode cX1_less 51 = .ok (.iconst 1, 1) := dk_4 (dk_at dksX1_less_2 4 rfl rfl)
theorem dX1_less_52 : decode cX1_less 52 = .ok (.isub, 1) := dk_100 (dk_at dksX1_less_2 5 rfl rfl)
theorem dX1_less_53 : decode cX1_less 53 = .ok (.iconst 0, 1) := dk_3 (dk_at dksX1_less_2 6 rfl rfl)
theorem dX1_less_54 : decode cX1_less 54 = .ok (.invokevirtual 118, 3) := dk_182 0 118 (dk_at dksX1_less_2 7 rfl rfl)
theorem dX1_less_57 : decode cX1_less 57 = .ok (.iload_n 3, 1) := dk_29 (dk_at dksX1_less_2 10 rfl rfl)
theorem dX1_less_58 : decode cX1_less 58 = .ok (.invokevirtual 413, 3) := dk_182 1 157 (dk_at dksX1_less_2 11 rfl rfl)
theorem dX1_less_61 : decode cX1_less 61 = .ok (.ireturn, 1) := dk_172 (dk_at dksX1_less_2 14 rfl rfl)
abbrev cX1_times : ByteArray := prog_1_method_74_code
def yX1_times : MethodName := ⟨RX1, "times", "(III)I"⟩
def dkwX1_times_2 : List UInt8 := [182, 1, 159, 29, 182, 1, 157, 172]
abbrev dktX1_times_2 : List UInt8 := dkwX1_times_2 ++ []
def dkwX1_times_1 : List UInt8 := [182, 1, 62, 153, 0, 7, 2, 167, 0, 24, 42, 42, 42, 180, 0, 232, 27, 50, 42, 180, 0, 232, 28, 50]
abbrev dktX1_times_1 : List UInt8 := dkwX1_times_1 ++ dktX1_times_2
def dkwX1_times_0 : List UInt8 := [42, 42, 6, 188, 10, 89, 3, 27, 79, 89, 4, 28, 79, 89, 5, 29, 79, 184, 1, 69, 182, 1, 59]
abbrev dktX1_times_0 : List UInt8 := dkwX1_times_0 ++ dktX1_times_1
theorem dksX1_times_0 : cX1_times.data.toList.drop 0 = dktX1_times_0 := by decide +kernel
theorem dksX1_times_1 : cX1_times.data.toList.drop 23 = dktX1_times_1 := dk_seg dksX1_times_0 23 rfl rfl
theorem dksX1_times_2 : cX1_times.data.toList.drop 47 = dktX1_times_2 := dk_seg dksX1_times_1 24 rfl rfl
theorem dX1_times_0 : decode cX1_times 0 = .ok (.aload_n 0, 1) := dk_42 (dk_at dksX1_times_0 0 rfl rfl)
theorem dX1_times_1 : decode cX1_times 1 = .ok (.aload_n 0, 1) := dk_42 (dk_at dksX1_times_0 1 rfl rfl)
theorem dX1_times_2 : decode cX1_times 2 = .ok (.iconst 3, 1) := dk_6 (dk_at dksX1_times_0 2 rfl rfl)
theorem dX1_times_3 : decode cX1_times 3 = .ok (.newarray .int, 2) := dk_188_10 (dk_at dksX1_times_0 3 rfl rfl)
theorem dX1_times_5 : decode cX1_times 5 = .ok (.dup, 1) := dk_89 (dk_at dksX1_times_0 5 rfl rfl)
theorem dX1_times_6 : decode cX1_times 6 = .ok (.iconst 0, 1) := dk_3 (dk_at dksX1_times_0 6 rfl rfl)
theorem dX1_times_7 : decode cX1_times 7 = .ok (.iload_n 1, 1) := dk_27 (dk_at dksX1_times_0 7 rfl rfl)
theorem dX1_times_8 : decode cX1_times 8 = .ok (.iastore, 1) := dk_79 (dk_at dksX1_times_0 8 rfl rfl)
theorem dX1_times_9 : decode cX1_times 9 = .ok (.dup, 1) := dk_89 (dk_at dksX1_times_0 9 rfl rfl)
theorem dX1_times_10 : decode cX1_times 10 = .ok (.iconst 1, 1) := dk_4 (dk_at dksX1_times_0 10 rfl rfl)
theorem dX1_times_11 : decode cX1_times 11 = .ok (.iload_n 2, 1) := dk_28 (dk_at dksX1_times_0 11 rfl rfl)
theorem dX1_times_12 : decode cX1_times 12 = .ok (.iastore, 1) := dk_79 (dk_at dksX1_times_0 12 rfl rfl)
theorem dX1_times_13 : decode cX1_times 13 = .ok (.dup, 1) := dk_89 (dk_at dksX1_times_0 13 rfl rfl)
theorem dX1_times_14 : decode cX1_times 14 = .ok (.iconst 2, 1) := dk_5 (dk_at dksX1_times_0 14 rfl rfl)
theorem dX1_times_15 : decode cX1_times 15 = .ok (.iload_n 3, 1) := dk_29 (dk_at dksX1_times_0 15 rfl rfl)
theorem dX1_times_16 : decode cX1_times 16 = .ok (.iastore, 1) := dk_79 (dk_at dksX1_times_0 16 rfl rfl)
theorem dX1_times_17 : decode cX1_times 17 = .ok (.invokestatic 325, 3) := dk_184 1 69 (dk_at dksX1_times_0 17 rfl rfl)
theorem dX1_times_20 : decode cX1_times 20 = .ok (.invokevirtual 315, 3) := dk_182 1 59 (dk_at dksX1_times_0 20 rfl rfl)
theorem dX1_times_23 : decode cX1_times 23 = .ok (.invokevirtual 318, 3) := dk_182 1 62 (dk_at dksX1_times_1 0 rfl rfl)
theorem dX1_times_26 : decode cX1_times 26 = .ok (.ifCond .eq 7, 3) := dk_153 0 7 (dk_at dksX1_times_1 3 rfl rfl)
theorem dX1_times_29 : decode cX1_times 29 = .ok (.iconst (-1), 1) := dk_2 (dk_at dksX1_times_1 6 rfl rfl)
theorem dX1_times_30 : decode cX1_times 30 = .ok (.goto 24, 3) := dk_167 0 24 (dk_at dksX1_times_1 7 rfl rfl)
theorem dX1_times_33 : decode cX1_times 33 = .ok (.aload_n 0, 1) := dk_42 (dk_at dksX1_times_1 10 rfl rfl)
theorem dX1_times_34 : decode cX1_times 34 = .ok (.aload_n 0, 1) := dk_42 (dk_at dksX1_times_1 11 rfl rfl)
theorem dX1_times_35 : decode cX1_times 35 = .ok (.aload_n 0, 1) := dk_42 (dk_at dksX1_times_1 12 rfl rfl)
theorem dX1_times_36 : decode cX1_times 36 = .ok (.getfield 232, 3) := dk_180 0 232 (dk_at dksX1_times_1 13 rfl rfl)
theorem dX1_times_39 : decode cX1_times 39 = .ok (.iload_n 1, 1) := dk_27 (dk_at dksX1_times_1 16 rfl rfl)
theorem dX1_times_40 : decode cX1_times 40 = .ok (.aaload, 1) := dk_50 (dk_at dksX1_times_1 17 rfl rfl)
theorem dX1_times_41 : decode cX1_times 41 = .ok (.aload_n 0, 1) := dk_42 (dk_at dksX1_times_1 18 rfl rfl)
theorem dX1_times_42 : decode cX1_times 42 = .ok (.getfield 232, 3) := dk_180 0 232 (dk_at dksX1_times_1 19 rfl rfl)
theorem dX1_times_45 : decode cX1_times 45 = .ok (.iload_n 2, 1) := dk_28 (dk_at dksX1_times_1 22 rfl rfl)
theorem dX1_times_46 : decode cX1_times 46 = .ok (.aaload, 1) := dk_50 (dk_at dksX1_times_1 23 rfl rfl)
theorem dX1_times_47 : decode cX1_times 47 = .ok (.invokevirtual 415, 3) := dk_182 1 159 (dk_at dksX1_times_2 0 rfl rfl)
theorem dX1_times_50 : decode cX1_times 50 = .ok (.iload_n 3, 1) := dk_29 (dk_at dksX1_times_2 3 rfl rfl)
theorem dX1_times_51 : decode cX1_times 51 = .ok (.invokevirtual 413, 3) := dk_182 1 157 (dk_at dksX1_times_2 4 rfl rfl)
theorem dX1_times_54 : decode cX1_times 54 = .ok (.ireturn, 1) := dk_172 (dk_at dksX1_times_2 7 rfl rfl)
abbrev cX1_times_2 : ByteArray := prog_1_method_15_code
def yX1_times_2 : MethodName := ⟨RX1, "times", "(LTermDesk$Poly;LTermDesk$Poly;)LTermDesk$Poly;"⟩
def dkwX1_times_2_12 : List UInt8 := [21, 7, 182, 0, 72, 167, 255, 98, 42, 180, 0, 83, 182, 0, 91, 176]
abbrev dktX1_times_2_12 : List UInt8 := dkwX1_times_2_12 ++ []
def dkwX1_times_2_11 : List UInt8 := [25, 4, 21, 8, 46, 46, 96, 185, 0, 65, 2, 0, 182, 0, 101, 167, 255, 131, 42, 180, 0, 83, 21, 6]
abbrev dktX1_times_2_11 : List UInt8 := dkwX1_times_2_11 ++ dktX1_times_2_12
def dkwX1_times_2_10 : List UInt8 := [180, 0, 62, 162, 0, 36, 45, 21, 8, 42, 180, 0, 39, 43, 180, 0, 69, 21, 8, 46, 44, 180, 0, 69]
abbrev dktX1_times_2_10 : List UInt8 := dkwX1_times_2_10 ++ dktX1_times_2_11
def dkwX1_times_2_9 : List UInt8 := [42, 180, 0, 23, 112, 54, 7, 25, 4, 21, 8, 92, 46, 4, 96, 79, 25, 4, 21, 8, 46, 44]
abbrev dktX1_times_2_9 : List UInt8 := dkwX1_times_2_9 ++ dktX1_times_2_10
def dkwX1_times_2_8 : List UInt8 := [21, 9, 46, 96, 54, 6, 21, 7, 43, 180, 0, 76, 21, 8, 46, 44, 180, 0, 76, 21, 9, 46, 104, 96]
abbrev dktX1_times_2_8 : List UInt8 := dkwX1_times_2_8 ++ dktX1_times_2_9
def dkwX1_times_2_7 : List UInt8 := [182, 0, 107, 54, 8, 25, 4, 21, 8, 46, 54, 9, 43, 180, 0, 69, 21, 8, 46, 44, 180, 0, 69]
abbrev dktX1_times_2_7 : List UInt8 := dkwX1_times_2_7 ++ dktX1_times_2_8
def dkwX1_times_2_6 : List UInt8 := [54, 6, 3, 54, 7, 45, 180, 0, 102, 158, 0, 124, 45, 182, 0, 103, 21, 5, 160, 0, 115, 45]
abbrev dktX1_times_2_6 : List UInt8 := dkwX1_times_2_6 ++ dktX1_times_2_7
def dkwX1_times_2_5 : List UInt8 := [182, 0, 101, 132, 5, 1, 167, 255, 208, 45, 180, 0, 102, 158, 0, 157, 45, 182, 0, 103, 54, 5, 3]
abbrev dktX1_times_2_5 : List UInt8 := dkwX1_times_2_5 ++ dktX1_times_2_6
def dkwX1_times_2_4 : List UInt8 := [180, 0, 39, 43, 180, 0, 69, 21, 5, 46, 44, 180, 0, 69, 3, 46, 96, 185, 0, 65, 2, 0]
abbrev dktX1_times_2_4 : List UInt8 := dkwX1_times_2_4 ++ dktX1_times_2_5
def dkwX1_times_2_3 : List UInt8 := [54, 5, 21, 5, 43, 180, 0, 62, 162, 0, 45, 44, 182, 0, 46, 154, 0, 38, 45, 21, 5, 42]
abbrev dktX1_times_2_3 : List UInt8 := dkwX1_times_2_3 ++ dktX1_times_2_4
def dkwX1_times_2_2 : List UInt8 := [180, 0, 83, 182, 0, 56, 87, 187, 0, 95, 89, 183, 0, 97, 78, 43, 180, 0, 62, 188, 10, 58, 4, 3]
abbrev dktX1_times_2_2 : List UInt8 := dkwX1_times_2_2 ++ dktX1_times_2_3
def dkwX1_times_2_1 : List UInt8 := [182, 0, 52, 44, 29, 182, 0, 52, 96, 16, 15, 164, 0, 5, 1, 176, 132, 3, 1, 167, 255, 216, 42]
abbrev dktX1_times_2_1 : List UInt8 := dkwX1_times_2_1 ++ dktX1_times_2_2
def dkwX1_times_2_0 : List UInt8 := [3, 62, 29, 6, 162, 0, 41, 43, 182, 0, 46, 154, 0, 28, 44, 182, 0, 46, 154, 0, 21, 43, 29]
abbrev dktX1_times_2_0 : List UInt8 := dkwX1_times_2_0 ++ dktX1_times_2_1
theorem dksX1_times_2_0 : cX1_times_2.data.toList.drop 0 = dktX1_times_2_0 := by decide +kernel
theorem dksX1_times_2_1 : cX1_times_2.data.toList.drop 23 = dktX1_times_2_1 := dk_seg dksX1_times_2_0 23 rfl rfl
theorem dksX1_times_2_2 : cX1_times_2.data.toList.drop 46 = dktX1_times_2_2 := dk_seg dksX1_times_2_1 23 rfl rfl
theorem dksX1_times_2_3 : cX1_times_2.data.toList.drop 70 = dktX1_times_2_3 := dk_seg dksX1_times_2_2 24 rfl rfl
theorem dksX1_times_2_4 : cX1_times_2.data.toList.drop 92 = dktX1_times_2_4 := dk_seg dksX1_times_2_3 22 rfl rfl
theorem dksX1_times_2_5 : cX1_times_2.data.toList.drop 114 = dktX1_times_2_5 := dk_seg dksX1_times_2_4 22 rfl rfl
theorem dksX1_times_2_6 : cX1_times_2.data.toList.drop 137 = dktX1_times_2_6 := dk_seg dksX1_times_2_5 23 rfl rfl
theorem dksX1_times_2_7 : cX1_times_2.data.toList.drop 159 = dktX1_times_2_7 := dk_seg dksX1_times_2_6 22 rfl rfl
theorem dksX1_times_2_8 : cX1_times_2.data.toList.drop 182 = dktX1_times_2_8 := dk_seg dksX1_times_2_7 23 rfl rfl
theorem dksX1_times_2_9 : cX1_times_2.data.toList.drop 206 = dktX1_times_2_9 := dk_seg dksX1_times_2_8 24 rfl rfl
theorem dksX1_times_2_10 : cX1_times_2.data.toList.drop 228 = dktX1_times_2_10 := dk_seg dksX1_times_2_9 22 rfl rfl
theorem dksX1_times_2_11 : cX1_times_2.data.toList.drop 252 = dktX1_times_2_11 := dk_seg dksX1_times_2_10 24 rfl rfl
theorem dksX1_times_2_12 : cX1_times_2.data.toList.drop 276 = dktX1_times_2_12 := dk_seg dksX1_times_2_11 24 rfl rfl
theorem dX1_times_2_0 : decode cX1_times_2 0 = .ok (.iconst 0, 1) := dk_3 (dk_at dksX1_times_2_0 0 rfl rfl)
theorem dX1_times_2_1 : decode cX1_times_2 1 = .ok (.istore_n 3, 1) := dk_62 (dk_at dksX1_times_2_0 1 rfl rfl)
theorem dX1_times_2_2 : decode cX1_times_2 2 = .ok (.iload_n 3, 1) := dk_29 (dk_at dksX1_times_2_0 2 rfl rfl)
theorem dX1_times_2_3 : decode cX1_times_2 3 = .ok (.iconst 3, 1) := dk_6 (dk_at dksX1_times_2_0 3 rfl rfl)
theorem dX1_times_2_4 : decode cX1_times_2 4 = .ok (.if_icmp .ge 41, 3) := dk_162 0 41 (dk_at dksX1_times_2_0 4 rfl rfl)
theorem dX1_times_2_7 : decode cX1_times_2 7 = .ok (.aload_n 1, 1) := dk_43 (dk_at dksX1_times_2_0 7 rfl rfl)
theorem dX1_times_2_8 : decode cX1_times_2 8 = .ok (.invokevirtual 46, 3) := dk_182 0 46 (dk_at dksX1_times_2_0 8 rfl rfl)
theorem dX1_times_2_11 : decode cX1_times_2 11 = .ok (.ifCond .ne 28, 3) := dk_154 0 28 (dk_at dksX1_times_2_0 11 rfl rfl)
theorem dX1_times_2_14 : decode cX1_times_2 14 = .ok (.aload_n 2, 1) := dk_44 (dk_at dksX1_times_2_0 14 rfl rfl)
theorem dX1_times_2_15 : decode cX1_times_2 15 = .ok (.invokevirtual 46, 3) := dk_182 0 46 (dk_at dksX1_times_2_0 15 rfl rfl)
theorem dX1_times_2_18 : decode cX1_times_2 18 = .ok (.ifCond .ne 21, 3) := dk_154 0 21 (dk_at dksX1_times_2_0 18 rfl rfl)
theorem dX1_times_2_21 : decode cX1_times_2 21 = .ok (.aload_n 1, 1) := dk_43 (dk_at dksX1_times_2_0 21 rfl rfl)
theorem dX1_times_2_22 : decode cX1_times_2 22 = .ok (.iload_n 3, 1) := dk_29 (dk_at dksX1_times_2_0 22 rfl rfl)
theorem dX1_times_2_23 : decode cX1_times_2 23 = .ok (.invokevirtual 52, 3) := dk_182 0 52 (dk_at dksX1_times_2_1 0 rfl rfl)
theorem dX1_times_2_26 : decode cX1_times_2 26 = .ok (.aload_n 2, 1) := dk_44 (dk_at dksX1_times_2_1 3 rfl rfl)
theorem dX1_times_2_27 : decode cX1_times_2 27 = .ok (.iload_n 3, 1) := dk_29 (dk_at dksX1_times_2_1 4 rfl rfl)
theorem dX1_times_2_28 : decode cX1_times_2 28 = .ok (.invokevirtual 52, 3) := dk_182 0 52 (dk_at dksX1_times_2_1 5 rfl rfl)
theorem dX1_times_2_31 : decode cX1_times_2 31 = .ok (.iadd, 1) := dk_96 (dk_at dksX1_times_2_1 8 rfl rfl)
theorem dX1_times_2_32 : decode cX1_times_2 32 = .ok (.bipush 15, 2) := dk_16 15 (dk_at dksX1_times_2_1 9 rfl rfl)
theorem dX1_times_2_34 : decode cX1_times_2 34 = .ok (.if_icmp .le 5, 3) := dk_164 0 5 (dk_at dksX1_times_2_1 11 rfl rfl)
theorem dX1_times_2_37 : decode cX1_times_2 37 = .ok (.aconst_null, 1) := dk_1 (dk_at dksX1_times_2_1 14 rfl rfl)
theorem dX1_times_2_38 : decode cX1_times_2 38 = .ok (.areturn, 1) := dk_176 (dk_at dksX1_times_2_1 15 rfl rfl)
theorem dX1_times_2_39 : decode cX1_times_2 39 = .ok (.iinc 3 1, 3) := dk_132 3 1 (dk_at dksX1_times_2_1 16 rfl rfl)
theorem dX1_times_2_42 : decode cX1_times_2 42 = .ok (.goto (-40), 3) := dk_167 255 216 (dk_at dksX1_times_2_1 19 rfl rfl)
theorem dX1_times_2_45 : decode cX1_times_2 45 = .ok (.aload_n 0, 1) := dk_42 (dk_at dksX1_times_2_1 22 rfl rfl)
theorem dX1_times_2_46 : decode cX1_times_2 46 = .ok (.getfield 83, 3) := dk_180 0 83 (dk_at dksX1_times_2_2 0 rfl rfl)
theorem dX1_times_2_49 : decode cX1_times_2 49 = .ok (.invokevirtual 56, 3) := dk_182 0 56 (dk_at dksX1_times_2_2 3 rfl rfl)
theorem dX1_times_2_52 : decode cX1_times_2 52 = .ok (.pop, 1) := dk_87 (dk_at dksX1_times_2_2 6 rfl rfl)
theorem dX1_times_2_53 : decode cX1_times_2 53 = .ok (.new 95, 3) := dk_187 0 95 (dk_at dksX1_times_2_2 7 rfl rfl)
theorem dX1_times_2_56 : decode cX1_times_2 56 = .ok (.dup, 1) := dk_89 (dk_at dksX1_times_2_2 10 rfl rfl)
theorem dX1_times_2_57 : decode cX1_times_2 57 = .ok (.invokespecial 97, 3) := dk_183 0 97 (dk_at dksX1_times_2_2 11 rfl rfl)
theorem dX1_times_2_60 : decode cX1_times_2 60 = .ok (.astore_n 3, 1) := dk_78 (dk_at dksX1_times_2_2 14 rfl rfl)
theorem dX1_times_2_61 : decode cX1_times_2 61 = .ok (.aload_n 1, 1) := dk_43 (dk_at dksX1_times_2_2 15 rfl rfl)
theorem dX1_times_2_62 : decode cX1_times_2 62 = .ok (.getfield 62, 3) := dk_180 0 62 (dk_at dksX1_times_2_2 16 rfl rfl)
theorem dX1_times_2_65 : decode cX1_times_2 65 = .ok (.newarray .int, 2) := dk_188_10 (dk_at dksX1_times_2_2 19 rfl rfl)
theorem dX1_times_2_67 : decode cX1_times_2 67 = .ok (.astore 4, 2) := dk_58 4 (dk_at dksX1_times_2_2 21 rfl rfl)
theorem dX1_times_2_69 : decode cX1_times_2 69 = .ok (.iconst 0, 1) := dk_3 (dk_at dksX1_times_2_2 23 rfl rfl)
theorem dX1_times_2_70 : decode cX1_times_2 70 = .ok (.istore 5, 2) := dk_54 5 (dk_at dksX1_times_2_3 0 rfl rfl)
theorem dX1_times_2_72 : decode cX1_times_2 72 = .ok (.iload 5, 2) := dk_21 5 (dk_at dksX1_times_2_3 2 rfl rfl)
theorem dX1_times_2_74 : decode cX1_times_2 74 = .ok (.aload_n 1, 1) := dk_43 (dk_at dksX1_times_2_3 4 rfl rfl)
theorem dX1_times_2_75 : decode cX1_times_2 75 = .ok (.getfield 62, 3) := dk_180 0 62 (dk_at dksX1_times_2_3 5 rfl rfl)
theorem dX1_times_2_78 : decode cX1_times_2 78 = .ok (.if_icmp .ge 45, 3) := dk_162 0 45 (dk_at dksX1_times_2_3 8 rfl rfl)
theorem dX1_times_2_81 : decode cX1_times_2 81 = .ok (.aload_n 2, 1) := dk_44 (dk_at dksX1_times_2_3 11 rfl rfl)
theorem dX1_times_2_82 : decode cX1_times_2 82 = .ok (.invokevirtual 46, 3) := dk_182 0 46 (dk_at dksX1_times_2_3 12 rfl rfl)
theorem dX1_times_2_85 : decode cX1_times_2 85 = .ok (.ifCond .ne 38, 3) := dk_154 0 38 (dk_at dksX1_times_2_3 15 rfl rfl)
theorem dX1_times_2_88 : decode cX1_times_2 88 = .ok (.aload_n 3, 1) := dk_45 (dk_at dksX1_times_2_3 18 rfl rfl)
theorem dX1_times_2_89 : decode cX1_times_2 89 = .ok (.iload 5, 2) := dk_21 5 (dk_at dksX1_times_2_3 19 rfl rfl)
theorem dX1_times_2_91 : decode cX1_times_2 91 = .ok (.aload_n 0, 1) := dk_42 (dk_at dksX1_times_2_3 21 rfl rfl)
theorem dX1_times_2_92 : decode cX1_times_2 92 = .ok (.getfield 39, 3) := dk_180 0 39 (dk_at dksX1_times_2_4 0 rfl rfl)
theorem dX1_times_2_95 : decode cX1_times_2 95 = .ok (.aload_n 1, 1) := dk_43 (dk_at dksX1_times_2_4 3 rfl rfl)
theorem dX1_times_2_96 : decode cX1_times_2 96 = .ok (.getfield 69, 3) := dk_180 0 69 (dk_at dksX1_times_2_4 4 rfl rfl)
theorem dX1_times_2_99 : decode cX1_times_2 99 = .ok (.iload 5, 2) := dk_21 5 (dk_at dksX1_times_2_4 7 rfl rfl)
theorem dX1_times_2_101 : decode cX1_times_2 101 = .ok (.iaload, 1) := dk_46 (dk_at dksX1_times_2_4 9 rfl rfl)
theorem dX1_times_2_102 : decode cX1_times_2 102 = .ok (.aload_n 2, 1) := dk_44 (dk_at dksX1_times_2_4 10 rfl rfl)
theorem dX1_times_2_103 : decode cX1_times_2 103 = .ok (.getfield 69, 3) := dk_180 0 69 (dk_at dksX1_times_2_4 11 rfl rfl)
theorem dX1_times_2_106 : decode cX1_times_2 106 = .ok (.iconst 0, 1) := dk_3 (dk_at dksX1_times_2_4 14 rfl rfl)
theorem dX1_times_2_107 : decode cX1_times_2 107 = .ok (.iaload, 1) := dk_46 (dk_at dksX1_times_2_4 15 rfl rfl)
theorem dX1_times_2_108 : decode cX1_times_2 108 = .ok (.iadd, 1) := dk_96 (dk_at dksX1_times_2_4 16 rfl rfl)
theorem dX1_times_2_109 : decode cX1_times_2 109 = .ok (.invokeinterface 65 2, 5) := by decide +kernel
theorem dX1_times_2_114 : decode cX1_times_2 114 = .ok (.invokevirtual 101, 3) := dk_182 0 101 (dk_at dksX1_times_2_5 0 rfl rfl)
theorem dX1_times_2_117 : decode cX1_times_2 117 = .ok (.iinc 5 1, 3) := dk_132 5 1 (dk_at dksX1_times_2_5 3 rfl rfl)
theorem dX1_times_2_120 : decode cX1_times_2 120 = .ok (.goto (-48), 3) := dk_167 255 208 (dk_at dksX1_times_2_5 6 rfl rfl)
theorem dX1_times_2_123 : decode cX1_times_2 123 = .ok (.aload_n 3, 1) := dk_45 (dk_at dksX1_times_2_5 9 rfl rfl)
theorem dX1_times_2_124 : decode cX1_times_2 124 = .ok (.getfield 102, 3) := dk_180 0 102 (dk_at dksX1_times_2_5 10 rfl rfl)
theorem dX1_times_2_127 : decode cX1_times_2 127 = .ok (.ifCond .le 157, 3) := dk_158 0 157 (dk_at dksX1_times_2_5 13 rfl rfl)
theorem dX1_times_2_130 : decode cX1_times_2 130 = .ok (.aload_n 3, 1) := dk_45 (dk_at dksX1_times_2_5 16 rfl rfl)
theorem dX1_times_2_131 : decode cX1_times_2 131 = .ok (.invokevirtual 103, 3) := dk_182 0 103 (dk_at dksX1_times_2_5 17 rfl rfl)
theorem dX1_times_2_134 : decode cX1_times_2 134 = .ok (.istore 5, 2) := dk_54 5 (dk_at dksX1_times_2_5 20 rfl rfl)
theorem dX1_times_2_136 : decode cX1_times_2 136 = .ok (.iconst 0, 1) := dk_3 (dk_at dksX1_times_2_5 22 rfl rfl)
theorem dX1_times_2_137 : decode cX1_times_2 137 = .ok (.istore 6, 2) := dk_54 6 (dk_at dksX1_times_2_6 0 rfl rfl)
theorem dX1_times_2_139 : decode cX1_times_2 139 = .ok (.iconst 0, 1) := dk_3 (dk_at dksX1_times_2_6 2 rfl rfl)
theorem dX1_times_2_140 : decode cX1_times_2 140 = .ok (.istore 7, 2) := dk_54 7 (dk_at dksX1_times_2_6 3 rfl rfl)
theorem dX1_times_2_142 : decode cX1_times_2 142 = .ok (.aload_n 3, 1) := dk_45 (dk_at dksX1_times_2_6 5 rfl rfl)
theorem dX1_times_2_143 : decode cX1_times_2 143 = .ok (.getfield 102, 3) := dk_180 0 102 (dk_at dksX1_times_2_6 6 rfl rfl)
theorem dX1_times_2_146 : decode cX1_times_2 146 = .ok (.ifCond .le 124, 3) := dk_158 0 124 (dk_at dksX1_times_2_6 9 rfl rfl)
theorem dX1_times_2_149 : decode cX1_times_2 149 = .ok (.aload_n 3, 1) := dk_45 (dk_at dksX1_times_2_6 12 rfl rfl)
theorem dX1_times_2_150 : decode cX1_times_2 150 = .ok (.invokevirtual 103, 3) := dk_182 0 103 (dk_at dksX1_times_2_6 13 rfl rfl)
theorem dX1_times_2_153 : decode cX1_times_2 153 = .ok (.iload 5, 2) := dk_21 5 (dk_at dksX1_times_2_6 16 rfl rfl)
theorem dX1_times_2_155 : decode cX1_times_2 155 = .ok (.if_icmp .ne 115, 3) := dk_160 0 115 (dk_at dksX1_times_2_6 18 rfl rfl)
theorem dX1_times_2_158 : decode cX1_times_2 158 = .ok (.aload_n 3, 1) := dk_45 (dk_at dksX1_times_2_6 21 rfl rfl)
theorem dX1_times_2_159 : decode cX1_times_2 159 = .ok (.invokevirtual 107, 3) := dk_182 0 107 (dk_at dksX1_times_2_7 0 rfl rfl)
theorem dX1_times_2_162 : decode cX1_times_2 162 = .ok (.istore 8, 2) := dk_54 8 (dk_at dksX1_times_2_7 3 rfl rfl)
theorem dX1_times_2_164 : decode cX1_times_2 164 = .ok (.aload 4, 2) := dk_25 4 (dk_at dksX1_times_2_7 5 rfl rfl)
theorem dX1_times_2_166 : decode cX1_times_2 166 = .ok (.iload 8, 2) := dk_21 8 (dk_at dksX1_times_2_7 7 rfl rfl)
theorem dX1_times_2_168 : decode cX1_times_2 168 = .ok (.iaload, 1) := dk_46 (dk_at dksX1_times_2_7 9 rfl rfl)
theorem dX1_times_2_169 : decode cX1_times_2 169 = .ok (.istore 9, 2) := dk_54 9 (dk_at dksX1_times_2_7 10 rfl rfl)
theorem dX1_times_2_171 : decode cX1_times_2 171 = .ok (.aload_n 1, 1) := dk_43 (dk_at dksX1_times_2_7 12 rfl rfl)
theorem dX1_times_2_172 : decode cX1_times_2 172 = .ok (.getfield 69, 3) := dk_180 0 69 (dk_at dksX1_times_2_7 13 rfl rfl)
theorem dX1_times_2_175 : decode cX1_times_2 175 = .ok (.iload 8, 2) := dk_21 8 (dk_at dksX1_times_2_7 16 rfl rfl)
theorem dX1_times_2_177 : decode cX1_times_2 177 = .ok (.iaload, 1) := dk_46 (dk_at dksX1_times_2_7 18 rfl rfl)
theorem dX1_times_2_178 : decode cX1_times_2 178 = .ok (.aload_n 2, 1) := dk_44 (dk_at dksX1_times_2_7 19 rfl rfl)
theorem dX1_times_2_179 : decode cX1_times_2 179 = .ok (.getfield 69, 3) := dk_180 0 69 (dk_at dksX1_times_2_7 20 rfl rfl)
theorem dX1_times_2_182 : decode cX1_times_2 182 = .ok (.iload 9, 2) := dk_21 9 (dk_at dksX1_times_2_8 0 rfl rfl)
theorem dX1_times_2_184 : decode cX1_times_2 184 = .ok (.iaload, 1) := dk_46 (dk_at dksX1_times_2_8 2 rfl rfl)
theorem dX1_times_2_185 : decode cX1_times_2 185 = .ok (.iadd, 1) := dk_96 (dk_at dksX1_times_2_8 3 rfl rfl)
theorem dX1_times_2_186 : decode cX1_times_2 186 = .ok (.istore 6, 2) := dk_54 6 (dk_at dksX1_times_2_8 4 rfl rfl)
theorem dX1_times_2_188 : decode cX1_times_2 188 = .ok (.iload 7, 2) := dk_21 7 (dk_at dksX1_times_2_8 6 rfl rfl)
theorem dX1_times_2_190 : decode cX1_times_2 190 = .ok (.aload_n 1, 1) := dk_43 (dk_at dksX1_times_2_8 8 rfl rfl)
theorem dX1_times_2_191 : decode cX1_times_2 191 = .ok (.getfield 76, 3) := dk_180 0 76 (dk_at dksX1_times_2_8 9 rfl rfl)
theorem dX1_times_2_194 : decode cX1_times_2 194 = .ok (.iload 8, 2) := dk_21 8 (dk_at dksX1_times_2_8 12 rfl rfl)
theorem dX1_times_2_196 : decode cX1_times_2 196 = .ok (.iaload, 1) := dk_46 (dk_at dksX1_times_2_8 14 rfl rfl)
theorem dX1_times_2_197 : decode cX1_times_2 197 = .ok (.aload_n 2, 1) := dk_44 (dk_at dksX1_times_2_8 15 rfl rfl)
theorem dX1_times_2_198 : decode cX1_times_2 198 = .ok (.getfield 76, 3) := dk_180 0 76 (dk_at dksX1_times_2_8 16 rfl rfl)
theorem dX1_times_2_201 : decode cX1_times_2 201 = .ok (.iload 9, 2) := dk_21 9 (dk_at dksX1_times_2_8 19 rfl rfl)
theorem dX1_times_2_203 : decode cX1_times_2 203 = .ok (.iaload, 1) := dk_46 (dk_at dksX1_times_2_8 21 rfl rfl)
theorem dX1_times_2_204 : decode cX1_times_2 204 = .ok (.imul, 1) := dk_104 (dk_at dksX1_times_2_8 22 rfl rfl)
theorem dX1_times_2_205 : decode cX1_times_2 205 = .ok (.iadd, 1) := dk_96 (dk_at dksX1_times_2_8 23 rfl rfl)
theorem dX1_times_2_206 : decode cX1_times_2 206 = .ok (.aload_n 0, 1) := dk_42 (dk_at dksX1_times_2_9 0 rfl rfl)
theorem dX1_times_2_207 : decode cX1_times_2 207 = .ok (.getfield 23, 3) := dk_180 0 23 (dk_at dksX1_times_2_9 1 rfl rfl)
theorem dX1_times_2_210 : decode cX1_times_2 210 = .ok (.irem, 1) := dk_112 (dk_at dksX1_times_2_9 4 rfl rfl)
theorem dX1_times_2_211 : decode cX1_times_2 211 = .ok (.istore 7, 2) := dk_54 7 (dk_at dksX1_times_2_9 5 rfl rfl)
theorem dX1_times_2_213 : decode cX1_times_2 213 = .ok (.aload 4, 2) := dk_25 4 (dk_at dksX1_times_2_9 7 rfl rfl)
theorem dX1_times_2_215 : decode cX1_times_2 215 = .ok (.iload 8, 2) := dk_21 8 (dk_at dksX1_times_2_9 9 rfl rfl)
theorem dX1_times_2_217 : decode cX1_times_2 217 = .ok (.dup2, 1) := dk_92 (dk_at dksX1_times_2_9 11 rfl rfl)
theorem dX1_times_2_218 : decode cX1_times_2 218 = .ok (.iaload, 1) := dk_46 (dk_at dksX1_times_2_9 12 rfl rfl)
theorem dX1_times_2_219 : decode cX1_times_2 219 = .ok (.iconst 1, 1) := dk_4 (dk_at dksX1_times_2_9 13 rfl rfl)
theorem dX1_times_2_220 : decode cX1_times_2 220 = .ok (.iadd, 1) := dk_96 (dk_at dksX1_times_2_9 14 rfl rfl)
theorem dX1_times_2_221 : decode cX1_times_2 221 = .ok (.iastore, 1) := dk_79 (dk_at dksX1_times_2_9 15 rfl rfl)
theorem dX1_times_2_222 : decode cX1_times_2 222 = .ok (.aload 4, 2) := dk_25 4 (dk_at dksX1_times_2_9 16 rfl rfl)
theorem dX1_times_2_224 : decode cX1_times_2 224 = .ok (.iload 8, 2) := dk_21 8 (dk_at dksX1_times_2_9 18 rfl rfl)
theorem dX1_times_2_226 : decode cX1_times_2 226 = .ok (.iaload, 1) := dk_46 (dk_at dksX1_times_2_9 20 rfl rfl)
theorem dX1_times_2_227 : decode cX1_times_2 227 = .ok (.aload_n 2, 1) := dk_44 (dk_at dksX1_times_2_9 21 rfl rfl)
theorem dX1_times_2_228 : decode cX1_times_2 228 = .ok (.getfield 62, 3) := dk_180 0 62 (dk_at dksX1_times_2_10 0 rfl rfl)
theorem dX1_times_2_231 : decode cX1_times_2 231 = .ok (.if_icmp .ge 36, 3) := dk_162 0 36 (dk_at dksX1_times_2_10 3 rfl rfl)
theorem dX1_times_2_234 : decode cX1_times_2 234 = .ok (.aload_n 3, 1) := dk_45 (dk_at dksX1_times_2_10 6 rfl rfl)
theorem dX1_times_2_235 : decode cX1_times_2 235 = .ok (.iload 8, 2) := dk_21 8 (dk_at dksX1_times_2_10 7 rfl rfl)
theorem dX1_times_2_237 : decode cX1_times_2 237 = .ok (.aload_n 0, 1) := dk_42 (dk_at dksX1_times_2_10 9 rfl rfl)
theorem dX1_times_2_238 : decode cX1_times_2 238 = .ok (.getfield 39, 3) := dk_180 0 39 (dk_at dksX1_times_2_10 10 rfl rfl)
theorem dX1_times_2_241 : decode cX1_times_2 241 = .ok (.aload_n 1, 1) := dk_43 (dk_at dksX1_times_2_10 13 rfl rfl)
theorem dX1_times_2_242 : decode cX1_times_2 242 = .ok (.getfield 69, 3) := dk_180 0 69 (dk_at dksX1_times_2_10 14 rfl rfl)
theorem dX1_times_2_245 : decode cX1_times_2 245 = .ok (.iload 8, 2) := dk_21 8 (dk_at dksX1_times_2_10 17 rfl rfl)
theorem dX1_times_2_247 : decode cX1_times_2 247 = .ok (.iaload, 1) := dk_46 (dk_at dksX1_times_2_10 19 rfl rfl)
theorem dX1_times_2_248 : decode cX1_times_2 248 = .ok (.aload_n 2, 1) := dk_44 (dk_at dksX1_times_2_10 20 rfl rfl)
theorem dX1_times_2_249 : decode cX1_times_2 249 = .ok (.getfield 69, 3) := dk_180 0 69 (dk_at dksX1_times_2_10 21 rfl rfl)
theorem dX1_times_2_252 : decode cX1_times_2 252 = .ok (.aload 4, 2) := dk_25 4 (dk_at dksX1_times_2_11 0 rfl rfl)
theorem dX1_times_2_254 : decode cX1_times_2 254 = .ok (.iload 8, 2) := dk_21 8 (dk_at dksX1_times_2_11 2 rfl rfl)
theorem dX1_times_2_256 : decode cX1_times_2 256 = .ok (.iaload, 1) := dk_46 (dk_at dksX1_times_2_11 4 rfl rfl)
theorem dX1_times_2_257 : decode cX1_times_2 257 = .ok (.iaload, 1) := dk_46 (dk_at dksX1_times_2_11 5 rfl rfl)
theorem dX1_times_2_258 : decode cX1_times_2 258 = .ok (.iadd, 1) := dk_96 (dk_at dksX1_times_2_11 6 rfl rfl)
theorem dX1_times_2_259 : decode cX1_times_2 259 = .ok (.invokeinterface 65 2, 5) := by decide +kernel
theorem dX1_times_2_264 : decode cX1_times_2 264 = .ok (.invokevirtual 101, 3) := dk_182 0 101 (dk_at dksX1_times_2_11 12 rfl rfl)
theorem dX1_times_2_267 : decode cX1_times_2 267 = .ok (.goto (-125), 3) := dk_167 255 131 (dk_at dksX1_times_2_11 15 rfl rfl)
theorem dX1_times_2_270 : decode cX1_times_2 270 = .ok (.aload_n 0, 1) := dk_42 (dk_at dksX1_times_2_11 18 rfl rfl)
theorem dX1_times_2_271 : decode cX1_times_2 271 = .ok (.getfield 83, 3) := dk_180 0 83 (dk_at dksX1_times_2_11 19 rfl rfl)
theorem dX1_times_2_274 : decode cX1_times_2 274 = .ok (.iload 6, 2) := dk_21 6 (dk_at dksX1_times_2_11 22 rfl rfl)
theorem dX1_times_2_276 : decode cX1_times_2 276 = .ok (.iload 7, 2) := dk_21 7 (dk_at dksX1_times_2_12 0 rfl rfl)
theorem dX1_times_2_278 : decode cX1_times_2 278 = .ok (.invokevirtual 72, 3) := dk_182 0 72 (dk_at dksX1_times_2_12 2 rfl rfl)
theorem dX1_times_2_281 : decode cX1_times_2 281 = .ok (.goto (-158), 3) := dk_167 255 98 (dk_at dksX1_times_2_12 5 rfl rfl)
theorem dX1_times_2_284 : decode cX1_times_2 284 = .ok (.aload_n 0, 1) := dk_42 (dk_at dksX1_times_2_12 8 rfl rfl)
theorem dX1_times_2_285 : decode cX1_times_2 285 = .ok (.getfield 83, 3) := dk_180 0 83 (dk_at dksX1_times_2_12 9 rfl rfl)
theorem dX1_times_2_288 : decode cX1_times_2 288 = .ok (.invokevirtual 91, 3) := dk_182 0 91 (dk_at dksX1_times_2_12 12 rfl rfl)
theorem dX1_times_2_291 : decode cX1_times_2 291 = .ok (.areturn, 1) := dk_176 (dk_at dksX1_times_2_12 15 rfl rfl)
abbrev cX1_scale : ByteArray := prog_1_method_75_code
def yX1_scale : MethodName := ⟨RX1, "scale", "(IIIIII)I"⟩
def dkwX1_scale_4 : List UInt8 := [180, 0, 232, 27, 50, 28, 29, 21, 4, 21, 5, 184, 0, 199, 182, 0, 118, 21, 6, 182, 1, 157, 172]
abbrev dktX1_scale_4 : List UInt8 := dkwX1_scale_4 ++ []
def dkwX1_scale_3 : List UInt8 := [154, 0, 13, 187, 0, 47, 89, 183, 0, 117, 167, 0, 29, 42, 187, 0, 47, 89, 183, 0, 117, 42]
abbrev dktX1_scale_3 : List UInt8 := dkwX1_scale_3 ++ dktX1_scale_4
def dkwX1_scale_2 : List UInt8 := [184, 1, 81, 153, 0, 7, 4, 167, 0, 4, 3, 182, 1, 4, 182, 1, 62, 153, 0, 5, 2, 172, 42, 28]
abbrev dktX1_scale_2 : List UInt8 := dkwX1_scale_2 ++ dktX1_scale_3
def dkwX1_scale_1 : List UInt8 := [79, 182, 1, 91, 153, 0, 30, 6, 188, 10, 89, 3, 29, 79, 89, 4, 21, 4, 79, 89, 5, 21, 5, 79]
abbrev dktX1_scale_1 : List UInt8 := dkwX1_scale_1 ++ dktX1_scale_2
def dkwX1_scale_0 : List UInt8 := [42, 42, 5, 188, 10, 89, 3, 27, 79, 89, 4, 21, 6, 79, 184, 1, 69, 42, 4, 188, 10, 89, 3, 28]
abbrev dktX1_scale_0 : List UInt8 := dkwX1_scale_0 ++ dktX1_scale_1
theorem dksX1_scale_0 : cX1_scale.data.toList.drop 0 = dktX1_scale_0 := by decide +kernel
theorem dksX1_scale_1 : cX1_scale.data.toList.drop 24 = dktX1_scale_1 := dk_seg dksX1_scale_0 24 rfl rfl
theorem dksX1_scale_2 : cX1_scale.data.toList.drop 48 = dktX1_scale_2 := dk_seg dksX1_scale_1 24 rfl rfl
theorem dksX1_scale_3 : cX1_scale.data.toList.drop 72 = dktX1_scale_3 := dk_seg dksX1_scale_2 24 rfl rfl
theorem dksX1_scale_4 : cX1_scale.data.toList.drop 94 = dktX1_scale_4 := dk_seg dksX1_scale_3 22 rfl rfl
theorem dX1_scale_0 : decode cX1_scale 0 = .ok (.aload_n 0, 1) := dk_42 (dk_at dksX1_scale_0 0 rfl rfl)
theorem dX1_scale_1 : decode cX1_scale 1 = .ok (.aload_n 0, 1) := dk_42 (dk_at dksX1_scale_0 1 rfl rfl)
theorem dX1_scale_2 : decode cX1_scale 2 = .ok (.iconst 2, 1) := dk_5 (dk_at dksX1_scale_0 2 rfl rfl)
theorem dX1_scale_3 : decode cX1_scale 3 = .ok (.newarray .int, 2) := dk_188_10 (dk_at dksX1_scale_0 3 rfl rfl)
theorem dX1_scale_5 : decode cX1_scale 5 = .ok (.dup, 1) := dk_89 (dk_at dksX1_scale_0 5 rfl rfl)
theorem dX1_scale_6 : decode cX1_scale 6 = .ok (.iconst 0, 1) := dk_3 (dk_at dksX1_scale_0 6 rfl rfl)
theorem dX1_scale_7 : decode cX1_scale 7 = .ok (.iload_n 1, 1) := dk_27 (dk_at dksX1_scale_0 7 rfl rfl)
theorem dX1_scale_8 : decode cX1_scale 8 = .ok (.iastore, 1) := dk_79 (dk_at dksX1_scale_0 8 rfl rfl)
theorem dX1_scale_9 : decode cX1_scale 9 = .ok (.dup, 1) := dk_89 (dk_at dksX1_scale_0 9 rfl rfl)
theorem dX1_scale_10 : decode cX1_scale 10 = .ok (.iconst 1, 1) := dk_4 (dk_at dksX1_scale_0 10 rfl rfl)
theorem dX1_scale_11 : decode cX1_scale 11 = .ok (.iload 6, 2) := dk_21 6 (dk_at dksX1_scale_0 11 rfl rfl)
theorem dX1_scale_13 : decode cX1_scale 13 = .ok (.iastore, 1) := dk_79 (dk_at dksX1_scale_0 13 rfl rfl)
theorem dX1_scale_14 : decode cX1_scale 14 = .ok (.invokestatic 325, 3) := dk_184 1 69 (dk_at dksX1_scale_0 14 rfl rfl)
theorem dX1_scale_17 : decode cX1_scale 17 = .ok (.aload_n 0, 1) := dk_42 (dk_at dksX1_scale_0 17 rfl rfl)
theorem dX1_scale_18 : decode cX1_scale 18 = .ok (.iconst 1, 1) := dk_4 (dk_at dksX1_scale_0 18 rfl rfl)
theorem dX1_scale_19 : decode cX1_scale 19 = .ok (.newarray .int, 2) := dk_188_10 (dk_at dksX1_scale_0 19 rfl rfl)
theorem dX1_scale_21 : decode cX1_scale 21 = .ok (.dup, 1) := dk_89 (dk_at dksX1_scale_0 21 rfl rfl)
theorem dX1_scale_22 : decode cX1_scale 22 = .ok (.iconst 0, 1) := dk_3 (dk_at dksX1_scale_0 22 rfl rfl)
theorem dX1_scale_23 : decode cX1_scale 23 = .ok (.iload_n 2, 1) := dk_28 (dk_at dksX1_scale_0 23 rfl rfl)
theorem dX1_scale_24 : decode cX1_scale 24 = .ok (.iastore, 1) := dk_79 (dk_at dksX1_scale_1 0 rfl rfl)
theorem dX1_scale_25 : decode cX1_scale 25 = .ok (.invokevirtual 347, 3) := dk_182 1 91 (dk_at dksX1_scale_1 1 rfl rfl)
theorem dX1_scale_28 : decode cX1_scale 28 = .ok (.ifCond .eq 30, 3) := dk_153 0 30 (dk_at dksX1_scale_1 4 rfl rfl)
theorem dX1_scale_31 : decode cX1_scale 31 = .ok (.iconst 3, 1) := dk_6 (dk_at dksX1_scale_1 7 rfl rfl)
theorem dX1_scale_32 : decode cX1_scale 32 = .ok (.newarray .int, 2) := dk_188_10 (dk_at dksX1_scale_1 8 rfl rfl)
theorem dX1_scale_34 : decode cX1_scale 34 = .ok (.dup, 1) := dk_89 (dk_at dksX1_scale_1 10 rfl rfl)
theorem dX1_scale_35 : decode cX1_scale 35 = .ok (.iconst 0, 1) := dk_3 (dk_at dksX1_scale_1 11 rfl rfl)
theorem dX1_scale_36 : decode cX1_scale 36 = .ok (.iload_n 3, 1) := dk_29 (dk_at dksX1_scale_1 12 rfl rfl)
theorem dX1_scale_37 : decode cX1_scale 37 = .ok (.iastore, 1) := dk_79 (dk_at dksX1_scale_1 13 rfl rfl)
theorem dX1_scale_38 : decode cX1_scale 38 = .ok (.dup, 1) := dk_89 (dk_at dksX1_scale_1 14 rfl rfl)
theorem dX1_scale_39 : decode cX1_scale 39 = .ok (.iconst 1, 1) := dk_4 (dk_at dksX1_scale_1 15 rfl rfl)
theorem dX1_scale_40 : decode cX1_scale 40 = .ok (.iload 4, 2) := dk_21 4 (dk_at dksX1_scale_1 16 rfl rfl)
theorem dX1_scale_42 : decode cX1_scale 42 = .ok (.iastore, 1) := dk_79 (dk_at dksX1_scale_1 18 rfl rfl)
theorem dX1_scale_43 : decode cX1_scale 43 = .ok (.dup, 1) := dk_89 (dk_at dksX1_scale_1 19 rfl rfl)
theorem dX1_scale_44 : decode cX1_scale 44 = .ok (.iconst 2, 1) := dk_5 (dk_at dksX1_scale_1 20 rfl rfl)
theorem dX1_scale_45 : decode cX1_scale 45 = .ok (.iload 5, 2) := dk_21 5 (dk_at dksX1_scale_1 21 rfl rfl)
theorem dX1_scale_47 : decode cX1_scale 47 = .ok (.iastore, 1) := dk_79 (dk_at dksX1_scale_1 23 rfl rfl)
theorem dX1_scale_48 : decode cX1_scale 48 = .ok (.invokestatic 337, 3) := dk_184 1 81 (dk_at dksX1_scale_2 0 rfl rfl)
theorem dX1_scale_51 : decode cX1_scale 51 = .ok (.ifCond .eq 7, 3) := dk_153 0 7 (dk_at dksX1_scale_2 3 rfl rfl)
theorem dX1_scale_54 : decode cX1_scale 54 = .ok (.iconst 1, 1) := dk_4 (dk_at dksX1_scale_2 6 rfl rfl)
theorem dX1_scale_55 : decode cX1_scale 55 = .ok (.goto 4, 3) := dk_167 0 4 (dk_at dksX1_scale_2 7 rfl rfl)
theorem dX1_scale_58 : decode cX1_scale 58 = .ok (.iconst 0, 1) := dk_3 (dk_at dksX1_scale_2 10 rfl rfl)
theorem dX1_scale_59 : decode cX1_scale 59 = .ok (.invokevirtual 260, 3) := dk_182 1 4 (dk_at dksX1_scale_2 11 rfl rfl)
theorem dX1_scale_62 : decode cX1_scale 62 = .ok (.invokevirtual 318, 3) := dk_182 1 62 (dk_at dksX1_scale_2 14 rfl rfl)
theorem dX1_scale_65 : decode cX1_scale 65 = .ok (.ifCond .eq 5, 3) := dk_153 0 5 (dk_at dksX1_scale_2 17 rfl rfl)
theorem dX1_scale_68 : decode cX1_scale 68 = .ok (.iconst (-1), 1) := dk_2 (dk_at dksX1_scale_2 20 rfl rfl)
theorem dX1_scale_69 : decode cX1_scale 69 = .ok (.ireturn, 1) := dk_172 (dk_at dksX1_scale_2 21 rfl rfl)
theorem dX1_scale_70 : decode cX1_scale 70 = .ok (.aload_n 0, 1) := dk_42 (dk_at dksX1_scale_2 22 rfl rfl)
theorem dX1_scale_71 : decode cX1_scale 71 = .ok (.iload_n 2, 1) := dk_28 (dk_at dksX1_scale_2 23 rfl rfl)
theorem dX1_scale_72 : decode cX1_scale 72 = .ok (.ifCond .ne 13, 3) := dk_154 0 13 (dk_at dksX1_scale_3 0 rfl rfl)
theorem dX1_scale_75 : decode cX1_scale 75 = .ok (.new 47, 3) := dk_187 0 47 (dk_at dksX1_scale_3 3 rfl rfl)
theorem dX1_scale_78 : decode cX1_scale 78 = .ok (.dup, 1) := dk_89 (dk_at dksX1_scale_3 6 rfl rfl)
theorem dX1_scale_79 : decode cX1_scale 79 = .ok (.invokespecial 117, 3) := dk_183 0 117 (dk_at dksX1_scale_3 7 rfl rfl)
theorem dX1_scale_82 : decode cX1_scale 82 = .ok (.goto 29, 3) := dk_167 0 29 (dk_at dksX1_scale_3 10 rfl rfl)
theorem dX1_scale_85 : decode cX1_scale 85 = .ok (.aload_n 0, 1) := dk_42 (dk_at dksX1_scale_3 13 rfl rfl)
theorem dX1_scale_86 : decode cX1_scale 86 = .ok (.new 47, 3) := dk_187 0 47 (dk_at dksX1_scale_3 14 rfl rfl)
theorem dX1_scale_89 : decode cX1_scale 89 = .ok (.dup, 1) := dk_89 (dk_at dksX1_scale_3 17 rfl rfl)
theorem dX1_scale_90 : decode cX1_scale 90 = .ok (.invokespecial 117, 3) := dk_183 0 117 (dk_at dksX1_scale_3 18 rfl rfl)
theorem dX1_scale_93 : decode cX1_scale 93 = .ok (.aload_n 0, 1) := dk_42 (dk_at dksX1_scale_3 21 rfl rfl)
theorem dX1_scale_94 : decode cX1_scale 94 = .ok (.getfield 232, 3) := dk_180 0 232 (dk_at dksX1_scale_4 0 rfl rfl)
theorem dX1_scale_97 : decode cX1_scale 97 = .ok (.iload_n 1, 1) := dk_27 (dk_at dksX1_scale_4 3 rfl rfl)
theorem dX1_scale_98 : decode cX1_scale 98 = .ok (.aaload, 1) := dk_50 (dk_at dksX1_scale_4 4 rfl rfl)
theorem dX1_scale_99 : decode cX1_scale 99 = .ok (.iload_n 2, 1) := dk_28 (dk_at dksX1_scale_4 5 rfl rfl)
theorem dX1_scale_100 : decode cX1_scale 100 = .ok (.iload_n 3, 1) := dk_29 (dk_at dksX1_scale_4 6 rfl rfl)
theorem dX1_scale_101 : decode cX1_scale 101 = .ok (.iload 4, 2) := dk_21 4 (dk_at dksX1_scale_4 7 rfl rfl)
theorem dX1_scale_103 : decode cX1_scale 103 = .ok (.iload 5, 2) := dk_21 5 (dk_at dksX1_scale_4 9 rfl rfl)
theorem dX1_scale_105 : decode cX1_scale 105 = .ok (.invokestatic 199, 3) := dk_184 0 199 (dk_at dksX1_scale_4 11 rfl rfl)
theorem dX1_scale_108 : decode cX1_scale 108 = .ok (.invokevirtual 118, 3) := dk_182 0 118 (dk_at dksX1_scale_4 14 rfl rfl)
theorem dX1_scale_111 : decode cX1_scale 111 = .ok (.iload 6, 2) := dk_21 6 (dk_at dksX1_scale_4 17 rfl rfl)
theorem dX1_scale_113 : decode cX1_scale 113 = .ok (.invokevirtual 413, 3) := dk_182 1 157 (dk_at dksX1_scale_4 19 rfl rfl)
theorem dX1_scale_116 : decode cX1_scale 116 = .ok (.ireturn, 1) := dk_172 (dk_at dksX1_scale_4 22 rfl rfl)
abbrev cX1_monic_2 : ByteArray := prog_1_method_76_code
def yX1_monic_2 : MethodName := ⟨RX1, "monic", "(II)I"⟩
def dkwX1_monic_2_1 : List UInt8 := [153, 0, 7, 2, 167, 0, 18, 42, 42, 42, 180, 0, 232, 27, 50, 182, 0, 131, 28, 182, 1, 157, 172]
abbrev dktX1_monic_2_1 : List UInt8 := dkwX1_monic_2_1 ++ []
def dkwX1_monic_2_0 : List UInt8 := [42, 42, 5, 188, 10, 89, 3, 27, 79, 89, 4, 28, 79, 184, 1, 69, 182, 1, 59, 182, 1, 62]
abbrev dktX1_monic_2_0 : List UInt8 := dkwX1_monic_2_0 ++ dktX1_monic_2_1
theorem dksX1_monic_2_0 : cX1_monic_2.data.toList.drop 0 = dktX1_monic_2_0 := by decide +kernel
theorem dksX1_monic_2_1 : cX1_monic_2.data.toList.drop 22 = dktX1_monic_2_1 := dk_seg dksX1_monic_2_0 22 rfl rfl
theorem dX1_monic_2_0 : decode cX1_monic_2 0 = .ok (.aload_n 0, 1) := dk_42 (dk_at dksX1_monic_2_0 0 rfl rfl)
theorem dX1_monic_2_1 : decode cX1_monic_2 1 = .ok (.aload_n 0, 1) := dk_42 (dk_at dksX1_monic_2_0 1 rfl rfl)
theorem dX1_monic_2_2 : decode cX1_monic_2 2 = .ok (.iconst 2, 1) := dk_5 (dk_at dksX1_monic_2_0 2 rfl rfl)
theorem dX1_monic_2_3 : decode cX1_monic_2 3 = .ok (.newarray .int, 2) := dk_188_10 (dk_at dksX1_monic_2_0 3 rfl rfl)
theorem dX1_monic_2_5 : decode cX1_monic_2 5 = .ok (.dup, 1) := dk_89 (dk_at dksX1_monic_2_0 5 rfl rfl)
theorem dX1_monic_2_6 : decode cX1_monic_2 6 = .ok (.iconst 0, 1) := dk_3 (dk_at dksX1_monic_2_0 6 rfl rfl)
theorem dX1_monic_2_7 : decode cX1_monic_2 7 = .ok (.iload_n 1, 1) := dk_27 (dk_at dksX1_monic_2_0 7 rfl rfl)
theorem dX1_monic_2_8 : decode cX1_monic_2 8 = .ok (.iastore, 1) := dk_79 (dk_at dksX1_monic_2_0 8 rfl rfl)
theorem dX1_monic_2_9 : decode cX1_monic_2 9 = .ok (.dup, 1) := dk_89 (dk_at dksX1_monic_2_0 9 rfl rfl)
theorem dX1_monic_2_10 : decode cX1_monic_2 10 = .ok (.iconst 1, 1) := dk_4 (dk_at dksX1_monic_2_0 10 rfl rfl)
theorem dX1_monic_2_11 : decode cX1_monic_2 11 = .ok (.iload_n 2, 1) := dk_28 (dk_at dksX1_monic_2_0 11 rfl rfl)
theorem dX1_monic_2_12 : decode cX1_monic_2 12 = .ok (.iastore, 1) := dk_79 (dk_at dksX1_monic_2_0 12 rfl rfl)
theorem dX1_monic_2_13 : decode cX1_monic_2 13 = .ok (.invokestatic 325, 3) := dk_184 1 69 (dk_at dksX1_monic_2_0 13 rfl rfl)
theorem dX1_monic_2_16 : decode cX1_monic_2 16 = .ok (.invokevirtual 315, 3) := dk_182 1 59 (dk_at dksX1_monic_2_0 16 rfl rfl)
theorem dX1_monic_2_19 : decode cX1_monic_2 19 = .ok (.invokevirtual 318, 3) := dk_182 1 62 (dk_at dksX1_monic_2_0 19 rfl rfl)
theorem dX1_monic_2_22 : decode cX1_monic_2 22 = .ok (.ifCond .eq 7, 3) := dk_153 0 7 (dk_at dksX1_monic_2_1 0 rfl rfl)
theorem dX1_monic_2_25 : decode cX1_monic_2 25 = .ok (.iconst (-1), 1) := dk_2 (dk_at dksX1_monic_2_1 3 rfl rfl)
theorem dX1_monic_2_26 : decode cX1_monic_2 26 = .ok (.goto 18, 3) := dk_167 0 18 (dk_at dksX1_monic_2_1 4 rfl rfl)
theorem dX1_monic_2_29 : decode cX1_monic_2 29 = .ok (.aload_n 0, 1) := dk_42 (dk_at dksX1_monic_2_1 7 rfl rfl)
theorem dX1_monic_2_30 : decode cX1_monic_2 30 = .ok (.aload_n 0, 1) := dk_42 (dk_at dksX1_monic_2_1 8 rfl rfl)
theorem dX1_monic_2_31 : decode cX1_monic_2 31 = .ok (.aload_n 0, 1) := dk_42 (dk_at dksX1_monic_2_1 9 rfl rfl)
theorem dX1_monic_2_32 : decode cX1_monic_2 32 = .ok (.getfield 232, 3) := dk_180 0 232 (dk_at dksX1_monic_2_1 10 rfl rfl)
theorem dX1_monic_2_35 : decode cX1_monic_2 35 = .ok (.iload_n 1, 1) := dk_27 (dk_at dksX1_monic_2_1 13 rfl rfl)
theorem dX1_monic_2_36 : decode cX1_monic_2 36 = .ok (.aaload, 1) := dk_50 (dk_at dksX1_monic_2_1 14 rfl rfl)
theorem dX1_monic_2_37 : decode cX1_monic_2 37 = .ok (.invokevirtual 131, 3) := dk_182 0 131 (dk_at dksX1_monic_2_1 15 rfl rfl)
theorem dX1_monic_2_40 : decode cX1_monic_2 40 = .ok (.iload_n 2, 1) := dk_28 (dk_at dksX1_monic_2_1 18 rfl rfl)
theorem dX1_monic_2_41 : decode cX1_monic_2 41 = .ok (.invokevirtual 413, 3) := dk_182 1 157 (dk_at dksX1_monic_2_1 19 rfl rfl)
theorem dX1_monic_2_44 : decode cX1_monic_2 44 = .ok (.ireturn, 1) := dk_172 (dk_at dksX1_monic_2_1 22 rfl rfl)
abbrev cX1_derive : ByteArray := prog_1_method_77_code
def yX1_derive : MethodName := ⟨RX1, "derive", "(III)I"⟩
def dkwX1_derive_6 : List UInt8 := [182, 1, 157, 172]
abbrev dktX1_derive_6 : List UInt8 := dkwX1_derive_6 ++ []
def dkwX1_derive_5 : List UInt8 := [184, 0, 3, 104, 42, 180, 0, 23, 112, 79, 132, 6, 1, 167, 255, 185, 42, 42, 25, 4, 182, 0, 203, 29]
abbrev dktX1_derive_5 : List UInt8 := dkwX1_derive_5 ++ dktX1_derive_6
def dkwX1_derive_4 : List UInt8 := [46, 4, 7, 28, 104, 120, 100, 25, 5, 180, 0, 76, 21, 6, 46, 25, 5, 180, 0, 69, 21, 6, 46, 28]
abbrev dktX1_derive_4 : List UInt8 := dkwX1_derive_4 ++ dktX1_derive_5
def dkwX1_derive_3 : List UInt8 := [25, 5, 180, 0, 69, 21, 6, 46, 28, 184, 0, 3, 158, 0, 46, 25, 4, 25, 5, 180, 0, 69, 21, 6]
abbrev dktX1_derive_3 : List UInt8 := dkwX1_derive_3 ++ dktX1_derive_4
def dkwX1_derive_2 : List UInt8 := [58, 4, 42, 180, 0, 232, 27, 50, 58, 5, 3, 54, 6, 21, 6, 25, 5, 180, 0, 62, 162, 0, 67]
abbrev dktX1_derive_2 : List UInt8 := dkwX1_derive_2 ++ dktX1_derive_3
def dkwX1_derive_1 : List UInt8 := [153, 0, 7, 4, 167, 0, 4, 3, 182, 1, 59, 182, 1, 62, 153, 0, 5, 2, 172, 42, 182, 0, 113]
abbrev dktX1_derive_1 : List UInt8 := dkwX1_derive_1 ++ dktX1_derive_2
def dkwX1_derive_0 : List UInt8 := [42, 42, 5, 188, 10, 89, 3, 27, 79, 89, 4, 29, 79, 184, 1, 69, 153, 0, 14, 28, 184, 1, 78]
abbrev dktX1_derive_0 : List UInt8 := dkwX1_derive_0 ++ dktX1_derive_1
theorem dksX1_derive_0 : cX1_derive.data.toList.drop 0 = dktX1_derive_0 := by decide +kernel
theorem dksX1_derive_1 : cX1_derive.data.toList.drop 23 = dktX1_derive_1 := dk_seg dksX1_derive_0 23 rfl rfl
theorem dksX1_derive_2 : cX1_derive.data.toList.drop 46 = dktX1_derive_2 := dk_seg dksX1_derive_1 23 rfl rfl
theorem dksX1_derive_3 : cX1_derive.data.toList.drop 69 = dktX1_derive_3 := dk_seg dksX1_derive_2 23 rfl rfl
theorem dksX1_derive_4 : cX1_derive.data.toList.drop 93 = dktX1_derive_4 := dk_seg dksX1_derive_3 24 rfl rfl
theorem dksX1_derive_5 : cX1_derive.data.toList.drop 117 = dktX1_derive_5 := dk_seg dksX1_derive_4 24 rfl rfl
theorem dksX1_derive_6 : cX1_derive.data.toList.drop 141 = dktX1_derive_6 := dk_seg dksX1_derive_5 24 rfl rfl
theorem dX1_derive_0 : decode cX1_derive 0 = .ok (.aload_n 0, 1) := dk_42 (dk_at dksX1_derive_0 0 rfl rfl)
theorem dX1_derive_1 : decode cX1_derive 1 = .ok (.aload_n 0, 1) := dk_42 (dk_at dksX1_derive_0 1 rfl rfl)
theorem dX1_derive_2 : decode cX1_derive 2 = .ok (.iconst 2, 1) := dk_5 (dk_at dksX1_derive_0 2 rfl rfl)
theorem dX1_derive_3 : decode cX1_derive 3 = .ok (.newarray .int, 2) := dk_188_10 (dk_at dksX1_derive_0 3 rfl rfl)
theorem dX1_derive_5 : decode cX1_derive 5 = .ok (.dup, 1) := dk_89 (dk_at dksX1_derive_0 5 rfl rfl)
theorem dX1_derive_6 : decode cX1_derive 6 = .ok (.iconst 0, 1) := dk_3 (dk_at dksX1_derive_0 6 rfl rfl)
theorem dX1_derive_7 : decode cX1_derive 7 = .ok (.iload_n 1, 1) := dk_27 (dk_at dksX1_derive_0 7 rfl rfl)
theorem dX1_derive_8 : decode cX1_derive 8 = .ok (.iastore, 1) := dk_79 (dk_at dksX1_derive_0 8 rfl rfl)
theorem dX1_derive_9 : decode cX1_derive 9 = .ok (.dup, 1) := dk_89 (dk_at dksX1_derive_0 9 rfl rfl)
theorem dX1_derive_10 : decode cX1_derive 10 = .ok (.iconst 1, 1) := dk_4 (dk_at dksX1_derive_0 10 rfl rfl)
theorem dX1_derive_11 : decode cX1_derive 11 = .ok (.iload_n 3, 1) := dk_29 (dk_at dksX1_derive_0 11 rfl rfl)
theorem dX1_derive_12 : decode cX1_derive 12 = .ok (.iastore, 1) := dk_79 (dk_at dksX1_derive_0 12 rfl rfl)
theorem dX1_derive_13 : decode cX1_derive 13 = .ok (.invokestatic 325, 3) := dk_184 1 69 (dk_at dksX1_derive_0 13 rfl rfl)
theorem dX1_derive_16 : decode cX1_derive 16 = .ok (.ifCond .eq 14, 3) := dk_153 0 14 (dk_at dksX1_derive_0 16 rfl rfl)
theorem dX1_derive_19 : decode cX1_derive 19 = .ok (.iload_n 2, 1) := dk_28 (dk_at dksX1_derive_0 19 rfl rfl)
theorem dX1_derive_20 : decode cX1_derive 20 = .ok (.invokestatic 334, 3) := dk_184 1 78 (dk_at dksX1_derive_0 20 rfl rfl)
theorem dX1_derive_23 : decode cX1_derive 23 = .ok (.ifCond .eq 7, 3) := dk_153 0 7 (dk_at dksX1_derive_1 0 rfl rfl)
theorem dX1_derive_26 : decode cX1_derive 26 = .ok (.iconst 1, 1) := dk_4 (dk_at dksX1_derive_1 3 rfl rfl)
theorem dX1_derive_27 : decode cX1_derive 27 = .ok (.goto 4, 3) := dk_167 0 4 (dk_at dksX1_derive_1 4 rfl rfl)
theorem dX1_derive_30 : decode cX1_derive 30 = .ok (.iconst 0, 1) := dk_3 (dk_at dksX1_derive_1 7 rfl rfl)
theorem dX1_derive_31 : decode cX1_derive 31 = .ok (.invokevirtual 315, 3) := dk_182 1 59 (dk_at dksX1_derive_1 8 rfl rfl)
theorem dX1_derive_34 : decode cX1_derive 34 = .ok (.invokevirtual 318, 3) := dk_182 1 62 (dk_at dksX1_derive_1 11 rfl rfl)
theorem dX1_derive_37 : decode cX1_derive 37 = .ok (.ifCond .eq 5, 3) := dk_153 0 5 (dk_at dksX1_derive_1 14 rfl rfl)
theorem dX1_derive_40 : decode cX1_derive 40 = .ok (.iconst (-1), 1) := dk_2 (dk_at dksX1_derive_1 17 rfl rfl)
theorem dX1_derive_41 : decode cX1_derive 41 = .ok (.ireturn, 1) := dk_172 (dk_at dksX1_derive_1 18 rfl rfl)
theorem dX1_derive_42 : decode cX1_derive 42 = .ok (.aload_n 0, 1) := dk_42 (dk_at dksX1_derive_1 19 rfl rfl)
theorem dX1_derive_43 : decode cX1_derive 43 = .ok (.invokevirtual 113, 3) := dk_182 0 113 (dk_at dksX1_derive_1 20 rfl rfl)
theorem dX1_derive_46 : decode cX1_derive 46 = .ok (.astore 4, 2) := dk_58 4 (dk_at dksX1_derive_2 0 rfl rfl)
theorem dX1_derive_48 : decode cX1_derive 48 = .ok (.aload_n 0, 1) := dk_42 (dk_at dksX1_derive_2 2 rfl rfl)
theorem dX1_derive_49 : decode cX1_derive 49 = .ok (.getfield 232, 3) := dk_180 0 232 (dk_at dksX1_derive_2 3 rfl rfl)
theorem dX1_derive_52 : decode cX1_derive 52 = .ok (.iload_n 1, 1) := dk_27 (dk_at dksX1_derive_2 6 rfl rfl)
theorem dX1_derive_53 : decode cX1_derive 53 = .ok (.aaload, 1) := dk_50 (dk_at dksX1_derive_2 7 rfl rfl)
theorem dX1_derive_54 : decode cX1_derive 54 = .ok (.astore 5, 2) := dk_58 5 (dk_at dksX1_derive_2 8 rfl rfl)
theorem dX1_derive_56 : decode cX1_derive 56 = .ok (.iconst 0, 1) := dk_3 (dk_at dksX1_derive_2 10 rfl rfl)
theorem dX1_derive_57 : decode cX1_derive 57 = .ok (.istore 6, 2) := dk_54 6 (dk_at dksX1_derive_2 11 rfl rfl)
theorem dX1_derive_59 : decode cX1_derive 59 = .ok (.iload 6, 2) := dk_21 6 (dk_at dksX1_derive_2 13 rfl rfl)
theorem dX1_derive_61 : decode cX1_derive 61 = .ok (.aload 5, 2) := dk_25 5 (dk_at dksX1_derive_2 15 rfl rfl)
theorem dX1_derive_63 : decode cX1_derive 63 = .ok (.getfield 62, 3) := dk_180 0 62 (dk_at dksX1_derive_2 17 rfl rfl)
theorem dX1_derive_66 : decode cX1_derive 66 = .ok (.if_icmp .ge 67, 3) := dk_162 0 67 (dk_at dksX1_derive_2 20 rfl rfl)
theorem dX1_derive_69 : decode cX1_derive 69 = .ok (.aload 5, 2) := dk_25 5 (dk_at dksX1_derive_3 0 rfl rfl)
theorem dX1_derive_71 : decode cX1_derive 71 = .ok (.getfield 69, 3) := dk_180 0 69 (dk_at dksX1_derive_3 2 rfl rfl)
theorem dX1_derive_74 : decode cX1_derive 74 = .ok (.iload 6, 2) := dk_21 6 (dk_at dksX1_derive_3 5 rfl rfl)
theorem dX1_derive_76 : decode cX1_derive 76 = .ok (.iaload, 1) := dk_46 (dk_at dksX1_derive_3 7 rfl rfl)
theorem dX1_derive_77 : decode cX1_derive 77 = .ok (.iload_n 2, 1) := dk_28 (dk_at dksX1_derive_3 8 rfl rfl)
theorem dX1_derive_78 : decode cX1_derive 78 = .ok (.invokestatic 3, 3) := dk_184 0 3 (dk_at dksX1_derive_3 9 rfl rfl)
theorem dX1_derive_81 : decode cX1_derive 81 = .ok (.ifCond .le 46, 3) := dk_158 0 46 (dk_at dksX1_derive_3 12 rfl rfl)
theorem dX1_derive_84 : decode cX1_derive 84 = .ok (.aload 4, 2) := dk_25 4 (dk_at dksX1_derive_3 15 rfl rfl)
theorem dX1_derive_86 : decode cX1_derive 86 = .ok (.aload 5, 2) := dk_25 5 (dk_at dksX1_derive_3 17 rfl rfl)
theorem dX1_derive_88 : decode cX1_derive 88 = .ok (.getfield 69, 3) := dk_180 0 69 (dk_at dksX1_derive_3 19 rfl rfl)
theorem dX1_derive_91 : decode cX1_derive 91 = .ok (.iload 6, 2) := dk_21 6 (dk_at dksX1_derive_3 22 rfl rfl)
theorem dX1_derive_93 : decode cX1_derive 93 = .ok (.iaload, 1) := dk_46 (dk_at dksX1_derive_4 0 rfl rfl)
theorem dX1_derive_94 : decode cX1_derive 94 = .ok (.iconst 1, 1) := dk_4 (dk_at dksX1_derive_4 1 rfl rfl)
theorem dX1_derive_95 : decode cX1_derive 95 = .ok (.iconst 4, 1) := dk_7 (dk_at dksX1_derive_4 2 rfl rfl)
theorem dX1_derive_96 : decode cX1_derive 96 = .ok (.iload_n 2, 1) := dk_28 (dk_at dksX1_derive_4 3 rfl rfl)
theorem dX1_derive_97 : decode cX1_derive 97 = .ok (.imul, 1) := dk_104 (dk_at dksX1_derive_4 4 rfl rfl)
theorem dX1_derive_98 : decode cX1_derive 98 = .ok (.ishl, 1) := dk_120 (dk_at dksX1_derive_4 5 rfl rfl)
theorem dX1_derive_99 : decode cX1_derive 99 = .ok (.isub, 1) := dk_100 (dk_at dksX1_derive_4 6 rfl rfl)
theorem dX1_derive_100 : decode cX1_derive 100 = .ok (.aload 5, 2) := dk_25 5 (dk_at dksX1_derive_4 7 rfl rfl)
theorem dX1_derive_102 : decode cX1_derive 102 = .ok (.getfield 76, 3) := dk_180 0 76 (dk_at dksX1_derive_4 9 rfl rfl)
theorem dX1_derive_105 : decode cX1_derive 105 = .ok (.iload 6, 2) := dk_21 6 (dk_at dksX1_derive_4 12 rfl rfl)
theorem dX1_derive_107 : decode cX1_derive 107 = .ok (.iaload, 1) := dk_46 (dk_at dksX1_derive_4 14 rfl rfl)
theorem dX1_derive_108 : decode cX1_derive 108 = .ok (.aload 5, 2) := dk_25 5 (dk_at dksX1_derive_4 15 rfl rfl)
theorem dX1_derive_110 : decode cX1_derive 110 = .ok (.getfield 69, 3) := dk_180 0 69 (dk_at dksX1_derive_4 17 rfl rfl)
theorem dX1_derive_113 : decode cX1_derive 113 = .ok (.iload 6, 2) := dk_21 6 (dk_at dksX1_derive_4 20 rfl rfl)
theorem dX1_derive_115 : decode cX1_derive 115 = .ok (.iaload, 1) := dk_46 (dk_at dksX1_derive_4 22 rfl rfl)
theorem dX1_derive_116 : decode cX1_derive 116 = .ok (.iload_n 2, 1) := dk_28 (dk_at dksX1_derive_4 23 rfl rfl)
theorem dX1_derive_117 : decode cX1_derive 117 = .ok (.invokestatic 3, 3) := dk_184 0 3 (dk_at dksX1_derive_5 0 rfl rfl)
theorem dX1_derive_120 : decode cX1_derive 120 = .ok (.imul, 1) := dk_104 (dk_at dksX1_derive_5 3 rfl rfl)
theorem dX1_derive_121 : decode cX1_derive 121 = .ok (.aload_n 0, 1) := dk_42 (dk_at dksX1_derive_5 4 rfl rfl)
theorem dX1_derive_122 : decode cX1_derive 122 = .ok (.getfield 23, 3) := dk_180 0 23 (dk_at dksX1_derive_5 5 rfl rfl)
theorem dX1_derive_125 : decode cX1_derive 125 = .ok (.irem, 1) := dk_112 (dk_at dksX1_derive_5 8 rfl rfl)
theorem dX1_derive_126 : decode cX1_derive 126 = .ok (.iastore, 1) := dk_79 (dk_at dksX1_derive_5 9 rfl rfl)
theorem dX1_derive_127 : decode cX1_derive 127 = .ok (.iinc 6 1, 3) := dk_132 6 1 (dk_at dksX1_derive_5 10 rfl rfl)
theorem dX1_derive_130 : decode cX1_derive 130 = .ok (.goto (-71), 3) := dk_167 255 185 (dk_at dksX1_derive_5 13 rfl rfl)
theorem dX1_derive_133 : decode cX1_derive 133 = .ok (.aload_n 0, 1) := dk_42 (dk_at dksX1_derive_5 16 rfl rfl)
theorem dX1_derive_134 : decode cX1_derive 134 = .ok (.aload_n 0, 1) := dk_42 (dk_at dksX1_derive_5 17 rfl rfl)
theorem dX1_derive_135 : decode cX1_derive 135 = .ok (.aload 4, 2) := dk_25 4 (dk_at dksX1_derive_5 18 rfl rfl)
theorem dX1_derive_137 : decode cX1_derive 137 = .ok (.invokevirtual 203, 3) := dk_182 0 203 (dk_at dksX1_derive_5 20 rfl rfl)
theorem dX1_derive_140 : decode cX1_derive 140 = .ok (.iload_n 3, 1) := dk_29 (dk_at dksX1_derive_5 23 rfl rfl)
theorem dX1_derive_141 : decode cX1_derive 141 = .ok (.invokevirtual 413, 3) := dk_182 1 157 (dk_at dksX1_derive_6 0 rfl rfl)
theorem dX1_derive_144 : decode cX1_derive 144 = .ok (.ireturn, 1) := dk_172 (dk_at dksX1_derive_6 3 rfl rfl)
abbrev cX1_put : ByteArray := prog_1_method_78_code
def yX1_put : MethodName := ⟨RX1, "put", "(IIII)I"⟩
def dkwX1_put_6 : List UInt8 := [79, 132, 7, 1, 167, 255, 182, 42, 42, 25, 5, 182, 0, 203, 21, 4, 182, 1, 157, 172]
abbrev dktX1_put_6 : List UInt8 := dkwX1_put_6 ++ []
def dkwX1_put_5 : List UInt8 := [42, 29, 25, 6, 180, 0, 69, 21, 7, 46, 28, 184, 0, 3, 182, 1, 88, 104, 96, 42, 180, 0, 23, 112]
abbrev dktX1_put_5 : List UInt8 := dkwX1_put_5 ++ dktX1_put_6
def dkwX1_put_4 : List UInt8 := [104, 120, 2, 130, 126, 54, 8, 25, 5, 21, 8, 25, 5, 21, 8, 46, 25, 6, 180, 0, 76, 21, 7, 46]
abbrev dktX1_put_4 : List UInt8 := dkwX1_put_4 ++ dktX1_put_5
def dkwX1_put_3 : List UInt8 := [54, 7, 21, 7, 25, 6, 180, 0, 62, 162, 0, 70, 25, 6, 180, 0, 69, 21, 7, 46, 16, 15, 7, 28]
abbrev dktX1_put_3 : List UInt8 := dkwX1_put_3 ++ dktX1_put_4
def dkwX1_put_2 : List UInt8 := [182, 1, 62, 153, 0, 5, 2, 172, 42, 182, 0, 113, 58, 5, 42, 180, 0, 232, 27, 50, 58, 6, 3]
abbrev dktX1_put_2 : List UInt8 := dkwX1_put_2 ++ dktX1_put_3
def dkwX1_put_1 : List UInt8 := [153, 0, 7, 4, 167, 0, 4, 3, 42, 4, 188, 10, 89, 3, 29, 79, 182, 1, 91, 182, 1, 4]
abbrev dktX1_put_1 : List UInt8 := dkwX1_put_1 ++ dktX1_put_2
def dkwX1_put_0 : List UInt8 := [42, 42, 5, 188, 10, 89, 3, 27, 79, 89, 4, 21, 4, 79, 184, 1, 69, 153, 0, 14, 28, 184, 1, 78]
abbrev dktX1_put_0 : List UInt8 := dkwX1_put_0 ++ dktX1_put_1
theorem dksX1_put_0 : cX1_put.data.toList.drop 0 = dktX1_put_0 := by decide +kernel
theorem dksX1_put_1 : cX1_put.data.toList.drop 24 = dktX1_put_1 := dk_seg dksX1_put_0 24 rfl rfl
theorem dksX1_put_2 : cX1_put.data.toList.drop 46 = dktX1_put_2 := dk_seg dksX1_put_1 22 rfl rfl
theorem dksX1_put_3 : cX1_put.data.toList.drop 69 = dktX1_put_3 := dk_seg dksX1_put_2 23 rfl rfl
theorem dksX1_put_4 : cX1_put.data.toList.drop 93 = dktX1_put_4 := dk_seg dksX1_put_3 24 rfl rfl
theorem dksX1_put_5 : cX1_put.data.toList.drop 117 = dktX1_put_5 := dk_seg dksX1_put_4 24 rfl rfl
theorem dksX1_put_6 : cX1_put.data.toList.drop 141 = dktX1_put_6 := dk_seg dksX1_put_5 24 rfl rfl
theorem dX1_put_0 : decode cX1_put 0 = .ok (.aload_n 0, 1) := dk_42 (dk_at dksX1_put_0 0 rfl rfl)
theorem dX1_put_1 : decode cX1_put 1 = .ok (.aload_n 0, 1) := dk_42 (dk_at dksX1_put_0 1 rfl rfl)
theorem dX1_put_2 : decode cX1_put 2 = .ok (.iconst 2, 1) := dk_5 (dk_at dksX1_put_0 2 rfl rfl)
theorem dX1_put_3 : decode cX1_put 3 = .ok (.newarray .int, 2) := dk_188_10 (dk_at dksX1_put_0 3 rfl rfl)
theorem dX1_put_5 : decode cX1_put 5 = .ok (.dup, 1) := dk_89 (dk_at dksX1_put_0 5 rfl rfl)
theorem dX1_put_6 : decode cX1_put 6 = .ok (.iconst 0, 1) := dk_3 (dk_at dksX1_put_0 6 rfl rfl)
theorem dX1_put_7 : decode cX1_put 7 = .ok (.iload_n 1, 1) := dk_27 (dk_at dksX1_put_0 7 rfl rfl)
theorem dX1_put_8 : decode cX1_put 8 = .ok (.iastore, 1) := dk_79 (dk_at dksX1_put_0 8 rfl rfl)
theorem dX1_put_9 : decode cX1_put 9 = .ok (.dup, 1) := dk_89 (dk_at dksX1_put_0 9 rfl rfl)
theorem dX1_put_10 : decode cX1_put 10 = .ok (.iconst 1, 1) := dk_4 (dk_at dksX1_put_0 10 rfl rfl)
theorem dX1_put_11 : decode cX1_put 11 = .ok (.iload 4, 2) := dk_21 4 (dk_at dksX1_put_0 11 rfl rfl)
theorem dX1_put_13 : decode cX1_put 13 = .ok (.iastore, 1) := dk_79 (dk_at dksX1_put_0 13 rfl rfl)
theorem dX1_put_14 : decode cX1_put 14 = .ok (.invokestatic 325, 3) := dk_184 1 69 (dk_at dksX1_put_0 14 rfl rfl)
theorem dX1_put_17 : decode cX1_put 17 = .ok (.ifCond .eq 14, 3) := dk_153 0 14 (dk_at dksX1_put_0 17 rfl rfl)
theorem dX1_put_20 : decode cX1_put 20 = .ok (.iload_n 2, 1) := dk_28 (dk_at dksX1_put_0 20 rfl rfl)
theorem dX1_put_21 : decode cX1_put 21 = .ok (.invokestatic 334, 3) := dk_184 1 78 (dk_at dksX1_put_0 21 rfl rfl)
theorem dX1_put_24 : decode cX1_put 24 = .ok (.ifCond .eq 7, 3) := dk_153 0 7 (dk_at dksX1_put_1 0 rfl rfl)
theorem dX1_put_27 : decode cX1_put 27 = .ok (.iconst 1, 1) := dk_4 (dk_at dksX1_put_1 3 rfl rfl)
theorem dX1_put_28 : decode cX1_put 28 = .ok (.goto 4, 3) := dk_167 0 4 (dk_at dksX1_put_1 4 rfl rfl)
theorem dX1_put_31 : decode cX1_put 31 = .ok (.iconst 0, 1) := dk_3 (dk_at dksX1_put_1 7 rfl rfl)
theorem dX1_put_32 : decode cX1_put 32 = .ok (.aload_n 0, 1) := dk_42 (dk_at dksX1_put_1 8 rfl rfl)
theorem dX1_put_33 : decode cX1_put 33 = .ok (.iconst 1, 1) := dk_4 (dk_at dksX1_put_1 9 rfl rfl)
theorem dX1_put_34 : decode cX1_put 34 = .ok (.newarray .int, 2) := dk_188_10 (dk_at dksX1_put_1 10 rfl rfl)
theorem dX1_put_36 : decode cX1_put 36 = .ok (.dup, 1) := dk_89 (dk_at dksX1_put_1 12 rfl rfl)
theorem dX1_put_37 : decode cX1_put 37 = .ok (.iconst 0, 1) := dk_3 (dk_at dksX1_put_1 13 rfl rfl)
theorem dX1_put_38 : decode cX1_put 38 = .ok (.iload_n 3, 1) := dk_29 (dk_at dksX1_put_1 14 rfl rfl)
theorem dX1_put_39 : decode cX1_put 39 = .ok (.iastore, 1) := dk_79 (dk_at dksX1_put_1 15 rfl rfl)
theorem dX1_put_40 : decode cX1_put 40 = .ok (.invokevirtual 347, 3) := dk_182 1 91 (dk_at dksX1_put_1 16 rfl rfl)
theorem dX1_put_43 : decode cX1_put 43 = .ok (.invokevirtual 260, 3) := dk_182 1 4 (dk_at dksX1_put_1 19 rfl rfl)
theorem dX1_put_46 : decode cX1_put 46 = .ok (.invokevirtual 318, 3) := dk_182 1 62 (dk_at dksX1_put_2 0 rfl rfl)
theorem dX1_put_49 : decode cX1_put 49 = .ok (.ifCond .eq 5, 3) := dk_153 0 5 (dk_at dksX1_put_2 3 rfl rfl)
theorem dX1_put_52 : decode cX1_put 52 = .ok (.iconst (-1), 1) := dk_2 (dk_at dksX1_put_2 6 rfl rfl)
theorem dX1_put_53 : decode cX1_put 53 = .ok (.ireturn, 1) := dk_172 (dk_at dksX1_put_2 7 rfl rfl)
theorem dX1_put_54 : decode cX1_put 54 = .ok (.aload_n 0, 1) := dk_42 (dk_at dksX1_put_2 8 rfl rfl)
theorem dX1_put_55 : decode cX1_put 55 = .ok (.invokevirtual 113, 3) := dk_182 0 113 (dk_at dksX1_put_2 9 rfl rfl)
theorem dX1_put_58 : decode cX1_put 58 = .ok (.astore 5, 2) := dk_58 5 (dk_at dksX1_put_2 12 rfl rfl)
theorem dX1_put_60 : decode cX1_put 60 = .ok (.aload_n 0, 1) := dk_42 (dk_at dksX1_put_2 14 rfl rfl)
theorem dX1_put_61 : decode cX1_put 61 = .ok (.getfield 232, 3) := dk_180 0 232 (dk_at dksX1_put_2 15 rfl rfl)
theorem dX1_put_64 : decode cX1_put 64 = .ok (.iload_n 1, 1) := dk_27 (dk_at dksX1_put_2 18 rfl rfl)
theorem dX1_put_65 : decode cX1_put 65 = .ok (.aaload, 1) := dk_50 (dk_at dksX1_put_2 19 rfl rfl)
theorem dX1_put_66 : decode cX1_put 66 = .ok (.astore 6, 2) := dk_58 6 (dk_at dksX1_put_2 20 rfl rfl)
theorem dX1_put_68 : decode cX1_put 68 = .ok (.iconst 0, 1) := dk_3 (dk_at dksX1_put_2 22 rfl rfl)
theorem dX1_put_69 : decode cX1_put 69 = .ok (.istore 7, 2) := dk_54 7 (dk_at dksX1_put_3 0 rfl rfl)
theorem dX1_put_71 : decode cX1_put 71 = .ok (.iload 7, 2) := dk_21 7 (dk_at dksX1_put_3 2 rfl rfl)
theorem dX1_put_73 : decode cX1_put 73 = .ok (.aload 6, 2) := dk_25 6 (dk_at dksX1_put_3 4 rfl rfl)
theorem dX1_put_75 : decode cX1_put 75 = .ok (.getfield 62, 3) := dk_180 0 62 (dk_at dksX1_put_3 6 rfl rfl)
theorem dX1_put_78 : decode cX1_put 78 = .ok (.if_icmp .ge 70, 3) := dk_162 0 70 (dk_at dksX1_put_3 9 rfl rfl)
theorem dX1_put_81 : decode cX1_put 81 = .ok (.aload 6, 2) := dk_25 6 (dk_at dksX1_put_3 12 rfl rfl)
theorem dX1_put_83 : decode cX1_put 83 = .ok (.getfield 69, 3) := dk_180 0 69 (dk_at dksX1_put_3 14 rfl rfl)
theorem dX1_put_86 : decode cX1_put 86 = .ok (.iload 7, 2) := dk_21 7 (dk_at dksX1_put_3 17 rfl rfl)
theorem dX1_put_88 : decode cX1_put 88 = .ok (.iaload, 1) := dk_46 (dk_at dksX1_put_3 19 rfl rfl)
theorem dX1_put_89 : decode cX1_put 89 = .ok (.bipush 15, 2) := dk_16 15 (dk_at dksX1_put_3 20 rfl rfl)
theorem dX1_put_91 : decode cX1_put 91 = .ok (.iconst 4, 1) := dk_7 (dk_at dksX1_put_3 22 rfl rfl)
theorem dX1_put_92 : decode cX1_put 92 = .ok (.iload_n 2, 1) := dk_28 (dk_at dksX1_put_3 23 rfl rfl)
theorem dX1_put_93 : decode cX1_put 93 = .ok (.imul, 1) := dk_104 (dk_at dksX1_put_4 0 rfl rfl)
theorem dX1_put_94 : decode cX1_put 94 = .ok (.ishl, 1) := dk_120 (dk_at dksX1_put_4 1 rfl rfl)
theorem dX1_put_95 : decode cX1_put 95 = .ok (.iconst (-1), 1) := dk_2 (dk_at dksX1_put_4 2 rfl rfl)
theorem dX1_put_96 : decode cX1_put 96 = .ok (.ixor, 1) := dk_130 (dk_at dksX1_put_4 3 rfl rfl)
theorem dX1_put_97 : decode cX1_put 97 = .ok (.iand, 1) := dk_126 (dk_at dksX1_put_4 4 rfl rfl)
theorem dX1_put_98 : decode cX1_put 98 = .ok (.istore 8, 2) := dk_54 8 (dk_at dksX1_put_4 5 rfl rfl)
theorem dX1_put_100 : decode cX1_put 100 = .ok (.aload 5, 2) := dk_25 5 (dk_at dksX1_put_4 7 rfl rfl)
theorem dX1_put_102 : decode cX1_put 102 = .ok (.iload 8, 2) := dk_21 8 (dk_at dksX1_put_4 9 rfl rfl)
theorem dX1_put_104 : decode cX1_put 104 = .ok (.aload 5, 2) := dk_25 5 (dk_at dksX1_put_4 11 rfl rfl)
theorem dX1_put_106 : decode cX1_put 106 = .ok (.iload 8, 2) := dk_21 8 (dk_at dksX1_put_4 13 rfl rfl)
theorem dX1_put_108 : decode cX1_put 108 = .ok (.iaload, 1) := dk_46 (dk_at dksX1_put_4 15 rfl rfl)
theorem dX1_put_109 : decode cX1_put 109 = .ok (.aload 6, 2) := dk_25 6 (dk_at dksX1_put_4 16 rfl rfl)
theorem dX1_put_111 : decode cX1_put 111 = .ok (.getfield 76, 3) := dk_180 0 76 (dk_at dksX1_put_4 18 rfl rfl)
theorem dX1_put_114 : decode cX1_put 114 = .ok (.iload 7, 2) := dk_21 7 (dk_at dksX1_put_4 21 rfl rfl)
theorem dX1_put_116 : decode cX1_put 116 = .ok (.iaload, 1) := dk_46 (dk_at dksX1_put_4 23 rfl rfl)
theorem dX1_put_117 : decode cX1_put 117 = .ok (.aload_n 0, 1) := dk_42 (dk_at dksX1_put_5 0 rfl rfl)
theorem dX1_put_118 : decode cX1_put 118 = .ok (.iload_n 3, 1) := dk_29 (dk_at dksX1_put_5 1 rfl rfl)
theorem dX1_put_119 : decode cX1_put 119 = .ok (.aload 6, 2) := dk_25 6 (dk_at dksX1_put_5 2 rfl rfl)
theorem dX1_put_121 : decode cX1_put 121 = .ok (.getfield 69, 3) := dk_180 0 69 (dk_at dksX1_put_5 4 rfl rfl)
theorem dX1_put_124 : decode cX1_put 124 = .ok (.iload 7, 2) := dk_21 7 (dk_at dksX1_put_5 7 rfl rfl)
theorem dX1_put_126 : decode cX1_put 126 = .ok (.iaload, 1) := dk_46 (dk_at dksX1_put_5 9 rfl rfl)
theorem dX1_put_127 : decode cX1_put 127 = .ok (.iload_n 2, 1) := dk_28 (dk_at dksX1_put_5 10 rfl rfl)
theorem dX1_put_128 : decode cX1_put 128 = .ok (.invokestatic 3, 3) := dk_184 0 3 (dk_at dksX1_put_5 11 rfl rfl)
theorem dX1_put_131 : decode cX1_put 131 = .ok (.invokevirtual 344, 3) := dk_182 1 88 (dk_at dksX1_put_5 14 rfl rfl)
theorem dX1_put_134 : decode cX1_put 134 = .ok (.imul, 1) := dk_104 (dk_at dksX1_put_5 17 rfl rfl)
theorem dX1_put_135 : decode cX1_put 135 = .ok (.iadd, 1) := dk_96 (dk_at dksX1_put_5 18 rfl rfl)
theorem dX1_put_136 : decode cX1_put 136 = .ok (.aload_n 0, 1) := dk_42 (dk_at dksX1_put_5 19 rfl rfl)
theorem dX1_put_137 : decode cX1_put 137 = .ok (.getfield 23, 3) := dk_180 0 23 (dk_at dksX1_put_5 20 rfl rfl)
theorem dX1_put_140 : decode cX1_put 140 = .ok (.irem, 1) := dk_112 (dk_at dksX1_put_5 23 rfl rfl)
theorem dX1_put_141 : decode cX1_put 141 = .ok (.iastore, 1) := dk_79 (dk_at dksX1_put_6 0 rfl rfl)
theorem dX1_put_142 : decode cX1_put 142 = .ok (.iinc 7 1, 3) := dk_132 7 1 (dk_at dksX1_put_6 1 rfl rfl)
theorem dX1_put_145 : decode cX1_put 145 = .ok (.goto (-74), 3) := dk_167 255 182 (dk_at dksX1_put_6 4 rfl rfl)
theorem dX1_put_148 : decode cX1_put 148 = .ok (.aload_n 0, 1) := dk_42 (dk_at dksX1_put_6 7 rfl rfl)
theorem dX1_put_149 : decode cX1_put 149 = .ok (.aload_n 0, 1) := dk_42 (dk_at dksX1_put_6 8 rfl rfl)
theorem dX1_put_150 : decode cX1_put 150 = .ok (.aload 5, 2) := dk_25 5 (dk_at dksX1_put_6 9 rfl rfl)
theorem dX1_put_152 : decode cX1_put 152 = .ok (.invokevirtual 203, 3) := dk_182 0 203 (dk_at dksX1_put_6 11 rfl rfl)
theorem dX1_put_155 : decode cX1_put 155 = .ok (.iload 4, 2) := dk_21 4 (dk_at dksX1_put_6 14 rfl rfl)
theorem dX1_put_157 : decode cX1_put 157 = .ok (.invokevirtual 413, 3) := dk_182 1 157 (dk_at dksX1_put_6 16 rfl rfl)
theorem dX1_put_160 : decode cX1_put 160 = .ok (.ireturn, 1) := dk_172 (dk_at dksX1_put_6 19 rfl rfl)
abbrev cX1_swap : ByteArray := prog_1_method_79_code
def yX1_swap : MethodName := ⟨RX1, "swap", "(IIII)I"⟩
def dkwX1_swap_7 : List UInt8 := [42, 25, 5, 182, 0, 203, 21, 4, 182, 1, 157, 172]
abbrev dktX1_swap_7 : List UInt8 := dkwX1_swap_7 ++ []
def dkwX1_swap_6 : List UInt8 := [128, 21, 8, 7, 29, 104, 120, 128, 25, 6, 180, 0, 76, 21, 7, 46, 79, 132, 7, 1, 167, 255, 162, 42]
abbrev dktX1_swap_6 : List UInt8 := dkwX1_swap_6 ++ dktX1_swap_7
def dkwX1_swap_5 : List UInt8 := [104, 120, 16, 15, 7, 29, 104, 120, 128, 2, 130, 126, 54, 10, 25, 5, 21, 10, 21, 9, 7, 28, 104, 120]
abbrev dktX1_swap_5 : List UInt8 := dkwX1_swap_5 ++ dktX1_swap_6
def dkwX1_swap_4 : List UInt8 := [180, 0, 69, 21, 7, 46, 29, 184, 0, 3, 54, 9, 25, 6, 180, 0, 69, 21, 7, 46, 16, 15, 7, 28]
abbrev dktX1_swap_4 : List UInt8 := dkwX1_swap_4 ++ dktX1_swap_5
def dkwX1_swap_3 : List UInt8 := [180, 0, 62, 162, 0, 90, 25, 6, 180, 0, 69, 21, 7, 46, 28, 184, 0, 3, 54, 8, 25, 6]
abbrev dktX1_swap_3 : List UInt8 := dkwX1_swap_3 ++ dktX1_swap_4
def dkwX1_swap_2 : List UInt8 := [2, 172, 42, 182, 0, 113, 58, 5, 42, 180, 0, 232, 27, 50, 58, 6, 3, 54, 7, 21, 7, 25, 6]
abbrev dktX1_swap_2 : List UInt8 := dkwX1_swap_2 ++ dktX1_swap_3
def dkwX1_swap_1 : List UInt8 := [153, 0, 14, 29, 184, 1, 78, 153, 0, 7, 4, 167, 0, 4, 3, 182, 1, 59, 182, 1, 62, 153, 0, 5]
abbrev dktX1_swap_1 : List UInt8 := dkwX1_swap_1 ++ dktX1_swap_2
def dkwX1_swap_0 : List UInt8 := [42, 42, 5, 188, 10, 89, 3, 27, 79, 89, 4, 21, 4, 79, 184, 1, 69, 153, 0, 21, 28, 184, 1, 78]
abbrev dktX1_swap_0 : List UInt8 := dkwX1_swap_0 ++ dktX1_swap_1
theorem dksX1_swap_0 : cX1_swap.data.toList.drop 0 = dktX1_swap_0 := by decide +kernel
theorem dksX1_swap_1 : cX1_swap.data.toList.drop 24 = dktX1_swap_1 := dk_seg dksX1_swap_0 24 rfl rfl
theorem dksX1_swap_2 : cX1_swap.data.toList.drop 48 = dktX1_swap_2 := dk_seg dksX1_swap_1 24 rfl rfl
theorem dksX1_swap_3 : cX1_swap.data.toList.drop 71 = dktX1_swap_3 := dk_seg dksX1_swap_2 23 rfl rfl
theorem dksX1_swap_4 : cX1_swap.data.toList.drop 93 = dktX1_swap_4 := dk_seg dksX1_swap_3 22 rfl rfl
theorem dksX1_swap_5 : cX1_swap.data.toList.drop 117 = dktX1_swap_5 := dk_seg dksX1_swap_4 24 rfl rfl
theorem dksX1_swap_6 : cX1_swap.data.toList.drop 141 = dktX1_swap_6 := dk_seg dksX1_swap_5 24 rfl rfl
theorem dksX1_swap_7 : cX1_swap.data.toList.drop 165 = dktX1_swap_7 := dk_seg dksX1_swap_6 24 rfl rfl
theorem dX1_swap_0 : decode cX1_swap 0 = .ok (.aload_n 0, 1) := dk_42 (dk_at dksX1_swap_0 0 rfl rfl)
theorem dX1_swap_1 : decode cX1_swap 1 = .ok (.aload_n 0, 1) := dk_42 (dk_at dksX1_swap_0 1 rfl rfl)
theorem dX1_swap_2 : decode cX1_swap 2 = .ok (.iconst 2, 1) := dk_5 (dk_at dksX1_swap_0 2 rfl rfl)
theorem dX1_swap_3 : decode cX1_swap 3 = .ok (.newarray .int, 2) := dk_188_10 (dk_at dksX1_swap_0 3 rfl rfl)
theorem dX1_swap_5 : decode cX1_swap 5 = .ok (.dup, 1) := dk_89 (dk_at dksX1_swap_0 5 rfl rfl)
theorem dX1_swap_6 : decode cX1_swap 6 = .ok (.iconst 0, 1) := dk_3 (dk_at dksX1_swap_0 6 rfl rfl)
theorem dX1_swap_7 : decode cX1_swap 7 = .ok (.iload_n 1, 1) := dk_27 (dk_at dksX1_swap_0 7 rfl rfl)
theorem dX1_swap_8 : decode cX1_swap 8 = .ok (.iastore, 1) := dk_79 (dk_at dksX1_swap_0 8 rfl rfl)
theorem dX1_swap_9 : decode cX1_swap 9 = .ok (.dup, 1) := dk_89 (dk_at dksX1_swap_0 9 rfl rfl)
theorem dX1_swap_10 : decode cX1_swap 10 = .ok (.iconst 1, 1) := dk_4 (dk_at dksX1_swap_0 10 rfl rfl)
theorem dX1_swap_11 : decode cX1_swap 11 = .ok (.iload 4, 2) := dk_21 4 (dk_at dksX1_swap_0 11 rfl rfl)
theorem dX1_swap_13 : decode cX1_swap 13 = .ok (.iastore, 1) := dk_79 (dk_at dksX1_swap_0 13 rfl rfl)
theorem dX1_swap_14 : decode cX1_swap 14 = .ok (.invokestatic 325, 3) := dk_184 1 69 (dk_at dksX1_swap_0 14 rfl rfl)
theorem dX1_swap_17 : decode cX1_swap 17 = .ok (.ifCond .eq 21, 3) := dk_153 0 21 (dk_at dksX1_swap_0 17 rfl rfl)
theorem dX1_swap_20 : decode cX1_swap 20 = .ok (.iload_n 2, 1) := dk_28 (dk_at dksX1_swap_0 20 rfl rfl)
theorem dX1_swap_21 : decode cX1_swap 21 = .ok (.invokestatic 334, 3) := dk_184 1 78 (dk_at dksX1_swap_0 21 rfl rfl)
theorem dX1_swap_24 : decode cX1_swap 24 = .ok (.ifCond .eq 14, 3) := dk_153 0 14 (dk_at dksX1_swap_1 0 rfl rfl)
theorem dX1_swap_27 : decode cX1_swap 27 = .ok (.iload_n 3, 1) := dk_29 (dk_at dksX1_swap_1 3 rfl rfl)
theorem dX1_swap_28 : decode cX1_swap 28 = .ok (.invokestatic 334, 3) := dk_184 1 78 (dk_at dksX1_swap_1 4 rfl rfl)
theorem dX1_swap_31 : decode cX1_swap 31 = .ok (.ifCond .eq 7, 3) := dk_153 0 7 (dk_at dksX1_swap_1 7 rfl rfl)
theorem dX1_swap_34 : decode cX1_swap 34 = .ok (.iconst 1, 1) := dk_4 (dk_at dksX1_swap_1 10 rfl rfl)
theorem dX1_swap_35 : decode cX1_swap 35 = .ok (.goto 4, 3) := dk_167 0 4 (dk_at dksX1_swap_1 11 rfl rfl)
theorem dX1_swap_38 : decode cX1_swap 38 = .ok (.iconst 0, 1) := dk_3 (dk_at dksX1_swap_1 14 rfl rfl)
theorem dX1_swap_39 : decode cX1_swap 39 = .ok (.invokevirtual 315, 3) := dk_182 1 59 (dk_at dksX1_swap_1 15 rfl rfl)
theorem dX1_swap_42 : decode cX1_swap 42 = .ok (.invokevirtual 318, 3) := dk_182 1 62 (dk_at dksX1_swap_1 18 rfl rfl)
theorem dX1_swap_45 : decode cX1_swap 45 = .ok (.ifCond .eq 5, 3) := dk_153 0 5 (dk_at dksX1_swap_1 21 rfl rfl)
theorem dX1_swap_48 : decode cX1_swap 48 = .ok (.iconst (-1), 1) := dk_2 (dk_at dksX1_swap_2 0 rfl rfl)
theorem dX1_swap_49 : decode cX1_swap 49 = .ok (.ireturn, 1) := dk_172 (dk_at dksX1_swap_2 1 rfl rfl)
theorem dX1_swap_50 : decode cX1_swap 50 = .ok (.aload_n 0, 1) := dk_42 (dk_at dksX1_swap_2 2 rfl rfl)
theorem dX1_swap_51 : decode cX1_swap 51 = .ok (.invokevirtual 113, 3) := dk_182 0 113 (dk_at dksX1_swap_2 3 rfl rfl)
theorem dX1_swap_54 : decode cX1_swap 54 = .ok (.astore 5, 2) := dk_58 5 (dk_at dksX1_swap_2 6 rfl rfl)
theorem dX1_swap_56 : decode cX1_swap 56 = .ok (.aload_n 0, 1) := dk_42 (dk_at dksX1_swap_2 8 rfl rfl)
theorem dX1_swap_57 : decode cX1_swap 57 = .ok (.getfield 232, 3) := dk_180 0 232 (dk_at dksX1_swap_2 9 rfl rfl)
theorem dX1_swap_60 : decode cX1_swap 60 = .ok (.iload_n 1, 1) := dk_27 (dk_at dksX1_swap_2 12 rfl rfl)
theorem dX1_swap_61 : decode cX1_swap 61 = .ok (.aaload, 1) := dk_50 (dk_at dksX1_swap_2 13 rfl rfl)
theorem dX1_swap_62 : decode cX1_swap 62 = .ok (.astore 6, 2) := dk_58 6 (dk_at dksX1_swap_2 14 rfl rfl)
theorem dX1_swap_64 : decode cX1_swap 64 = .ok (.iconst 0, 1) := dk_3 (dk_at dksX1_swap_2 16 rfl rfl)
theorem dX1_swap_65 : decode cX1_swap 65 = .ok (.istore 7, 2) := dk_54 7 (dk_at dksX1_swap_2 17 rfl rfl)
theorem dX1_swap_67 : decode cX1_swap 67 = .ok (.iload 7, 2) := dk_21 7 (dk_at dksX1_swap_2 19 rfl rfl)
theorem dX1_swap_69 : decode cX1_swap 69 = .ok (.aload 6, 2) := dk_25 6 (dk_at dksX1_swap_2 21 rfl rfl)
theorem dX1_swap_71 : decode cX1_swap 71 = .ok (.getfield 62, 3) := dk_180 0 62 (dk_at dksX1_swap_3 0 rfl rfl)
theorem dX1_swap_74 : decode cX1_swap 74 = .ok (.if_icmp .ge 90, 3) := dk_162 0 90 (dk_at dksX1_swap_3 3 rfl rfl)
theorem dX1_swap_77 : decode cX1_swap 77 = .ok (.aload 6, 2) := dk_25 6 (dk_at dksX1_swap_3 6 rfl rfl)
theorem dX1_swap_79 : decode cX1_swap 79 = .ok (.getfield 69, 3) := dk_180 0 69 (dk_at dksX1_swap_3 8 rfl rfl)
theorem dX1_swap_82 : decode cX1_swap 82 = .ok (.iload 7, 2) := dk_21 7 (dk_at dksX1_swap_3 11 rfl rfl)
theorem dX1_swap_84 : decode cX1_swap 84 = .ok (.iaload, 1) := dk_46 (dk_at dksX1_swap_3 13 rfl rfl)
theorem dX1_swap_85 : decode cX1_swap 85 = .ok (.iload_n 2, 1) := dk_28 (dk_at dksX1_swap_3 14 rfl rfl)
theorem dX1_swap_86 : decode cX1_swap 86 = .ok (.invokestatic 3, 3) := dk_184 0 3 (dk_at dksX1_swap_3 15 rfl rfl)
theorem dX1_swap_89 : decode cX1_swap 89 = .ok (.istore 8, 2) := dk_54 8 (dk_at dksX1_swap_3 18 rfl rfl)
theorem dX1_swap_91 : decode cX1_swap 91 = .ok (.aload 6, 2) := dk_25 6 (dk_at dksX1_swap_3 20 rfl rfl)
theorem dX1_swap_93 : decode cX1_swap 93 = .ok (.getfield 69, 3) := dk_180 0 69 (dk_at dksX1_swap_4 0 rfl rfl)
theorem dX1_swap_96 : decode cX1_swap 96 = .ok (.iload 7, 2) := dk_21 7 (dk_at dksX1_swap_4 3 rfl rfl)
theorem dX1_swap_98 : decode cX1_swap 98 = .ok (.iaload, 1) := dk_46 (dk_at dksX1_swap_4 5 rfl rfl)
theorem dX1_swap_99 : decode cX1_swap 99 = .ok (.iload_n 3, 1) := dk_29 (dk_at dksX1_swap_4 6 rfl rfl)
theorem dX1_swap_100 : decode cX1_swap 100 = .ok (.invokestatic 3, 3) := dk_184 0 3 (dk_at dksX1_swap_4 7 rfl rfl)
theorem dX1_swap_103 : decode cX1_swap 103 = .ok (.istore 9, 2) := dk_54 9 (dk_at dksX1_swap_4 10 rfl rfl)
theorem dX1_swap_105 : decode cX1_swap 105 = .ok (.aload 6, 2) := dk_25 6 (dk_at dksX1_swap_4 12 rfl rfl)
theorem dX1_swap_107 : decode cX1_swap 107 = .ok (.getfield 69, 3) := dk_180 0 69 (dk_at dksX1_swap_4 14 rfl rfl)
theorem dX1_swap_110 : decode cX1_swap 110 = .ok (.iload 7, 2) := dk_21 7 (dk_at dksX1_swap_4 17 rfl rfl)
theorem dX1_swap_112 : decode cX1_swap 112 = .ok (.iaload, 1) := dk_46 (dk_at dksX1_swap_4 19 rfl rfl)
theorem dX1_swap_113 : decode cX1_swap 113 = .ok (.bipush 15, 2) := dk_16 15 (dk_at dksX1_swap_4 20 rfl rfl)
theorem dX1_swap_115 : decode cX1_swap 115 = .ok (.iconst 4, 1) := dk_7 (dk_at dksX1_swap_4 22 rfl rfl)
theorem dX1_swap_116 : decode cX1_swap 116 = .ok (.iload_n 2, 1) := dk_28 (dk_at dksX1_swap_4 23 rfl rfl)
theorem dX1_swap_117 : decode cX1_swap 117 = .ok (.imul, 1) := dk_104 (dk_at dksX1_swap_5 0 rfl rfl)
theorem dX1_swap_118 : decode cX1_swap 118 = .ok (.ishl, 1) := dk_120 (dk_at dksX1_swap_5 1 rfl rfl)
theorem dX1_swap_119 : decode cX1_swap 119 = .ok (.bipush 15, 2) := dk_16 15 (dk_at dksX1_swap_5 2 rfl rfl)
theorem dX1_swap_121 : decode cX1_swap 121 = .ok (.iconst 4, 1) := dk_7 (dk_at dksX1_swap_5 4 rfl rfl)
theorem dX1_swap_122 : decode cX1_swap 122 = .ok (.iload_n 3, 1) := dk_29 (dk_at dksX1_swap_5 5 rfl rfl)
theorem dX1_swap_123 : decode cX1_swap 123 = .ok (.imul, 1) := dk_104 (dk_at dksX1_swap_5 6 rfl rfl)
theorem dX1_swap_124 : decode cX1_swap 124 = .ok (.ishl, 1) := dk_120 (dk_at dksX1_swap_5 7 rfl rfl)
theorem dX1_swap_125 : decode cX1_swap 125 = .ok (.ior, 1) := dk_128 (dk_at dksX1_swap_5 8 rfl rfl)
theorem dX1_swap_126 : decode cX1_swap 126 = .ok (.iconst (-1), 1) := dk_2 (dk_at dksX1_swap_5 9 rfl rfl)
theorem dX1_swap_127 : decode cX1_swap 127 = .ok (.ixor, 1) := dk_130 (dk_at dksX1_swap_5 10 rfl rfl)
theorem dX1_swap_128 : decode cX1_swap 128 = .ok (.iand, 1) := dk_126 (dk_at dksX1_swap_5 11 rfl rfl)
theorem dX1_swap_129 : decode cX1_swap 129 = .ok (.istore 10, 2) := dk_54 10 (dk_at dksX1_swap_5 12 rfl rfl)
theorem dX1_swap_131 : decode cX1_swap 131 = .ok (.aload 5, 2) := dk_25 5 (dk_at dksX1_swap_5 14 rfl rfl)
theorem dX1_swap_133 : decode cX1_swap 133 = .ok (.iload 10, 2) := dk_21 10 (dk_at dksX1_swap_5 16 rfl rfl)
theorem dX1_swap_135 : decode cX1_swap 135 = .ok (.iload 9, 2) := dk_21 9 (dk_at dksX1_swap_5 18 rfl rfl)
theorem dX1_swap_137 : decode cX1_swap 137 = .ok (.iconst 4, 1) := dk_7 (dk_at dksX1_swap_5 20 rfl rfl)
theorem dX1_swap_138 : decode cX1_swap 138 = .ok (.iload_n 2, 1) := dk_28 (dk_at dksX1_swap_5 21 rfl rfl)
theorem dX1_swap_139 : decode cX1_swap 139 = .ok (.imul, 1) := dk_104 (dk_at dksX1_swap_5 22 rfl rfl)
theorem dX1_swap_140 : decode cX1_swap 140 = .ok (.ishl, 1) := dk_120 (dk_at dksX1_swap_5 23 rfl rfl)
theorem dX1_swap_141 : decode cX1_swap 141 = .ok (.ior, 1) := dk_128 (dk_at dksX1_swap_6 0 rfl rfl)
theorem dX1_swap_142 : decode cX1_swap 142 = .ok (.iload 8, 2) := dk_21 8 (dk_at dksX1_swap_6 1 rfl rfl)
theorem dX1_swap_144 : decode cX1_swap 144 = .ok (.iconst 4, 1) := dk_7 (dk_at dksX1_swap_6 3 rfl rfl)
theorem dX1_swap_145 : decode cX1_swap 145 = .ok (.iload_n 3, 1) := dk_29 (dk_at dksX1_swap_6 4 rfl rfl)
theorem dX1_swap_146 : decode cX1_swap 146 = .ok (.imul, 1) := dk_104 (dk_at dksX1_swap_6 5 rfl rfl)
theorem dX1_swap_147 : decode cX1_swap 147 = .ok (.ishl, 1) := dk_120 (dk_at dksX1_swap_6 6 rfl rfl)
theorem dX1_swap_148 : decode cX1_swap 148 = .ok (.ior, 1) := dk_128 (dk_at dksX1_swap_6 7 rfl rfl)
theorem dX1_swap_149 : decode cX1_swap 149 = .ok (.aload 6, 2) := dk_25 6 (dk_at dksX1_swap_6 8 rfl rfl)
theorem dX1_swap_151 : decode cX1_swap 151 = .ok (.getfield 76, 3) := dk_180 0 76 (dk_at dksX1_swap_6 10 rfl rfl)
theorem dX1_swap_154 : decode cX1_swap 154 = .ok (.iload 7, 2) := dk_21 7 (dk_at dksX1_swap_6 13 rfl rfl)
theorem dX1_swap_156 : decode cX1_swap 156 = .ok (.iaload, 1) := dk_46 (dk_at dksX1_swap_6 15 rfl rfl)
theorem dX1_swap_157 : decode cX1_swap 157 = .ok (.iastore, 1) := dk_79 (dk_at dksX1_swap_6 16 rfl rfl)
theorem dX1_swap_158 : decode cX1_swap 158 = .ok (.iinc 7 1, 3) := dk_132 7 1 (dk_at dksX1_swap_6 17 rfl rfl)
theorem dX1_swap_161 : decode cX1_swap 161 = .ok (.goto (-94), 3) := dk_167 255 162 (dk_at dksX1_swap_6 20 rfl rfl)
theorem dX1_swap_164 : decode cX1_swap 164 = .ok (.aload_n 0, 1) := dk_42 (dk_at dksX1_swap_6 23 rfl rfl)
theorem dX1_swap_165 : decode cX1_swap 165 = .ok (.aload_n 0, 1) := dk_42 (dk_at dksX1_swap_7 0 rfl rfl)
theorem dX1_swap_166 : decode cX1_swap 166 = .ok (.aload 5, 2) := dk_25 5 (dk_at dksX1_swap_7 1 rfl rfl)
theorem dX1_swap_168 : decode cX1_swap 168 = .ok (.invokevirtual 203, 3) := dk_182 0 203 (dk_at dksX1_swap_7 3 rfl rfl)
theorem dX1_swap_171 : decode cX1_swap 171 = .ok (.iload 4, 2) := dk_21 4 (dk_at dksX1_swap_7 6 rfl rfl)
theorem dX1_swap_173 : decode cX1_swap 173 = .ok (.invokevirtual 413, 3) := dk_182 1 157 (dk_at dksX1_swap_7 8 rfl rfl)
theorem dX1_swap_176 : decode cX1_swap 176 = .ok (.ireturn, 1) := dk_172 (dk_at dksX1_swap_7 11 rfl rfl)
abbrev cX1_rest : ByteArray := prog_1_method_80_code
def yX1_rest : MethodName := ⟨RX1, "rest", "(III)I"⟩
def dkwX1_rest_2 : List UInt8 := [182, 1, 157, 172]
abbrev dktX1_rest_2 : List UInt8 := dkwX1_rest_2 ++ []
def dkwX1_rest_1 : List UInt8 := [182, 1, 62, 153, 0, 7, 2, 167, 0, 18, 42, 42, 180, 0, 216, 180, 1, 139, 182, 0, 91, 29]
abbrev dktX1_rest_1 : List UInt8 := dkwX1_rest_1 ++ dktX1_rest_2
def dkwX1_rest_0 : List UInt8 := [42, 42, 5, 188, 10, 89, 3, 27, 79, 89, 4, 29, 79, 184, 1, 69, 4, 27, 28, 182, 1, 127]
abbrev dktX1_rest_0 : List UInt8 := dkwX1_rest_0 ++ dktX1_rest_1
theorem dksX1_rest_0 : cX1_rest.data.toList.drop 0 = dktX1_rest_0 := by decide +kernel
theorem dksX1_rest_1 : cX1_rest.data.toList.drop 22 = dktX1_rest_1 := dk_seg dksX1_rest_0 22 rfl rfl
theorem dksX1_rest_2 : cX1_rest.data.toList.drop 44 = dktX1_rest_2 := dk_seg dksX1_rest_1 22 rfl rfl
theorem dX1_rest_0 : decode cX1_rest 0 = .ok (.aload_n 0, 1) := dk_42 (dk_at dksX1_rest_0 0 rfl rfl)
theorem dX1_rest_1 : decode cX1_rest 1 = .ok (.aload_n 0, 1) := dk_42 (dk_at dksX1_rest_0 1 rfl rfl)
theorem dX1_rest_2 : decode cX1_rest 2 = .ok (.iconst 2, 1) := dk_5 (dk_at dksX1_rest_0 2 rfl rfl)
theorem dX1_rest_3 : decode cX1_rest 3 = .ok (.newarray .int, 2) := dk_188_10 (dk_at dksX1_rest_0 3 rfl rfl)
theorem dX1_rest_5 : decode cX1_rest 5 = .ok (.dup, 1) := dk_89 (dk_at dksX1_rest_0 5 rfl rfl)
theorem dX1_rest_6 : decode cX1_rest 6 = .ok (.iconst 0, 1) := dk_3 (dk_at dksX1_rest_0 6 rfl rfl)
theorem dX1_rest_7 : decode cX1_rest 7 = .ok (.iload_n 1, 1) := dk_27 (dk_at dksX1_rest_0 7 rfl rfl)
theorem dX1_rest_8 : decode cX1_rest 8 = .ok (.iastore, 1) := dk_79 (dk_at dksX1_rest_0 8 rfl rfl)
theorem dX1_rest_9 : decode cX1_rest 9 = .ok (.dup, 1) := dk_89 (dk_at dksX1_rest_0 9 rfl rfl)
theorem dX1_rest_10 : decode cX1_rest 10 = .ok (.iconst 1, 1) := dk_4 (dk_at dksX1_rest_0 10 rfl rfl)
theorem dX1_rest_11 : decode cX1_rest 11 = .ok (.iload_n 3, 1) := dk_29 (dk_at dksX1_rest_0 11 rfl rfl)
theorem dX1_rest_12 : decode cX1_rest 12 = .ok (.iastore, 1) := dk_79 (dk_at dksX1_rest_0 12 rfl rfl)
theorem dX1_rest_13 : decode cX1_rest 13 = .ok (.invokestatic 325, 3) := dk_184 1 69 (dk_at dksX1_rest_0 13 rfl rfl)
theorem dX1_rest_16 : decode cX1_rest 16 = .ok (.iconst 1, 1) := dk_4 (dk_at dksX1_rest_0 16 rfl rfl)
theorem dX1_rest_17 : decode cX1_rest 17 = .ok (.iload_n 1, 1) := dk_27 (dk_at dksX1_rest_0 17 rfl rfl)
theorem dX1_rest_18 : decode cX1_rest 18 = .ok (.iload_n 2, 1) := dk_28 (dk_at dksX1_rest_0 18 rfl rfl)
theorem dX1_rest_19 : decode cX1_rest 19 = .ok (.invokevirtual 383, 3) := dk_182 1 127 (dk_at dksX1_rest_0 19 rfl rfl)
theorem dX1_rest_22 : decode cX1_rest 22 = .ok (.invokevirtual 318, 3) := dk_182 1 62 (dk_at dksX1_rest_1 0 rfl rfl)
theorem dX1_rest_25 : decode cX1_rest 25 = .ok (.ifCond .eq 7, 3) := dk_153 0 7 (dk_at dksX1_rest_1 3 rfl rfl)
theorem dX1_rest_28 : decode cX1_rest 28 = .ok (.iconst (-1), 1) := dk_2 (dk_at dksX1_rest_1 6 rfl rfl)
theorem dX1_rest_29 : decode cX1_rest 29 = .ok (.goto 18, 3) := dk_167 0 18 (dk_at dksX1_rest_1 7 rfl rfl)
theorem dX1_rest_32 : decode cX1_rest 32 = .ok (.aload_n 0, 1) := dk_42 (dk_at dksX1_rest_1 10 rfl rfl)
theorem dX1_rest_33 : decode cX1_rest 33 = .ok (.aload_n 0, 1) := dk_42 (dk_at dksX1_rest_1 11 rfl rfl)
theorem dX1_rest_34 : decode cX1_rest 34 = .ok (.getfield 216, 3) := dk_180 0 216 (dk_at dksX1_rest_1 12 rfl rfl)
theorem dX1_rest_37 : decode cX1_rest 37 = .ok (.getfield 395, 3) := dk_180 1 139 (dk_at dksX1_rest_1 15 rfl rfl)
theorem dX1_rest_40 : decode cX1_rest 40 = .ok (.invokevirtual 91, 3) := dk_182 0 91 (dk_at dksX1_rest_1 18 rfl rfl)
theorem dX1_rest_43 : decode cX1_rest 43 = .ok (.iload_n 3, 1) := dk_29 (dk_at dksX1_rest_1 21 rfl rfl)
theorem dX1_rest_44 : decode cX1_rest 44 = .ok (.invokevirtual 413, 3) := dk_182 1 157 (dk_at dksX1_rest_2 0 rfl rfl)
theorem dX1_rest_47 : decode cX1_rest 47 = .ok (.ireturn, 1) := dk_172 (dk_at dksX1_rest_2 3 rfl rfl)
abbrev cX1_quotient : ByteArray := prog_1_method_81_code
def yX1_quotient : MethodName := ⟨RX1, "quotient", "(IIII)I"⟩
def dkwX1_quotient_3 : List UInt8 := [180, 1, 131, 29, 50, 182, 0, 91, 21, 4, 182, 1, 157, 172]
abbrev dktX1_quotient_3 : List UInt8 := dkwX1_quotient_3 ++ []
def dkwX1_quotient_2 : List UInt8 := [21, 5, 27, 28, 182, 1, 127, 182, 1, 62, 153, 0, 7, 2, 167, 0, 21, 42, 42, 180, 0, 216]
abbrev dktX1_quotient_2 : List UInt8 := dkwX1_quotient_2 ++ dktX1_quotient_3
def dkwX1_quotient_1 : List UInt8 := [54, 5, 42, 42, 6, 188, 10, 89, 3, 27, 79, 89, 4, 21, 4, 79, 89, 5, 29, 79, 184, 1, 69]
abbrev dktX1_quotient_1 : List UInt8 := dkwX1_quotient_1 ++ dktX1_quotient_2
def dkwX1_quotient_0 : List UInt8 := [29, 3, 16, 7, 184, 1, 15, 153, 0, 16, 28, 29, 122, 4, 126, 4, 160, 0, 7, 4, 167, 0, 4, 3]
abbrev dktX1_quotient_0 : List UInt8 := dkwX1_quotient_0 ++ dktX1_quotient_1
theorem dksX1_quotient_0 : cX1_quotient.data.toList.drop 0 = dktX1_quotient_0 := by decide +kernel
theorem dksX1_quotient_1 : cX1_quotient.data.toList.drop 24 = dktX1_quotient_1 := dk_seg dksX1_quotient_0 24 rfl rfl
theorem dksX1_quotient_2 : cX1_quotient.data.toList.drop 47 = dktX1_quotient_2 := dk_seg dksX1_quotient_1 23 rfl rfl
theorem dksX1_quotient_3 : cX1_quotient.data.toList.drop 69 = dktX1_quotient_3 := dk_seg dksX1_quotient_2 22 rfl rfl
theorem dX1_quotient_0 : decode cX1_quotient 0 = .ok (.iload_n 3, 1) := dk_29 (dk_at dksX1_quotient_0 0 rfl rfl)
theorem dX1_quotient_1 : decode cX1_quotient 1 = .ok (.iconst 0, 1) := dk_3 (dk_at dksX1_quotient_0 1 rfl rfl)
theorem dX1_quotient_2 : decode cX1_quotient 2 = .ok (.bipush 7, 2) := dk_16 7 (dk_at dksX1_quotient_0 2 rfl rfl)
theorem dX1_quotient_4 : decode cX1_quotient 4 = .ok (.invokestatic 271, 3) := dk_184 1 15 (dk_at dksX1_quotient_0 4 rfl rfl)
theorem dX1_quotient_7 : decode cX1_quotient 7 = .ok (.ifCond .eq 16, 3) := dk_153 0 16 (dk_at dksX1_quotient_0 7 rfl rfl)
theorem dX1_quotient_10 : decode cX1_quotient 10 = .ok (.iload_n 2, 1) := dk_28 (dk_at dksX1_quotient_0 10 rfl rfl)
theorem dX1_quotient_11 : decode cX1_quotient 11 = .ok (.iload_n 3, 1) := dk_29 (dk_at dksX1_quotient_0 11 rfl rfl)
theorem dX1_quotient_12 : decode cX1_quotient 12 = .ok (.ishr, 1) := dk_122 (dk_at dksX1_quotient_0 12 rfl rfl)
theorem dX1_quotient_13 : decode cX1_quotient 13 = .ok (.iconst 1, 1) := dk_4 (dk_at dksX1_quotient_0 13 rfl rfl)
theorem dX1_quotient_14 : decode cX1_quotient 14 = .ok (.iand, 1) := dk_126 (dk_at dksX1_quotient_0 14 rfl rfl)
theorem dX1_quotient_15 : decode cX1_quotient 15 = .ok (.iconst 1, 1) := dk_4 (dk_at dksX1_quotient_0 15 rfl rfl)
theorem dX1_quotient_16 : decode cX1_quotient 16 = .ok (.if_icmp .ne 7, 3) := dk_160 0 7 (dk_at dksX1_quotient_0 16 rfl rfl)
theorem dX1_quotient_19 : decode cX1_quotient 19 = .ok (.iconst 1, 1) := dk_4 (dk_at dksX1_quotient_0 19 rfl rfl)
theorem dX1_quotient_20 : decode cX1_quotient 20 = .ok (.goto 4, 3) := dk_167 0 4 (dk_at dksX1_quotient_0 20 rfl rfl)
theorem dX1_quotient_23 : decode cX1_quotient 23 = .ok (.iconst 0, 1) := dk_3 (dk_at dksX1_quotient_0 23 rfl rfl)
theorem dX1_quotient_24 : decode cX1_quotient 24 = .ok (.istore 5, 2) := dk_54 5 (dk_at dksX1_quotient_1 0 rfl rfl)
theorem dX1_quotient_26 : decode cX1_quotient 26 = .ok (.aload_n 0, 1) := dk_42 (dk_at dksX1_quotient_1 2 rfl rfl)
theorem dX1_quotient_27 : decode cX1_quotient 27 = .ok (.aload_n 0, 1) := dk_42 (dk_at dksX1_quotient_1 3 rfl rfl)
theorem dX1_quotient_28 : decode cX1_quotient 28 = .ok (.iconst 3, 1) := dk_6 (dk_at dksX1_quotient_1 4 rfl rfl)
theorem dX1_quotient_29 : decode cX1_quotient 29 = .ok (.newarray .int, 2) := dk_188_10 (dk_at dksX1_quotient_1 5 rfl rfl)
theorem dX1_quotient_31 : decode cX1_quotient 31 = .ok (.dup, 1) := dk_89 (dk_at dksX1_quotient_1 7 rfl rfl)
theorem dX1_quotient_32 : decode cX1_quotient 32 = .ok (.iconst 0, 1) := dk_3 (dk_at dksX1_quotient_1 8 rfl rfl)
theorem dX1_quotient_33 : decode cX1_quotient 33 = .ok (.iload_n 1, 1) := dk_27 (dk_at dksX1_quotient_1 9 rfl rfl)
theorem dX1_quotient_34 : decode cX1_quotient 34 = .ok (.iastore, 1) := dk_79 (dk_at dksX1_quotient_1 10 rfl rfl)
theorem dX1_quotient_35 : decode cX1_quotient 35 = .ok (.dup, 1) := dk_89 (dk_at dksX1_quotient_1 11 rfl rfl)
theorem dX1_quotient_36 : decode cX1_quotient 36 = .ok (.iconst 1, 1) := dk_4 (dk_at dksX1_quotient_1 12 rfl rfl)
theorem dX1_quotient_37 : decode cX1_quotient 37 = .ok (.iload 4, 2) := dk_21 4 (dk_at dksX1_quotient_1 13 rfl rfl)
theorem dX1_quotient_39 : decode cX1_quotient 39 = .ok (.iastore, 1) := dk_79 (dk_at dksX1_quotient_1 15 rfl rfl)
theorem dX1_quotient_40 : decode cX1_quotient 40 = .ok (.dup, 1) := dk_89 (dk_at dksX1_quotient_1 16 rfl rfl)
theorem dX1_quotient_41 : decode cX1_quotient 41 = .ok (.iconst 2, 1) := dk_5 (dk_at dksX1_quotient_1 17 rfl rfl)
theorem dX1_quotient_42 : decode cX1_quotient 42 = .ok (.iload_n 3, 1) := dk_29 (dk_at dksX1_quotient_1 18 rfl rfl)
theorem dX1_quotient_43 : decode cX1_quotient 43 = .ok (.iastore, 1) := dk_79 (dk_at dksX1_quotient_1 19 rfl rfl)
theorem dX1_quotient_44 : decode cX1_quotient 44 = .ok (.invokestatic 325, 3) := dk_184 1 69 (dk_at dksX1_quotient_1 20 rfl rfl)
theorem dX1_quotient_47 : decode cX1_quotient 47 = .ok (.iload 5, 2) := dk_21 5 (dk_at dksX1_quotient_2 0 rfl rfl)
theorem dX1_quotient_49 : decode cX1_quotient 49 = .ok (.iload_n 1, 1) := dk_27 (dk_at dksX1_quotient_2 2 rfl rfl)
theorem dX1_quotient_50 : decode cX1_quotient 50 = .ok (.iload_n 2, 1) := dk_28 (dk_at dksX1_quotient_2 3 rfl rfl)
theorem dX1_quotient_51 : decode cX1_quotient 51 = .ok (.invokevirtual 383, 3) := dk_182 1 127 (dk_at dksX1_quotient_2 4 rfl rfl)
theorem dX1_quotient_54 : decode cX1_quotient 54 = .ok (.invokevirtual 318, 3) := dk_182 1 62 (dk_at dksX1_quotient_2 7 rfl rfl)
theorem dX1_quotient_57 : decode cX1_quotient 57 = .ok (.ifCond .eq 7, 3) := dk_153 0 7 (dk_at dksX1_quotient_2 10 rfl rfl)
theorem dX1_quotient_60 : decode cX1_quotient 60 = .ok (.iconst (-1), 1) := dk_2 (dk_at dksX1_quotient_2 13 rfl rfl)
theorem dX1_quotient_61 : decode cX1_quotient 61 = .ok (.goto 21, 3) := dk_167 0 21 (dk_at dksX1_quotient_2 14 rfl rfl)
theorem dX1_quotient_64 : decode cX1_quotient 64 = .ok (.aload_n 0, 1) := dk_42 (dk_at dksX1_quotient_2 17 rfl rfl)
theorem dX1_quotient_65 : decode cX1_quotient 65 = .ok (.aload_n 0, 1) := dk_42 (dk_at dksX1_quotient_2 18 rfl rfl)
theorem dX1_quotient_66 : decode cX1_quotient 66 = .ok (.getfield 216, 3) := dk_180 0 216 (dk_at dksX1_quotient_2 19 rfl rfl)
theorem dX1_quotient_69 : decode cX1_quotient 69 = .ok (.getfield 387, 3) := dk_180 1 131 (dk_at dksX1_quotient_3 0 rfl rfl)
theorem dX1_quotient_72 : decode cX1_quotient 72 = .ok (.iload_n 3, 1) := dk_29 (dk_at dksX1_quotient_3 3 rfl rfl)
theorem dX1_quotient_73 : decode cX1_quotient 73 = .ok (.aaload, 1) := dk_50 (dk_at dksX1_quotient_3 4 rfl rfl)
theorem dX1_quotient_74 : decode cX1_quotient 74 = .ok (.invokevirtual 91, 3) := dk_182 0 91 (dk_at dksX1_quotient_3 5 rfl rfl)
theorem dX1_quotient_77 : decode cX1_quotient 77 = .ok (.iload 4, 2) := dk_21 4 (dk_at dksX1_quotient_3 8 rfl rfl)
theorem dX1_quotient_79 : decode cX1_quotient 79 = .ok (.invokevirtual 413, 3) := dk_182 1 157 (dk_at dksX1_quotient_3 10 rfl rfl)
theorem dX1_quotient_82 : decode cX1_quotient 82 = .ok (.ireturn, 1) := dk_172 (dk_at dksX1_quotient_3 13 rfl rfl)
abbrev cX1_pair_2 : ByteArray := prog_1_method_82_code
def yX1_pair_2 : MethodName := ⟨RX1, "pair", "(III)I"⟩
def dkwX1_pair_2_4 : List UInt8 := [182, 1, 157, 172]
abbrev dktX1_pair_2_4 : List UInt8 := dkwX1_pair_2_4 ++ []
def dkwX1_pair_2_3 : List UInt8 := [182, 1, 19, 167, 0, 24, 42, 42, 42, 180, 0, 232, 27, 50, 42, 180, 0, 232, 28, 50, 182, 1, 144, 29]
abbrev dktX1_pair_2_3 : List UInt8 := dkwX1_pair_2_3 ++ dktX1_pair_2_4
def dkwX1_pair_2_2 : List UInt8 := [27, 50, 182, 0, 46, 154, 0, 15, 42, 180, 0, 232, 28, 50, 182, 0, 46, 153, 0, 11, 42, 8]
abbrev dktX1_pair_2_2 : List UInt8 := dkwX1_pair_2_2 ++ dktX1_pair_2_3
def dkwX1_pair_2_1 : List UInt8 := [28, 159, 0, 7, 4, 167, 0, 4, 3, 182, 1, 59, 182, 1, 62, 153, 0, 5, 2, 172, 42, 180, 0, 232]
abbrev dktX1_pair_2_1 : List UInt8 := dkwX1_pair_2_1 ++ dktX1_pair_2_2
def dkwX1_pair_2_0 : List UInt8 := [42, 42, 6, 188, 10, 89, 3, 27, 79, 89, 4, 28, 79, 89, 5, 29, 79, 184, 1, 69, 153, 0, 12, 27]
abbrev dktX1_pair_2_0 : List UInt8 := dkwX1_pair_2_0 ++ dktX1_pair_2_1
theorem dksX1_pair_2_0 : cX1_pair_2.data.toList.drop 0 = dktX1_pair_2_0 := by decide +kernel
theorem dksX1_pair_2_1 : cX1_pair_2.data.toList.drop 24 = dktX1_pair_2_1 := dk_seg dksX1_pair_2_0 24 rfl rfl
theorem dksX1_pair_2_2 : cX1_pair_2.data.toList.drop 48 = dktX1_pair_2_2 := dk_seg dksX1_pair_2_1 24 rfl rfl
theorem dksX1_pair_2_3 : cX1_pair_2.data.toList.drop 70 = dktX1_pair_2_3 := dk_seg dksX1_pair_2_2 22 rfl rfl
theorem dksX1_pair_2_4 : cX1_pair_2.data.toList.drop 94 = dktX1_pair_2_4 := dk_seg dksX1_pair_2_3 24 rfl rfl
theorem dX1_pair_2_0 : decode cX1_pair_2 0 = .ok (.aload_n 0, 1) := dk_42 (dk_at dksX1_pair_2_0 0 rfl rfl)
theorem dX1_pair_2_1 : decode cX1_pair_2 1 = .ok (.aload_n 0, 1) := dk_42 (dk_at dksX1_pair_2_0 1 rfl rfl)
theorem dX1_pair_2_2 : decode cX1_pair_2 2 = .ok (.iconst 3, 1) := dk_6 (dk_at dksX1_pair_2_0 2 rfl rfl)
theorem dX1_pair_2_3 : decode cX1_pair_2 3 = .ok (.newarray .int, 2) := dk_188_10 (dk_at dksX1_pair_2_0 3 rfl rfl)
theorem dX1_pair_2_5 : decode cX1_pair_2 5 = .ok (.dup, 1) := dk_89 (dk_at dksX1_pair_2_0 5 rfl rfl)
theorem dX1_pair_2_6 : decode cX1_pair_2 6 = .ok (.iconst 0, 1) := dk_3 (dk_at dksX1_pair_2_0 6 rfl rfl)
theorem dX1_pair_2_7 : decode cX1_pair_2 7 = .ok (.iload_n 1, 1) := dk_27 (dk_at dksX1_pair_2_0 7 rfl rfl)
theorem dX1_pair_2_8 : decode cX1_pair_2 8 = .ok (.iastore, 1) := dk_79 (dk_at dksX1_pair_2_0 8 rfl rfl)
theorem dX1_pair_2_9 : decode cX1_pair_2 9 = .ok (.dup, 1) := dk_89 (dk_at dksX1_pair_2_0 9 rfl rfl)
theorem dX1_pair_2_10 : decode cX1_pair_2 10 = .ok (.iconst 1, 1) := dk_4 (dk_at dksX1_pair_2_0 10 rfl rfl)
theorem dX1_pair_2_11 : decode cX1_pair_2 11 = .ok (.iload_n 2, 1) := dk_28 (dk_at dksX1_pair_2_0 11 rfl rfl)
theorem dX1_pair_2_12 : decode cX1_pair_2 12 = .ok (.iastore, 1) := dk_79 (dk_at dksX1_pair_2_0 12 rfl rfl)
theorem dX1_pair_2_13 : decode cX1_pair_2 13 = .ok (.dup, 1) := dk_89 (dk_at dksX1_pair_2_0 13 rfl rfl)
theorem dX1_pair_2_14 : decode cX1_pair_2 14 = .ok (.iconst 2, 1) := dk_5 (dk_at dksX1_pair_2_0 14 rfl rfl)
theorem dX1_pair_2_15 : decode cX1_pair_2 15 = .ok (.iload_n 3, 1) := dk_29 (dk_at dksX1_pair_2_0 15 rfl rfl)
theorem dX1_pair_2_16 : decode cX1_pair_2 16 = .ok (.iastore, 1) := dk_79 (dk_at dksX1_pair_2_0 16 rfl rfl)
theorem dX1_pair_2_17 : decode cX1_pair_2 17 = .ok (.invokestatic 325, 3) := dk_184 1 69 (dk_at dksX1_pair_2_0 17 rfl rfl)
theorem dX1_pair_2_20 : decode cX1_pair_2 20 = .ok (.ifCond .eq 12, 3) := dk_153 0 12 (dk_at dksX1_pair_2_0 20 rfl rfl)
theorem dX1_pair_2_23 : decode cX1_pair_2 23 = .ok (.iload_n 1, 1) := dk_27 (dk_at dksX1_pair_2_0 23 rfl rfl)
theorem dX1_pair_2_24 : decode cX1_pair_2 24 = .ok (.iload_n 2, 1) := dk_28 (dk_at dksX1_pair_2_1 0 rfl rfl)
theorem dX1_pair_2_25 : decode cX1_pair_2 25 = .ok (.if_icmp .eq 7, 3) := dk_159 0 7 (dk_at dksX1_pair_2_1 1 rfl rfl)
theorem dX1_pair_2_28 : decode cX1_pair_2 28 = .ok (.iconst 1, 1) := dk_4 (dk_at dksX1_pair_2_1 4 rfl rfl)
theorem dX1_pair_2_29 : decode cX1_pair_2 29 = .ok (.goto 4, 3) := dk_167 0 4 (dk_at dksX1_pair_2_1 5 rfl rfl)
theorem dX1_pair_2_32 : decode cX1_pair_2 32 = .ok (.iconst 0, 1) := dk_3 (dk_at dksX1_pair_2_1 8 rfl rfl)
theorem dX1_pair_2_33 : decode cX1_pair_2 33 = .ok (.invokevirtual 315, 3) := dk_182 1 59 (dk_at dksX1_pair_2_1 9 rfl rfl)
theorem dX1_pair_2_36 : decode cX1_pair_2 36 = .ok (.invokevirtual 318, 3) := dk_182 1 62 (dk_at dksX1_pair_2_1 12 rfl rfl)
theorem dX1_pair_2_39 : decode cX1_pair_2 39 = .ok (.ifCond .eq 5, 3) := dk_153 0 5 (dk_at dksX1_pair_2_1 15 rfl rfl)
theorem dX1_pair_2_42 : decode cX1_pair_2 42 = .ok (.iconst (-1), 1) := dk_2 (dk_at dksX1_pair_2_1 18 rfl rfl)
theorem dX1_pair_2_43 : decode cX1_pair_2 43 = .ok (.ireturn, 1) := dk_172 (dk_at dksX1_pair_2_1 19 rfl rfl)
theorem dX1_pair_2_44 : decode cX1_pair_2 44 = .ok (.aload_n 0, 1) := dk_42 (dk_at dksX1_pair_2_1 20 rfl rfl)
theorem dX1_pair_2_45 : decode cX1_pair_2 45 = .ok (.getfield 232, 3) := dk_180 0 232 (dk_at dksX1_pair_2_1 21 rfl rfl)
theorem dX1_pair_2_48 : decode cX1_pair_2 48 = .ok (.iload_n 1, 1) := dk_27 (dk_at dksX1_pair_2_2 0 rfl rfl)
theorem dX1_pair_2_49 : decode cX1_pair_2 49 = .ok (.aaload, 1) := dk_50 (dk_at dksX1_pair_2_2 1 rfl rfl)
theorem dX1_pair_2_50 : decode cX1_pair_2 50 = .ok (.invokevirtual 46, 3) := dk_182 0 46 (dk_at dksX1_pair_2_2 2 rfl rfl)
theorem dX1_pair_2_53 : decode cX1_pair_2 53 = .ok (.ifCond .ne 15, 3) := dk_154 0 15 (dk_at dksX1_pair_2_2 5 rfl rfl)
theorem dX1_pair_2_56 : decode cX1_pair_2 56 = .ok (.aload_n 0, 1) := dk_42 (dk_at dksX1_pair_2_2 8 rfl rfl)
theorem dX1_pair_2_57 : decode cX1_pair_2 57 = .ok (.getfield 232, 3) := dk_180 0 232 (dk_at dksX1_pair_2_2 9 rfl rfl)
theorem dX1_pair_2_60 : decode cX1_pair_2 60 = .ok (.iload_n 2, 1) := dk_28 (dk_at dksX1_pair_2_2 12 rfl rfl)
theorem dX1_pair_2_61 : decode cX1_pair_2 61 = .ok (.aaload, 1) := dk_50 (dk_at dksX1_pair_2_2 13 rfl rfl)
theorem dX1_pair_2_62 : decode cX1_pair_2 62 = .ok (.invokevirtual 46, 3) := dk_182 0 46 (dk_at dksX1_pair_2_2 14 rfl rfl)
theorem dX1_pair_2_65 : decode cX1_pair_2 65 = .ok (.ifCond .eq 11, 3) := dk_153 0 11 (dk_at dksX1_pair_2_2 17 rfl rfl)
theorem dX1_pair_2_68 : decode cX1_pair_2 68 = .ok (.aload_n 0, 1) := dk_42 (dk_at dksX1_pair_2_2 20 rfl rfl)
theorem dX1_pair_2_69 : decode cX1_pair_2 69 = .ok (.iconst 5, 1) := dk_8 (dk_at dksX1_pair_2_2 21 rfl rfl)
theorem dX1_pair_2_70 : decode cX1_pair_2 70 = .ok (.invokevirtual 275, 3) := dk_182 1 19 (dk_at dksX1_pair_2_3 0 rfl rfl)
theorem dX1_pair_2_73 : decode cX1_pair_2 73 = .ok (.goto 24, 3) := dk_167 0 24 (dk_at dksX1_pair_2_3 3 rfl rfl)
theorem dX1_pair_2_76 : decode cX1_pair_2 76 = .ok (.aload_n 0, 1) := dk_42 (dk_at dksX1_pair_2_3 6 rfl rfl)
theorem dX1_pair_2_77 : decode cX1_pair_2 77 = .ok (.aload_n 0, 1) := dk_42 (dk_at dksX1_pair_2_3 7 rfl rfl)
theorem dX1_pair_2_78 : decode cX1_pair_2 78 = .ok (.aload_n 0, 1) := dk_42 (dk_at dksX1_pair_2_3 8 rfl rfl)
theorem dX1_pair_2_79 : decode cX1_pair_2 79 = .ok (.getfield 232, 3) := dk_180 0 232 (dk_at dksX1_pair_2_3 9 rfl rfl)
theorem dX1_pair_2_82 : decode cX1_pair_2 82 = .ok (.iload_n 1, 1) := dk_27 (dk_at dksX1_pair_2_3 12 rfl rfl)
theorem dX1_pair_2_83 : decode cX1_pair_2 83 = .ok (.aaload, 1) := dk_50 (dk_at dksX1_pair_2_3 13 rfl rfl)
theorem dX1_pair_2_84 : decode cX1_pair_2 84 = .ok (.aload_n 0, 1) := dk_42 (dk_at dksX1_pair_2_3 14 rfl rfl)
theorem dX1_pair_2_85 : decode cX1_pair_2 85 = .ok (.getfield 232, 3) := dk_180 0 232 (dk_at dksX1_pair_2_3 15 rfl rfl)
theorem dX1_pair_2_88 : decode cX1_pair_2 88 = .ok (.iload_n 2, 1) := dk_28 (dk_at dksX1_pair_2_3 18 rfl rfl)
theorem dX1_pair_2_89 : decode cX1_pair_2 89 = .ok (.aaload, 1) := dk_50 (dk_at dksX1_pair_2_3 19 rfl rfl)
theorem dX1_pair_2_90 : decode cX1_pair_2 90 = .ok (.invokevirtual 400, 3) := dk_182 1 144 (dk_at dksX1_pair_2_3 20 rfl rfl)
theorem dX1_pair_2_93 : decode cX1_pair_2 93 = .ok (.iload_n 3, 1) := dk_29 (dk_at dksX1_pair_2_3 23 rfl rfl)
theorem dX1_pair_2_94 : decode cX1_pair_2 94 = .ok (.invokevirtual 413, 3) := dk_182 1 157 (dk_at dksX1_pair_2_4 0 rfl rfl)
theorem dX1_pair_2_97 : decode cX1_pair_2 97 = .ok (.ireturn, 1) := dk_172 (dk_at dksX1_pair_2_4 3 rfl rfl)
abbrev cX1_common : ByteArray := prog_1_method_84_code
def yX1_common : MethodName := ⟨RX1, "common", "(III)I"⟩
def dkwX1_common_3 : List UInt8 := [182, 1, 165, 29, 182, 1, 157, 172]
abbrev dktX1_common_3 : List UInt8 := dkwX1_common_3 ++ []
def dkwX1_common_2 : List UInt8 := [42, 8, 182, 1, 19, 167, 0, 24, 42, 42, 42, 180, 0, 232, 27, 50, 42, 180, 0, 232, 28, 50]
abbrev dktX1_common_2 : List UInt8 := dkwX1_common_2 ++ dktX1_common_3
def dkwX1_common_1 : List UInt8 := [182, 1, 62, 153, 0, 5, 2, 172, 42, 27, 182, 1, 162, 154, 0, 11, 42, 28, 182, 1, 162, 153, 0, 11]
abbrev dktX1_common_1 : List UInt8 := dkwX1_common_1 ++ dktX1_common_2
def dkwX1_common_0 : List UInt8 := [42, 42, 6, 188, 10, 89, 3, 27, 79, 89, 4, 28, 79, 89, 5, 29, 79, 184, 1, 69, 182, 1, 59]
abbrev dktX1_common_0 : List UInt8 := dkwX1_common_0 ++ dktX1_common_1
theorem dksX1_common_0 : cX1_common.data.toList.drop 0 = dktX1_common_0 := by decide +kernel
theorem dksX1_common_1 : cX1_common.data.toList.drop 23 = dktX1_common_1 := dk_seg dksX1_common_0 23 rfl rfl
theorem dksX1_common_2 : cX1_common.data.toList.drop 47 = dktX1_common_2 := dk_seg dksX1_common_1 24 rfl rfl
theorem dksX1_common_3 : cX1_common.data.toList.drop 69 = dktX1_common_3 := dk_seg dksX1_common_2 22 rfl rfl
theorem dX1_common_0 : decode cX1_common 0 = .ok (.aload_n 0, 1) := dk_42 (dk_at dksX1_common_0 0 rfl rfl)
theorem dX1_common_1 : decode cX1_common 1 = .ok (.aload_n 0, 1) := dk_42 (dk_at dksX1_common_0 1 rfl rfl)
theorem dX1_common_2 : decode cX1_common 2 = .ok (.iconst 3, 1) := dk_6 (dk_at dksX1_common_0 2 rfl rfl)
theorem dX1_common_3 : decode cX1_common 3 = .ok (.newarray .int, 2) := dk_188_10 (dk_at dksX1_common_0 3 rfl rfl)
theorem dX1_common_5 : decode cX1_common 5 = .ok (.dup, 1) := dk_89 (dk_at dksX1_common_0 5 rfl rfl)
theorem dX1_common_6 : decode cX1_common 6 = .ok (.iconst 0, 1) := dk_3 (dk_at dksX1_common_0 6 rfl rfl)
theorem dX1_common_7 : decode cX1_common 7 = .ok (.iload_n 1, 1) := dk_27 (dk_at dksX1_common_0 7 rfl rfl)
theorem dX1_common_8 : decode cX1_common 8 = .ok (.iastore, 1) := dk_79 (dk_at dksX1_common_0 8 rfl rfl)
theorem dX1_common_9 : decode cX1_common 9 = .ok (.dup, 1) := dk_89 (dk_at dksX1_common_0 9 rfl rfl)
theorem dX1_common_10 : decode cX1_common 10 = .ok (.iconst 1, 1) := dk_4 (dk_at dksX1_common_0 10 rfl rfl)
theorem dX1_common_11 : decode cX1_common 11 = .ok (.iload_n 2, 1) := dk_28 (dk_at dksX1_common_0 11 rfl rfl)
theorem dX1_common_12 : decode cX1_common 12 = .ok (.iastore, 1) := dk_79 (dk_at dksX1_common_0 12 rfl rfl)
theorem dX1_common_13 : decode cX1_common 13 = .ok (.dup, 1) := dk_89 (dk_at dksX1_common_0 13 rfl rfl)
theorem dX1_common_14 : decode cX1_common 14 = .ok (.iconst 2, 1) := dk_5 (dk_at dksX1_common_0 14 rfl rfl)
theorem dX1_common_15 : decode cX1_common 15 = .ok (.iload_n 3, 1) := dk_29 (dk_at dksX1_common_0 15 rfl rfl)
theorem dX1_common_16 : decode cX1_common 16 = .ok (.iastore, 1) := dk_79 (dk_at dksX1_common_0 16 rfl rfl)
theorem dX1_common_17 : decode cX1_common 17 = .ok (.invokestatic 325, 3) := dk_184 1 69 (dk_at dksX1_common_0 17 rfl rfl)
theorem dX1_common_20 : decode cX1_common 20 = .ok (.invokevirtual 315, 3) := dk_182 1 59 (dk_at dksX1_common_0 20 rfl rfl)
theorem dX1_common_23 : decode cX1_common 23 = .ok (.invokevirtual 318, 3) := dk_182 1 62 (dk_at dksX1_common_1 0 rfl rfl)
theorem dX1_common_26 : decode cX1_common 26 = .ok (.ifCond .eq 5, 3) := dk_153 0 5 (dk_at dksX1_common_1 3 rfl rfl)
theorem dX1_common_29 : decode cX1_common 29 = .ok (.iconst (-1), 1) := dk_2 (dk_at dksX1_common_1 6 rfl rfl)
theorem dX1_common_30 : decode cX1_common 30 = .ok (.ireturn, 1) := dk_172 (dk_at dksX1_common_1 7 rfl rfl)
theorem dX1_common_31 : decode cX1_common 31 = .ok (.aload_n 0, 1) := dk_42 (dk_at dksX1_common_1 8 rfl rfl)
theorem dX1_common_32 : decode cX1_common 32 = .ok (.iload_n 1, 1) := dk_27 (dk_at dksX1_common_1 9 rfl rfl)
theorem dX1_common_33 : decode cX1_common 33 = .ok (.invokevirtual 418, 3) := dk_182 1 162 (dk_at dksX1_common_1 10 rfl rfl)
theorem dX1_common_36 : decode cX1_common 36 = .ok (.ifCond .ne 11, 3) := dk_154 0 11 (dk_at dksX1_common_1 13 rfl rfl)
theorem dX1_common_39 : decode cX1_common 39 = .ok (.aload_n 0, 1) := dk_42 (dk_at dksX1_common_1 16 rfl rfl)
theorem dX1_common_40 : decode cX1_common 40 = .ok (.iload_n 2, 1) := dk_28 (dk_at dksX1_common_1 17 rfl rfl)
theorem dX1_common_41 : decode cX1_common 41 = .ok (.invokevirtual 418, 3) := dk_182 1 162 (dk_at dksX1_common_1 18 rfl rfl)
theorem dX1_common_44 : decode cX1_common 44 = .ok (.ifCond .eq 11, 3) := dk_153 0 11 (dk_at dksX1_common_1 21 rfl rfl)
theorem dX1_common_47 : decode cX1_common 47 = .ok (.aload_n 0, 1) := dk_42 (dk_at dksX1_common_2 0 rfl rfl)
theorem dX1_common_48 : decode cX1_common 48 = .ok (.iconst 5, 1) := dk_8 (dk_at dksX1_common_2 1 rfl rfl)
theorem dX1_common_49 : decode cX1_common 49 = .ok (.invokevirtual 275, 3) := dk_182 1 19 (dk_at dksX1_common_2 2 rfl rfl)
theorem dX1_common_52 : decode cX1_common 52 = .ok (.goto 24, 3) := dk_167 0 24 (dk_at dksX1_common_2 5 rfl rfl)
theorem dX1_common_55 : decode cX1_common 55 = .ok (.aload_n 0, 1) := dk_42 (dk_at dksX1_common_2 8 rfl rfl)
theorem dX1_common_56 : decode cX1_common 56 = .ok (.aload_n 0, 1) := dk_42 (dk_at dksX1_common_2 9 rfl rfl)
theorem dX1_common_57 : decode cX1_common 57 = .ok (.aload_n 0, 1) := dk_42 (dk_at dksX1_common_2 10 rfl rfl)
theorem dX1_common_58 : decode cX1_common 58 = .ok (.getfield 232, 3) := dk_180 0 232 (dk_at dksX1_common_2 11 rfl rfl)
theorem dX1_common_61 : decode cX1_common 61 = .ok (.iload_n 1, 1) := dk_27 (dk_at dksX1_common_2 14 rfl rfl)
theorem dX1_common_62 : decode cX1_common 62 = .ok (.aaload, 1) := dk_50 (dk_at dksX1_common_2 15 rfl rfl)
theorem dX1_common_63 : decode cX1_common 63 = .ok (.aload_n 0, 1) := dk_42 (dk_at dksX1_common_2 16 rfl rfl)
theorem dX1_common_64 : decode cX1_common 64 = .ok (.getfield 232, 3) := dk_180 0 232 (dk_at dksX1_common_2 17 rfl rfl)
theorem dX1_common_67 : decode cX1_common 67 = .ok (.iload_n 2, 1) := dk_28 (dk_at dksX1_common_2 20 rfl rfl)
theorem dX1_common_68 : decode cX1_common 68 = .ok (.aaload, 1) := dk_50 (dk_at dksX1_common_2 21 rfl rfl)
theorem dX1_common_69 : decode cX1_common 69 = .ok (.invokevirtual 421, 3) := dk_182 1 165 (dk_at dksX1_common_3 0 rfl rfl)
theorem dX1_common_72 : decode cX1_common 72 = .ok (.iload_n 3, 1) := dk_29 (dk_at dksX1_common_3 3 rfl rfl)
theorem dX1_common_73 : decode cX1_common 73 = .ok (.invokevirtual 413, 3) := dk_182 1 157 (dk_at dksX1_common_3 4 rfl rfl)
theorem dX1_common_76 : decode cX1_common 76 = .ok (.ireturn, 1) := dk_172 (dk_at dksX1_common_3 7 rfl rfl)
abbrev cX1_hasThird : ByteArray := prog_1_method_83_code
def yX1_hasThird : MethodName := ⟨RX1, "hasThird", "(I)Z"⟩
def dkwX1_hasThird_0 : List UInt8 := [42, 180, 0, 232, 27, 50, 5, 182, 0, 52, 158, 0, 7, 4, 167, 0, 4, 3, 172]
abbrev dktX1_hasThird_0 : List UInt8 := dkwX1_hasThird_0 ++ []
theorem dksX1_hasThird_0 : cX1_hasThird.data.toList.drop 0 = dktX1_hasThird_0 := by decide +kernel
theorem dX1_hasThird_0 : decode cX1_hasThird 0 = .ok (.aload_n 0, 1) := dk_42 (dk_at dksX1_hasThird_0 0 rfl rfl)
theorem dX1_hasThird_1 : decode cX1_hasThird 1 = .ok (.getfield 232, 3) := dk_180 0 232 (dk_at dksX1_hasThird_0 1 rfl rfl)
theorem dX1_hasThird_4 : decode cX1_hasThird 4 = .ok (.iload_n 1, 1) := dk_27 (dk_at dksX1_hasThird_0 4 rfl rfl)
theorem dX1_hasThird_5 : decode cX1_hasThird 5 = .ok (.aaload, 1) := dk_50 (dk_at dksX1_hasThird_0 5 rfl rfl)
theorem dX1_hasThird_6 : decode cX1_hasThird 6 = .ok (.iconst 2, 1) := dk_5 (dk_at dksX1_hasThird_0 6 rfl rfl)
theorem dX1_hasThird_7 : decode cX1_hasThird 7 = .ok (.invokevirtual 52, 3) := dk_182 0 52 (dk_at dksX1_hasThird_0 7 rfl rfl)
theorem dX1_hasThird_10 : decode cX1_hasThird 10 = .ok (.ifCond .le 7, 3) := dk_158 0 7 (dk_at dksX1_hasThird_0 10 rfl rfl)
theorem dX1_hasThird_13 : decode cX1_hasThird 13 = .ok (.iconst 1, 1) := dk_4 (dk_at dksX1_hasThird_0 13 rfl rfl)
theorem dX1_hasThird_14 : decode cX1_hasThird 14 = .ok (.goto 4, 3) := dk_167 0 4 (dk_at dksX1_hasThird_0 14 rfl rfl)
theorem dX1_hasThird_17 : decode cX1_hasThird 17 = .ok (.iconst 0, 1) := dk_3 (dk_at dksX1_hasThird_0 17 rfl rfl)
theorem dX1_hasThird_18 : decode cX1_hasThird 18 = .ok (.ireturn, 1) := dk_172 (dk_at dksX1_hasThird_0 18 rfl rfl)
abbrev cX1_common_2 : ByteArray := prog_1_method_30_code
def yX1_common_2 : MethodName := ⟨RX1, "common", "(LTermDesk$Poly;LTermDesk$Poly;)LTermDesk$Poly;"⟩
def dkwX1_common_2_16 : List UInt8 := [167, 255, 120, 42, 42, 25, 8, 182, 0, 203, 182, 0, 131, 176]
abbrev dktX1_common_2_16 : List UInt8 := dkwX1_common_2_16 ++ []
def dkwX1_common_2_15 : List UInt8 := [104, 96, 42, 180, 0, 23, 112, 79, 132, 13, 1, 167, 255, 187, 132, 12, 1, 167, 255, 171, 132, 10, 1]
abbrev dktX1_common_2_15 : List UInt8 := dkwX1_common_2_15 ++ dktX1_common_2_16
def dkwX1_common_2_14 : List UInt8 := [21, 5, 153, 0, 7, 4, 167, 0, 13, 42, 180, 0, 185, 21, 10, 50, 21, 12, 46, 25, 6, 21, 13, 46]
abbrev dktX1_common_2_14 : List UInt8 := dkwX1_common_2_14 ++ dktX1_common_2_15
def dkwX1_common_2_13 : List UInt8 := [21, 12, 21, 13, 96, 3, 184, 0, 199, 25, 8, 21, 10, 21, 12, 21, 13, 96, 3, 184, 0, 199, 46]
abbrev dktX1_common_2_13 : List UInt8 := dkwX1_common_2_13 ++ dktX1_common_2_14
def dkwX1_common_2_12 : List UInt8 := [3, 54, 12, 21, 12, 21, 11, 163, 0, 84, 3, 54, 13, 21, 13, 21, 9, 163, 0, 68, 25, 8, 21, 10]
abbrev dktX1_common_2_12 : List UInt8 := dkwX1_common_2_12 ++ dktX1_common_2_13
def dkwX1_common_2_11 : List UInt8 := [163, 0, 121, 21, 5, 153, 0, 7, 3, 167, 0, 13, 42, 180, 0, 185, 21, 10, 50, 184, 0, 135, 54, 11]
abbrev dktX1_common_2_11 : List UInt8 := dkwX1_common_2_11 ++ dktX1_common_2_12
def dkwX1_common_2_10 : List UInt8 := [54, 9, 3, 54, 10, 21, 10, 21, 5, 153, 0, 7, 3, 167, 0, 10, 42, 180, 0, 185, 184, 0, 171]
abbrev dktX1_common_2_10 : List UInt8 := dkwX1_common_2_10 ++ dktX1_common_2_11
def dkwX1_common_2_9 : List UInt8 := [58, 8, 25, 7, 58, 6, 25, 8, 58, 7, 167, 255, 228, 42, 182, 0, 113, 58, 8, 25, 6, 184, 0, 135]
abbrev dktX1_common_2_9 : List UInt8 := dkwX1_common_2_9 ++ dktX1_common_2_10
def dkwX1_common_2_8 : List UInt8 := [180, 0, 153, 58, 7, 25, 7, 184, 0, 135, 155, 0, 26, 42, 25, 6, 25, 7, 182, 0, 156, 25, 6]
abbrev dktX1_common_2_8 : List UInt8 := dkwX1_common_2_8 ++ dktX1_common_2_9
def dkwX1_common_2_7 : List UInt8 := [184, 0, 17, 25, 4, 3, 42, 180, 0, 153, 3, 25, 4, 190, 184, 0, 144, 42, 180, 0, 150, 58, 6, 42]
abbrev dktX1_common_2_7 : List UInt8 := dkwX1_common_2_7 ++ dktX1_common_2_8
def dkwX1_common_2_6 : List UInt8 := [180, 0, 150, 3, 184, 0, 17, 45, 3, 42, 180, 0, 150, 3, 45, 190, 184, 0, 144, 42, 180, 0, 153, 3]
abbrev dktX1_common_2_6 : List UInt8 := dkwX1_common_2_6 ++ dktX1_common_2_7
def dkwX1_common_2_5 : List UInt8 := [181, 0, 193, 167, 255, 197, 42, 180, 0, 193, 184, 0, 171, 154, 0, 7, 4, 167, 0, 4, 3, 54, 5, 42]
abbrev dktX1_common_2_5 : List UInt8 := dkwX1_common_2_5 ++ dktX1_common_2_6
def dkwX1_common_2_4 : List UInt8 := [180, 0, 193, 182, 0, 196, 42, 180, 0, 185, 58, 5, 42, 42, 180, 0, 193, 181, 0, 185, 42, 25, 5]
abbrev dktX1_common_2_4 : List UInt8 := dkwX1_common_2_4 ++ dktX1_common_2_5
def dkwX1_common_2_3 : List UInt8 := [180, 0, 185, 184, 0, 171, 42, 180, 0, 193, 184, 0, 171, 161, 0, 15, 42, 42, 180, 0, 185, 42]
abbrev dktX1_common_2_3 : List UInt8 := dkwX1_common_2_3 ++ dktX1_common_2_4
def dkwX1_common_2_2 : List UInt8 := [44, 42, 180, 0, 193, 182, 0, 189, 182, 0, 182, 58, 4, 42, 180, 0, 193, 184, 0, 171, 158, 0, 55, 42]
abbrev dktX1_common_2_2 : List UInt8 := dkwX1_common_2_2 ++ dktX1_common_2_3
def dkwX1_common_2_1 : List UInt8 := [167, 0, 4, 43, 182, 0, 131, 176, 42, 42, 43, 42, 180, 0, 185, 182, 0, 189, 182, 0, 182, 78, 42, 42]
abbrev dktX1_common_2_1 : List UInt8 := dkwX1_common_2_1 ++ dktX1_common_2_2
def dkwX1_common_2_0 : List UInt8 := [43, 182, 0, 46, 154, 0, 10, 44, 182, 0, 46, 153, 0, 20, 42, 43, 182, 0, 46, 153, 0, 7, 44]
abbrev dktX1_common_2_0 : List UInt8 := dkwX1_common_2_0 ++ dktX1_common_2_1
theorem dksX1_common_2_0 : cX1_common_2.data.toList.drop 0 = dktX1_common_2_0 := by decide +kernel
theorem dksX1_common_2_1 : cX1_common_2.data.toList.drop 23 = dktX1_common_2_1 := dk_seg dksX1_common_2_0 23 rfl rfl
theorem dksX1_common_2_2 : cX1_common_2.data.toList.drop 47 = dktX1_common_2_2 := dk_seg dksX1_common_2_1 24 rfl rfl
theorem dksX1_common_2_3 : cX1_common_2.data.toList.drop 71 = dktX1_common_2_3 := dk_seg dksX1_common_2_2 24 rfl rfl
theorem dksX1_common_2_4 : cX1_common_2.data.toList.drop 93 = dktX1_common_2_4 := dk_seg dksX1_common_2_3 22 rfl rfl
theorem dksX1_common_2_5 : cX1_common_2.data.toList.drop 116 = dktX1_common_2_5 := dk_seg dksX1_common_2_4 23 rfl rfl
theorem dksX1_common_2_6 : cX1_common_2.data.toList.drop 140 = dktX1_common_2_6 := dk_seg dksX1_common_2_5 24 rfl rfl
theorem dksX1_common_2_7 : cX1_common_2.data.toList.drop 164 = dktX1_common_2_7 := dk_seg dksX1_common_2_6 24 rfl rfl
theorem dksX1_common_2_8 : cX1_common_2.data.toList.drop 188 = dktX1_common_2_8 := dk_seg dksX1_common_2_7 24 rfl rfl
theorem dksX1_common_2_9 : cX1_common_2.data.toList.drop 211 = dktX1_common_2_9 := dk_seg dksX1_common_2_8 23 rfl rfl
theorem dksX1_common_2_10 : cX1_common_2.data.toList.drop 235 = dktX1_common_2_10 := dk_seg dksX1_common_2_9 24 rfl rfl
theorem dksX1_common_2_11 : cX1_common_2.data.toList.drop 258 = dktX1_common_2_11 := dk_seg dksX1_common_2_10 23 rfl rfl
theorem dksX1_common_2_12 : cX1_common_2.data.toList.drop 282 = dktX1_common_2_12 := dk_seg dksX1_common_2_11 24 rfl rfl
theorem dksX1_common_2_13 : cX1_common_2.data.toList.drop 306 = dktX1_common_2_13 := dk_seg dksX1_common_2_12 24 rfl rfl
theorem dksX1_common_2_14 : cX1_common_2.data.toList.drop 329 = dktX1_common_2_14 := dk_seg dksX1_common_2_13 23 rfl rfl
theorem dksX1_common_2_15 : cX1_common_2.data.toList.drop 353 = dktX1_common_2_15 := dk_seg dksX1_common_2_14 24 rfl rfl
theorem dksX1_common_2_16 : cX1_common_2.data.toList.drop 376 = dktX1_common_2_16 := dk_seg dksX1_common_2_15 23 rfl rfl
theorem dX1_common_2_0 : decode cX1_common_2 0 = .ok (.aload_n 1, 1) := dk_43 (dk_at dksX1_common_2_0 0 rfl rfl)
theorem dX1_common_2_1 : decode cX1_common_2 1 = .ok (.invokevirtual 46, 3) := dk_182 0 46 (dk_at dksX1_common_2_0 1 rfl rfl)
theorem dX1_common_2_4 : decode cX1_common_2 4 = .ok (.ifCond .ne 10, 3) := dk_154 0 10 (dk_at dksX1_common_2_0 4 rfl rfl)
theorem dX1_common_2_7 : decode cX1_common_2 7 = .ok (.aload_n 2, 1) := dk_44 (dk_at dksX1_common_2_0 7 rfl rfl)
theorem dX1_common_2_8 : decode cX1_common_2 8 = .ok (.invokevirtual 46, 3) := dk_182 0 46 (dk_at dksX1_common_2_0 8 rfl rfl)
theorem dX1_common_2_11 : decode cX1_common_2 11 = .ok (.ifCond .eq 20, 3) := dk_153 0 20 (dk_at dksX1_common_2_0 11 rfl rfl)
theorem dX1_common_2_14 : decode cX1_common_2 14 = .ok (.aload_n 0, 1) := dk_42 (dk_at dksX1_common_2_0 14 rfl rfl)
theorem dX1_common_2_15 : decode cX1_common_2 15 = .ok (.aload_n 1, 1) := dk_43 (dk_at dksX1_common_2_0 15 rfl rfl)
theorem dX1_common_2_16 : decode cX1_common_2 16 = .ok (.invokevirtual 46, 3) := dk_182 0 46 (dk_at dksX1_common_2_0 16 rfl rfl)
theorem dX1_common_2_19 : decode cX1_common_2 19 = .ok (.ifCond .eq 7, 3) := dk_153 0 7 (dk_at dksX1_common_2_0 19 rfl rfl)
theorem dX1_common_2_22 : decode cX1_common_2 22 = .ok (.aload_n 2, 1) := dk_44 (dk_at dksX1_common_2_0 22 rfl rfl)
theorem dX1_common_2_23 : decode cX1_common_2 23 = .ok (.goto 4, 3) := dk_167 0 4 (dk_at dksX1_common_2_1 0 rfl rfl)
theorem dX1_common_2_26 : decode cX1_common_2 26 = .ok (.aload_n 1, 1) := dk_43 (dk_at dksX1_common_2_1 3 rfl rfl)
theorem dX1_common_2_27 : decode cX1_common_2 27 = .ok (.invokevirtual 131, 3) := dk_182 0 131 (dk_at dksX1_common_2_1 4 rfl rfl)
theorem dX1_common_2_30 : decode cX1_common_2 30 = .ok (.areturn, 1) := dk_176 (dk_at dksX1_common_2_1 7 rfl rfl)
theorem dX1_common_2_31 : decode cX1_common_2 31 = .ok (.aload_n 0, 1) := dk_42 (dk_at dksX1_common_2_1 8 rfl rfl)
theorem dX1_common_2_32 : decode cX1_common_2 32 = .ok (.aload_n 0, 1) := dk_42 (dk_at dksX1_common_2_1 9 rfl rfl)
theorem dX1_common_2_33 : decode cX1_common_2 33 = .ok (.aload_n 1, 1) := dk_43 (dk_at dksX1_common_2_1 10 rfl rfl)
theorem dX1_common_2_34 : decode cX1_common_2 34 = .ok (.aload_n 0, 1) := dk_42 (dk_at dksX1_common_2_1 11 rfl rfl)
theorem dX1_common_2_35 : decode cX1_common_2 35 = .ok (.getfield 185, 3) := dk_180 0 185 (dk_at dksX1_common_2_1 12 rfl rfl)
theorem dX1_common_2_38 : decode cX1_common_2 38 = .ok (.invokevirtual 189, 3) := dk_182 0 189 (dk_at dksX1_common_2_1 15 rfl rfl)
theorem dX1_common_2_41 : decode cX1_common_2 41 = .ok (.invokevirtual 182, 3) := dk_182 0 182 (dk_at dksX1_common_2_1 18 rfl rfl)
theorem dX1_common_2_44 : decode cX1_common_2 44 = .ok (.astore_n 3, 1) := dk_78 (dk_at dksX1_common_2_1 21 rfl rfl)
theorem dX1_common_2_45 : decode cX1_common_2 45 = .ok (.aload_n 0, 1) := dk_42 (dk_at dksX1_common_2_1 22 rfl rfl)
theorem dX1_common_2_46 : decode cX1_common_2 46 = .ok (.aload_n 0, 1) := dk_42 (dk_at dksX1_common_2_1 23 rfl rfl)
theorem dX1_common_2_47 : decode cX1_common_2 47 = .ok (.aload_n 2, 1) := dk_44 (dk_at dksX1_common_2_2 0 rfl rfl)
theorem dX1_common_2_48 : decode cX1_common_2 48 = .ok (.aload_n 0, 1) := dk_42 (dk_at dksX1_common_2_2 1 rfl rfl)
theorem dX1_common_2_49 : decode cX1_common_2 49 = .ok (.getfield 193, 3) := dk_180 0 193 (dk_at dksX1_common_2_2 2 rfl rfl)
theorem dX1_common_2_52 : decode cX1_common_2 52 = .ok (.invokevirtual 189, 3) := dk_182 0 189 (dk_at dksX1_common_2_2 5 rfl rfl)
theorem dX1_common_2_55 : decode cX1_common_2 55 = .ok (.invokevirtual 182, 3) := dk_182 0 182 (dk_at dksX1_common_2_2 8 rfl rfl)
theorem dX1_common_2_58 : decode cX1_common_2 58 = .ok (.astore 4, 2) := dk_58 4 (dk_at dksX1_common_2_2 11 rfl rfl)
theorem dX1_common_2_60 : decode cX1_common_2 60 = .ok (.aload_n 0, 1) := dk_42 (dk_at dksX1_common_2_2 13 rfl rfl)
theorem dX1_common_2_61 : decode cX1_common_2 61 = .ok (.getfield 193, 3) := dk_180 0 193 (dk_at dksX1_common_2_2 14 rfl rfl)
theorem dX1_common_2_64 : decode cX1_common_2 64 = .ok (.invokestatic 171, 3) := dk_184 0 171 (dk_at dksX1_common_2_2 17 rfl rfl)
theorem dX1_common_2_67 : decode cX1_common_2 67 = .ok (.ifCond .le 55, 3) := dk_158 0 55 (dk_at dksX1_common_2_2 20 rfl rfl)
theorem dX1_common_2_70 : decode cX1_common_2 70 = .ok (.aload_n 0, 1) := dk_42 (dk_at dksX1_common_2_2 23 rfl rfl)
theorem dX1_common_2_71 : decode cX1_common_2 71 = .ok (.getfield 185, 3) := dk_180 0 185 (dk_at dksX1_common_2_3 0 rfl rfl)
theorem dX1_common_2_74 : decode cX1_common_2 74 = .ok (.invokestatic 171, 3) := dk_184 0 171 (dk_at dksX1_common_2_3 3 rfl rfl)
theorem dX1_common_2_77 : decode cX1_common_2 77 = .ok (.aload_n 0, 1) := dk_42 (dk_at dksX1_common_2_3 6 rfl rfl)
theorem dX1_common_2_78 : decode cX1_common_2 78 = .ok (.getfield 193, 3) := dk_180 0 193 (dk_at dksX1_common_2_3 7 rfl rfl)
theorem dX1_common_2_81 : decode cX1_common_2 81 = .ok (.invokestatic 171, 3) := dk_184 0 171 (dk_at dksX1_common_2_3 10 rfl rfl)
theorem dX1_common_2_84 : decode cX1_common_2 84 = .ok (.if_icmp .lt 15, 3) := dk_161 0 15 (dk_at dksX1_common_2_3 13 rfl rfl)
theorem dX1_common_2_87 : decode cX1_common_2 87 = .ok (.aload_n 0, 1) := dk_42 (dk_at dksX1_common_2_3 16 rfl rfl)
theorem dX1_common_2_88 : decode cX1_common_2 88 = .ok (.aload_n 0, 1) := dk_42 (dk_at dksX1_common_2_3 17 rfl rfl)
theorem dX1_common_2_89 : decode cX1_common_2 89 = .ok (.getfield 185, 3) := dk_180 0 185 (dk_at dksX1_common_2_3 18 rfl rfl)
theorem dX1_common_2_92 : decode cX1_common_2 92 = .ok (.aload_n 0, 1) := dk_42 (dk_at dksX1_common_2_3 21 rfl rfl)
theorem dX1_common_2_93 : decode cX1_common_2 93 = .ok (.getfield 193, 3) := dk_180 0 193 (dk_at dksX1_common_2_4 0 rfl rfl)
theorem dX1_common_2_96 : decode cX1_common_2 96 = .ok (.invokevirtual 196, 3) := dk_182 0 196 (dk_at dksX1_common_2_4 3 rfl rfl)
theorem dX1_common_2_99 : decode cX1_common_2 99 = .ok (.aload_n 0, 1) := dk_42 (dk_at dksX1_common_2_4 6 rfl rfl)
theorem dX1_common_2_100 : decode cX1_common_2 100 = .ok (.getfield 185, 3) := dk_180 0 185 (dk_at dksX1_common_2_4 7 rfl rfl)
theorem dX1_common_2_103 : decode cX1_common_2 103 = .ok (.astore 5, 2) := dk_58 5 (dk_at dksX1_common_2_4 10 rfl rfl)
theorem dX1_common_2_105 : decode cX1_common_2 105 = .ok (.aload_n 0, 1) := dk_42 (dk_at dksX1_common_2_4 12 rfl rfl)
theorem dX1_common_2_106 : decode cX1_common_2 106 = .ok (.aload_n 0, 1) := dk_42 (dk_at dksX1_common_2_4 13 rfl rfl)
theorem dX1_common_2_107 : decode cX1_common_2 107 = .ok (.getfield 193, 3) := dk_180 0 193 (dk_at dksX1_common_2_4 14 rfl rfl)
theorem dX1_common_2_110 : decode cX1_common_2 110 = .ok (.putfield 185, 3) := dk_181 0 185 (dk_at dksX1_common_2_4 17 rfl rfl)
theorem dX1_common_2_113 : decode cX1_common_2 113 = .ok (.aload_n 0, 1) := dk_42 (dk_at dksX1_common_2_4 20 rfl rfl)
theorem dX1_common_2_114 : decode cX1_common_2 114 = .ok (.aload 5, 2) := dk_25 5 (dk_at dksX1_common_2_4 21 rfl rfl)
theorem dX1_common_2_116 : decode cX1_common_2 116 = .ok (.putfield 193, 3) := dk_181 0 193 (dk_at dksX1_common_2_5 0 rfl rfl)
theorem dX1_common_2_119 : decode cX1_common_2 119 = .ok (.goto (-59), 3) := dk_167 255 197 (dk_at dksX1_common_2_5 3 rfl rfl)
theorem dX1_common_2_122 : decode cX1_common_2 122 = .ok (.aload_n 0, 1) := dk_42 (dk_at dksX1_common_2_5 6 rfl rfl)
theorem dX1_common_2_123 : decode cX1_common_2 123 = .ok (.getfield 193, 3) := dk_180 0 193 (dk_at dksX1_common_2_5 7 rfl rfl)
theorem dX1_common_2_126 : decode cX1_common_2 126 = .ok (.invokestatic 171, 3) := dk_184 0 171 (dk_at dksX1_common_2_5 10 rfl rfl)
theorem dX1_common_2_129 : decode cX1_common_2 129 = .ok (.ifCond .ne 7, 3) := dk_154 0 7 (dk_at dksX1_common_2_5 13 rfl rfl)
theorem dX1_common_2_132 : decode cX1_common_2 132 = .ok (.iconst 1, 1) := dk_4 (dk_at dksX1_common_2_5 16 rfl rfl)
theorem dX1_common_2_133 : decode cX1_common_2 133 = .ok (.goto 4, 3) := dk_167 0 4 (dk_at dksX1_common_2_5 17 rfl rfl)
theorem dX1_common_2_136 : decode cX1_common_2 136 = .ok (.iconst 0, 1) := dk_3 (dk_at dksX1_common_2_5 20 rfl rfl)
theorem dX1_common_2_137 : decode cX1_common_2 137 = .ok (.istore 5, 2) := dk_54 5 (dk_at dksX1_common_2_5 21 rfl rfl)
theorem dX1_common_2_139 : decode cX1_common_2 139 = .ok (.aload_n 0, 1) := dk_42 (dk_at dksX1_common_2_5 23 rfl rfl)
theorem dX1_common_2_140 : decode cX1_common_2 140 = .ok (.getfield 150, 3) := dk_180 0 150 (dk_at dksX1_common_2_6 0 rfl rfl)
theorem dX1_common_2_143 : decode cX1_common_2 143 = .ok (.iconst 0, 1) := dk_3 (dk_at dksX1_common_2_6 3 rfl rfl)
theorem dX1_common_2_144 : decode cX1_common_2 144 = .ok (.invokestatic 17, 3) := dk_184 0 17 (dk_at dksX1_common_2_6 4 rfl rfl)
theorem dX1_common_2_147 : decode cX1_common_2 147 = .ok (.aload_n 3, 1) := dk_45 (dk_at dksX1_common_2_6 7 rfl rfl)
theorem dX1_common_2_148 : decode cX1_common_2 148 = .ok (.iconst 0, 1) := dk_3 (dk_at dksX1_common_2_6 8 rfl rfl)
theorem dX1_common_2_149 : decode cX1_common_2 149 = .ok (.aload_n 0, 1) := dk_42 (dk_at dksX1_common_2_6 9 rfl rfl)
theorem dX1_common_2_150 : decode cX1_common_2 150 = .ok (.getfield 150, 3) := dk_180 0 150 (dk_at dksX1_common_2_6 10 rfl rfl)
theorem dX1_common_2_153 : decode cX1_common_2 153 = .ok (.iconst 0, 1) := dk_3 (dk_at dksX1_common_2_6 13 rfl rfl)
theorem dX1_common_2_154 : decode cX1_common_2 154 = .ok (.aload_n 3, 1) := dk_45 (dk_at dksX1_common_2_6 14 rfl rfl)
theorem dX1_common_2_155 : decode cX1_common_2 155 = .ok (.arraylength, 1) := dk_190 (dk_at dksX1_common_2_6 15 rfl rfl)
theorem dX1_common_2_156 : decode cX1_common_2 156 = .ok (.invokestatic 144, 3) := dk_184 0 144 (dk_at dksX1_common_2_6 16 rfl rfl)
theorem dX1_common_2_159 : decode cX1_common_2 159 = .ok (.aload_n 0, 1) := dk_42 (dk_at dksX1_common_2_6 19 rfl rfl)
theorem dX1_common_2_160 : decode cX1_common_2 160 = .ok (.getfield 153, 3) := dk_180 0 153 (dk_at dksX1_common_2_6 20 rfl rfl)
theorem dX1_common_2_163 : decode cX1_common_2 163 = .ok (.iconst 0, 1) := dk_3 (dk_at dksX1_common_2_6 23 rfl rfl)
theorem dX1_common_2_164 : decode cX1_common_2 164 = .ok (.invokestatic 17, 3) := dk_184 0 17 (dk_at dksX1_common_2_7 0 rfl rfl)
theorem dX1_common_2_167 : decode cX1_common_2 167 = .ok (.aload 4, 2) := dk_25 4 (dk_at dksX1_common_2_7 3 rfl rfl)
theorem dX1_common_2_169 : decode cX1_common_2 169 = .ok (.iconst 0, 1) := dk_3 (dk_at dksX1_common_2_7 5 rfl rfl)
theorem dX1_common_2_170 : decode cX1_common_2 170 = .ok (.aload_n 0, 1) := dk_42 (dk_at dksX1_common_2_7 6 rfl rfl)
theorem dX1_common_2_171 : decode cX1_common_2 171 = .ok (.getfield 153, 3) := dk_180 0 153 (dk_at dksX1_common_2_7 7 rfl rfl)
theorem dX1_common_2_174 : decode cX1_common_2 174 = .ok (.iconst 0, 1) := dk_3 (dk_at dksX1_common_2_7 10 rfl rfl)
theorem dX1_common_2_175 : decode cX1_common_2 175 = .ok (.aload 4, 2) := dk_25 4 (dk_at dksX1_common_2_7 11 rfl rfl)
theorem dX1_common_2_177 : decode cX1_common_2 177 = .ok (.arraylength, 1) := dk_190 (dk_at dksX1_common_2_7 13 rfl rfl)
theorem dX1_common_2_178 : decode cX1_common_2 178 = .ok (.invokestatic 144, 3) := dk_184 0 144 (dk_at dksX1_common_2_7 14 rfl rfl)
theorem dX1_common_2_181 : decode cX1_common_2 181 = .ok (.aload_n 0, 1) := dk_42 (dk_at dksX1_common_2_7 17 rfl rfl)
theorem dX1_common_2_182 : decode cX1_common_2 182 = .ok (.getfield 150, 3) := dk_180 0 150 (dk_at dksX1_common_2_7 18 rfl rfl)
theorem dX1_common_2_185 : decode cX1_common_2 185 = .ok (.astore 6, 2) := dk_58 6 (dk_at dksX1_common_2_7 21 rfl rfl)
theorem dX1_common_2_187 : decode cX1_common_2 187 = .ok (.aload_n 0, 1) := dk_42 (dk_at dksX1_common_2_7 23 rfl rfl)
theorem dX1_common_2_188 : decode cX1_common_2 188 = .ok (.getfield 153, 3) := dk_180 0 153 (dk_at dksX1_common_2_8 0 rfl rfl)
theorem dX1_common_2_191 : decode cX1_common_2 191 = .ok (.astore 7, 2) := dk_58 7 (dk_at dksX1_common_2_8 3 rfl rfl)
theorem dX1_common_2_193 : decode cX1_common_2 193 = .ok (.aload 7, 2) := dk_25 7 (dk_at dksX1_common_2_8 5 rfl rfl)
theorem dX1_common_2_195 : decode cX1_common_2 195 = .ok (.invokestatic 135, 3) := dk_184 0 135 (dk_at dksX1_common_2_8 7 rfl rfl)
theorem dX1_common_2_198 : decode cX1_common_2 198 = .ok (.ifCond .lt 26, 3) := dk_155 0 26 (dk_at dksX1_common_2_8 10 rfl rfl)
theorem dX1_common_2_201 : decode cX1_common_2 201 = .ok (.aload_n 0, 1) := dk_42 (dk_at dksX1_common_2_8 13 rfl rfl)
theorem dX1_common_2_202 : decode cX1_common_2 202 = .ok (.aload 6, 2) := dk_25 6 (dk_at dksX1_common_2_8 14 rfl rfl)
theorem dX1_common_2_204 : decode cX1_common_2 204 = .ok (.aload 7, 2) := dk_25 7 (dk_at dksX1_common_2_8 16 rfl rfl)
theorem dX1_common_2_206 : decode cX1_common_2 206 = .ok (.invokevirtual 156, 3) := dk_182 0 156 (dk_at dksX1_common_2_8 18 rfl rfl)
theorem dX1_common_2_209 : decode cX1_common_2 209 = .ok (.aload 6, 2) := dk_25 6 (dk_at dksX1_common_2_8 21 rfl rfl)
theorem dX1_common_2_211 : decode cX1_common_2 211 = .ok (.astore 8, 2) := dk_58 8 (dk_at dksX1_common_2_9 0 rfl rfl)
theorem dX1_common_2_213 : decode cX1_common_2 213 = .ok (.aload 7, 2) := dk_25 7 (dk_at dksX1_common_2_9 2 rfl rfl)
theorem dX1_common_2_215 : decode cX1_common_2 215 = .ok (.astore 6, 2) := dk_58 6 (dk_at dksX1_common_2_9 4 rfl rfl)
theorem dX1_common_2_217 : decode cX1_common_2 217 = .ok (.aload 8, 2) := dk_25 8 (dk_at dksX1_common_2_9 6 rfl rfl)
theorem dX1_common_2_219 : decode cX1_common_2 219 = .ok (.astore 7, 2) := dk_58 7 (dk_at dksX1_common_2_9 8 rfl rfl)
theorem dX1_common_2_221 : decode cX1_common_2 221 = .ok (.goto (-28), 3) := dk_167 255 228 (dk_at dksX1_common_2_9 10 rfl rfl)
theorem dX1_common_2_224 : decode cX1_common_2 224 = .ok (.aload_n 0, 1) := dk_42 (dk_at dksX1_common_2_9 13 rfl rfl)
theorem dX1_common_2_225 : decode cX1_common_2 225 = .ok (.invokevirtual 113, 3) := dk_182 0 113 (dk_at dksX1_common_2_9 14 rfl rfl)
theorem dX1_common_2_228 : decode cX1_common_2 228 = .ok (.astore 8, 2) := dk_58 8 (dk_at dksX1_common_2_9 17 rfl rfl)
theorem dX1_common_2_230 : decode cX1_common_2 230 = .ok (.aload 6, 2) := dk_25 6 (dk_at dksX1_common_2_9 19 rfl rfl)
theorem dX1_common_2_232 : decode cX1_common_2 232 = .ok (.invokestatic 135, 3) := dk_184 0 135 (dk_at dksX1_common_2_9 21 rfl rfl)
theorem dX1_common_2_235 : decode cX1_common_2 235 = .ok (.istore 9, 2) := dk_54 9 (dk_at dksX1_common_2_10 0 rfl rfl)
theorem dX1_common_2_237 : decode cX1_common_2 237 = .ok (.iconst 0, 1) := dk_3 (dk_at dksX1_common_2_10 2 rfl rfl)
theorem dX1_common_2_238 : decode cX1_common_2 238 = .ok (.istore 10, 2) := dk_54 10 (dk_at dksX1_common_2_10 3 rfl rfl)
theorem dX1_common_2_240 : decode cX1_common_2 240 = .ok (.iload 10, 2) := dk_21 10 (dk_at dksX1_common_2_10 5 rfl rfl)
theorem dX1_common_2_242 : decode cX1_common_2 242 = .ok (.iload 5, 2) := dk_21 5 (dk_at dksX1_common_2_10 7 rfl rfl)
theorem dX1_common_2_244 : decode cX1_common_2 244 = .ok (.ifCond .eq 7, 3) := dk_153 0 7 (dk_at dksX1_common_2_10 9 rfl rfl)
theorem dX1_common_2_247 : decode cX1_common_2 247 = .ok (.iconst 0, 1) := dk_3 (dk_at dksX1_common_2_10 12 rfl rfl)
theorem dX1_common_2_248 : decode cX1_common_2 248 = .ok (.goto 10, 3) := dk_167 0 10 (dk_at dksX1_common_2_10 13 rfl rfl)
theorem dX1_common_2_251 : decode cX1_common_2 251 = .ok (.aload_n 0, 1) := dk_42 (dk_at dksX1_common_2_10 16 rfl rfl)
theorem dX1_common_2_252 : decode cX1_common_2 252 = .ok (.getfield 185, 3) := dk_180 0 185 (dk_at dksX1_common_2_10 17 rfl rfl)
theorem dX1_common_2_255 : decode cX1_common_2 255 = .ok (.invokestatic 171, 3) := dk_184 0 171 (dk_at dksX1_common_2_10 20 rfl rfl)
theorem dX1_common_2_258 : decode cX1_common_2 258 = .ok (.if_icmp .gt 121, 3) := dk_163 0 121 (dk_at dksX1_common_2_11 0 rfl rfl)
theorem dX1_common_2_261 : decode cX1_common_2 261 = .ok (.iload 5, 2) := dk_21 5 (dk_at dksX1_common_2_11 3 rfl rfl)
theorem dX1_common_2_263 : decode cX1_common_2 263 = .ok (.ifCond .eq 7, 3) := dk_153 0 7 (dk_at dksX1_common_2_11 5 rfl rfl)
theorem dX1_common_2_266 : decode cX1_common_2 266 = .ok (.iconst 0, 1) := dk_3 (dk_at dksX1_common_2_11 8 rfl rfl)
theorem dX1_common_2_267 : decode cX1_common_2 267 = .ok (.goto 13, 3) := dk_167 0 13 (dk_at dksX1_common_2_11 9 rfl rfl)
theorem dX1_common_2_270 : decode cX1_common_2 270 = .ok (.aload_n 0, 1) := dk_42 (dk_at dksX1_common_2_11 12 rfl rfl)
theorem dX1_common_2_271 : decode cX1_common_2 271 = .ok (.getfield 185, 3) := dk_180 0 185 (dk_at dksX1_common_2_11 13 rfl rfl)
theorem dX1_common_2_274 : decode cX1_common_2 274 = .ok (.iload 10, 2) := dk_21 10 (dk_at dksX1_common_2_11 16 rfl rfl)
theorem dX1_common_2_276 : decode cX1_common_2 276 = .ok (.aaload, 1) := dk_50 (dk_at dksX1_common_2_11 18 rfl rfl)
theorem dX1_common_2_277 : decode cX1_common_2 277 = .ok (.invokestatic 135, 3) := dk_184 0 135 (dk_at dksX1_common_2_11 19 rfl rfl)
theorem dX1_common_2_280 : decode cX1_common_2 280 = .ok (.istore 11, 2) := dk_54 11 (dk_at dksX1_common_2_11 22 rfl rfl)
theorem dX1_common_2_282 : decode cX1_common_2 282 = .ok (.iconst 0, 1) := dk_3 (dk_at dksX1_common_2_12 0 rfl rfl)
theorem dX1_common_2_283 : decode cX1_common_2 283 = .ok (.istore 12, 2) := dk_54 12 (dk_at dksX1_common_2_12 1 rfl rfl)
theorem dX1_common_2_285 : decode cX1_common_2 285 = .ok (.iload 12, 2) := dk_21 12 (dk_at dksX1_common_2_12 3 rfl rfl)
theorem dX1_common_2_287 : decode cX1_common_2 287 = .ok (.iload 11, 2) := dk_21 11 (dk_at dksX1_common_2_12 5 rfl rfl)
theorem dX1_common_2_289 : decode cX1_common_2 289 = .ok (.if_icmp .gt 84, 3) := dk_163 0 84 (dk_at dksX1_common_2_12 7 rfl rfl)
theorem dX1_common_2_292 : decode cX1_common_2 292 = .ok (.iconst 0, 1) := dk_3 (dk_at dksX1_common_2_12 10 rfl rfl)
theorem dX1_common_2_293 : decode cX1_common_2 293 = .ok (.istore 13, 2) := dk_54 13 (dk_at dksX1_common_2_12 11 rfl rfl)
theorem dX1_common_2_295 : decode cX1_common_2 295 = .ok (.iload 13, 2) := dk_21 13 (dk_at dksX1_common_2_12 13 rfl rfl)
theorem dX1_common_2_297 : decode cX1_common_2 297 = .ok (.iload 9, 2) := dk_21 9 (dk_at dksX1_common_2_12 15 rfl rfl)
theorem dX1_common_2_299 : decode cX1_common_2 299 = .ok (.if_icmp .gt 68, 3) := dk_163 0 68 (dk_at dksX1_common_2_12 17 rfl rfl)
theorem dX1_common_2_302 : decode cX1_common_2 302 = .ok (.aload 8, 2) := dk_25 8 (dk_at dksX1_common_2_12 20 rfl rfl)
theorem dX1_common_2_304 : decode cX1_common_2 304 = .ok (.iload 10, 2) := dk_21 10 (dk_at dksX1_common_2_12 22 rfl rfl)
theorem dX1_common_2_306 : decode cX1_common_2 306 = .ok (.iload 12, 2) := dk_21 12 (dk_at dksX1_common_2_13 0 rfl rfl)
theorem dX1_common_2_308 : decode cX1_common_2 308 = .ok (.iload 13, 2) := dk_21 13 (dk_at dksX1_common_2_13 2 rfl rfl)
theorem dX1_common_2_310 : decode cX1_common_2 310 = .ok (.iadd, 1) := dk_96 (dk_at dksX1_common_2_13 4 rfl rfl)
theorem dX1_common_2_311 : decode cX1_common_2 311 = .ok (.iconst 0, 1) := dk_3 (dk_at dksX1_common_2_13 5 rfl rfl)
theorem dX1_common_2_312 : decode cX1_common_2 312 = .ok (.invokestatic 199, 3) := dk_184 0 199 (dk_at dksX1_common_2_13 6 rfl rfl)
theorem dX1_common_2_315 : decode cX1_common_2 315 = .ok (.aload 8, 2) := dk_25 8 (dk_at dksX1_common_2_13 9 rfl rfl)
theorem dX1_common_2_317 : decode cX1_common_2 317 = .ok (.iload 10, 2) := dk_21 10 (dk_at dksX1_common_2_13 11 rfl rfl)
theorem dX1_common_2_319 : decode cX1_common_2 319 = .ok (.iload 12, 2) := dk_21 12 (dk_at dksX1_common_2_13 13 rfl rfl)
theorem dX1_common_2_321 : decode cX1_common_2 321 = .ok (.iload 13, 2) := dk_21 13 (dk_at dksX1_common_2_13 15 rfl rfl)
theorem dX1_common_2_323 : decode cX1_common_2 323 = .ok (.iadd, 1) := dk_96 (dk_at dksX1_common_2_13 17 rfl rfl)
theorem dX1_common_2_324 : decode cX1_common_2 324 = .ok (.iconst 0, 1) := dk_3 (dk_at dksX1_common_2_13 18 rfl rfl)
theorem dX1_common_2_325 : decode cX1_common_2 325 = .ok (.invokestatic 199, 3) := dk_184 0 199 (dk_at dksX1_common_2_13 19 rfl rfl)
theorem dX1_common_2_328 : decode cX1_common_2 328 = .ok (.iaload, 1) := dk_46 (dk_at dksX1_common_2_13 22 rfl rfl)
theorem dX1_common_2_329 : decode cX1_common_2 329 = .ok (.iload 5, 2) := dk_21 5 (dk_at dksX1_common_2_14 0 rfl rfl)
theorem dX1_common_2_331 : decode cX1_common_2 331 = .ok (.ifCond .eq 7, 3) := dk_153 0 7 (dk_at dksX1_common_2_14 2 rfl rfl)
theorem dX1_common_2_334 : decode cX1_common_2 334 = .ok (.iconst 1, 1) := dk_4 (dk_at dksX1_common_2_14 5 rfl rfl)
theorem dX1_common_2_335 : decode cX1_common_2 335 = .ok (.goto 13, 3) := dk_167 0 13 (dk_at dksX1_common_2_14 6 rfl rfl)
theorem dX1_common_2_338 : decode cX1_common_2 338 = .ok (.aload_n 0, 1) := dk_42 (dk_at dksX1_common_2_14 9 rfl rfl)
theorem dX1_common_2_339 : decode cX1_common_2 339 = .ok (.getfield 185, 3) := dk_180 0 185 (dk_at dksX1_common_2_14 10 rfl rfl)
theorem dX1_common_2_342 : decode cX1_common_2 342 = .ok (.iload 10, 2) := dk_21 10 (dk_at dksX1_common_2_14 13 rfl rfl)
theorem dX1_common_2_344 : decode cX1_common_2 344 = .ok (.aaload, 1) := dk_50 (dk_at dksX1_common_2_14 15 rfl rfl)
theorem dX1_common_2_345 : decode cX1_common_2 345 = .ok (.iload 12, 2) := dk_21 12 (dk_at dksX1_common_2_14 16 rfl rfl)
theorem dX1_common_2_347 : decode cX1_common_2 347 = .ok (.iaload, 1) := dk_46 (dk_at dksX1_common_2_14 18 rfl rfl)
theorem dX1_common_2_348 : decode cX1_common_2 348 = .ok (.aload 6, 2) := dk_25 6 (dk_at dksX1_common_2_14 19 rfl rfl)
theorem dX1_common_2_350 : decode cX1_common_2 350 = .ok (.iload 13, 2) := dk_21 13 (dk_at dksX1_common_2_14 21 rfl rfl)
theorem dX1_common_2_352 : decode cX1_common_2 352 = .ok (.iaload, 1) := dk_46 (dk_at dksX1_common_2_14 23 rfl rfl)
theorem dX1_common_2_353 : decode cX1_common_2 353 = .ok (.imul, 1) := dk_104 (dk_at dksX1_common_2_15 0 rfl rfl)
theorem dX1_common_2_354 : decode cX1_common_2 354 = .ok (.iadd, 1) := dk_96 (dk_at dksX1_common_2_15 1 rfl rfl)
theorem dX1_common_2_355 : decode cX1_common_2 355 = .ok (.aload_n 0, 1) := dk_42 (dk_at dksX1_common_2_15 2 rfl rfl)
theorem dX1_common_2_356 : decode cX1_common_2 356 = .ok (.getfield 23, 3) := dk_180 0 23 (dk_at dksX1_common_2_15 3 rfl rfl)
theorem dX1_common_2_359 : decode cX1_common_2 359 = .ok (.irem, 1) := dk_112 (dk_at dksX1_common_2_15 6 rfl rfl)
theorem dX1_common_2_360 : decode cX1_common_2 360 = .ok (.iastore, 1) := dk_79 (dk_at dksX1_common_2_15 7 rfl rfl)
theorem dX1_common_2_361 : decode cX1_common_2 361 = .ok (.iinc 13 1, 3) := dk_132 13 1 (dk_at dksX1_common_2_15 8 rfl rfl)
theorem dX1_common_2_364 : decode cX1_common_2 364 = .ok (.goto (-69), 3) := dk_167 255 187 (dk_at dksX1_common_2_15 11 rfl rfl)
theorem dX1_common_2_367 : decode cX1_common_2 367 = .ok (.iinc 12 1, 3) := dk_132 12 1 (dk_at dksX1_common_2_15 14 rfl rfl)
theorem dX1_common_2_370 : decode cX1_common_2 370 = .ok (.goto (-85), 3) := dk_167 255 171 (dk_at dksX1_common_2_15 17 rfl rfl)
theorem dX1_common_2_373 : decode cX1_common_2 373 = .ok (.iinc 10 1, 3) := dk_132 10 1 (dk_at dksX1_common_2_15 20 rfl rfl)
theorem dX1_common_2_376 : decode cX1_common_2 376 = .ok (.goto (-136), 3) := dk_167 255 120 (dk_at dksX1_common_2_16 0 rfl rfl)
theorem dX1_common_2_379 : decode cX1_common_2 379 = .ok (.aload_n 0, 1) := dk_42 (dk_at dksX1_common_2_16 3 rfl rfl)
theorem dX1_common_2_380 : decode cX1_common_2 380 = .ok (.aload_n 0, 1) := dk_42 (dk_at dksX1_common_2_16 4 rfl rfl)
theorem dX1_common_2_381 : decode cX1_common_2 381 = .ok (.aload 8, 2) := dk_25 8 (dk_at dksX1_common_2_16 5 rfl rfl)
theorem dX1_common_2_383 : decode cX1_common_2 383 = .ok (.invokevirtual 203, 3) := dk_182 0 203 (dk_at dksX1_common_2_16 7 rfl rfl)
theorem dX1_common_2_386 : decode cX1_common_2 386 = .ok (.invokevirtual 131, 3) := dk_182 0 131 (dk_at dksX1_common_2_16 10 rfl rfl)
theorem dX1_common_2_389 : decode cX1_common_2 389 = .ok (.areturn, 1) := dk_176 (dk_at dksX1_common_2_16 13 rfl rfl)
abbrev cX1_lays_2 : ByteArray := prog_1_method_25_code
def yX1_lays_2 : MethodName := ⟨RX1, "lays", "(LTermDesk$Poly;[[I)[[I"⟩
def dkwX1_lays_2_3 : List UInt8 := [29, 46, 79, 132, 3, 1, 167, 255, 216, 44, 176]
abbrev dktX1_lays_2_3 : List UInt8 := dkwX1_lays_2_3 ++ []
def dkwX1_lays_2_2 : List UInt8 := [180, 0, 69, 29, 46, 3, 184, 0, 3, 50, 43, 180, 0, 69, 29, 46, 4, 184, 0, 3, 43, 180, 0, 76]
abbrev dktX1_lays_2_2 : List UInt8 := dkwX1_lays_2_2 ++ dktX1_lays_2_3
def dkwX1_lays_2_1 : List UInt8 := [3, 184, 0, 17, 132, 5, 1, 167, 255, 234, 3, 62, 29, 43, 180, 0, 62, 162, 0, 38, 44, 43]
abbrev dktX1_lays_2_1 : List UInt8 := dkwX1_lays_2_1 ++ dktX1_lays_2_2
def dkwX1_lays_2_0 : List UInt8 := [44, 78, 45, 190, 54, 4, 3, 54, 5, 21, 5, 21, 4, 162, 0, 21, 45, 21, 5, 50, 58, 6, 25, 6]
abbrev dktX1_lays_2_0 : List UInt8 := dkwX1_lays_2_0 ++ dktX1_lays_2_1
theorem dksX1_lays_2_0 : cX1_lays_2.data.toList.drop 0 = dktX1_lays_2_0 := by decide +kernel
theorem dksX1_lays_2_1 : cX1_lays_2.data.toList.drop 24 = dktX1_lays_2_1 := dk_seg dksX1_lays_2_0 24 rfl rfl
theorem dksX1_lays_2_2 : cX1_lays_2.data.toList.drop 46 = dktX1_lays_2_2 := dk_seg dksX1_lays_2_1 22 rfl rfl
theorem dksX1_lays_2_3 : cX1_lays_2.data.toList.drop 70 = dktX1_lays_2_3 := dk_seg dksX1_lays_2_2 24 rfl rfl
theorem dX1_lays_2_0 : decode cX1_lays_2 0 = .ok (.aload_n 2, 1) := dk_44 (dk_at dksX1_lays_2_0 0 rfl rfl)
theorem dX1_lays_2_1 : decode cX1_lays_2 1 = .ok (.astore_n 3, 1) := dk_78 (dk_at dksX1_lays_2_0 1 rfl rfl)
theorem dX1_lays_2_2 : decode cX1_lays_2 2 = .ok (.aload_n 3, 1) := dk_45 (dk_at dksX1_lays_2_0 2 rfl rfl)
theorem dX1_lays_2_3 : decode cX1_lays_2 3 = .ok (.arraylength, 1) := dk_190 (dk_at dksX1_lays_2_0 3 rfl rfl)
theorem dX1_lays_2_4 : decode cX1_lays_2 4 = .ok (.istore 4, 2) := dk_54 4 (dk_at dksX1_lays_2_0 4 rfl rfl)
theorem dX1_lays_2_6 : decode cX1_lays_2 6 = .ok (.iconst 0, 1) := dk_3 (dk_at dksX1_lays_2_0 6 rfl rfl)
theorem dX1_lays_2_7 : decode cX1_lays_2 7 = .ok (.istore 5, 2) := dk_54 5 (dk_at dksX1_lays_2_0 7 rfl rfl)
theorem dX1_lays_2_9 : decode cX1_lays_2 9 = .ok (.iload 5, 2) := dk_21 5 (dk_at dksX1_lays_2_0 9 rfl rfl)
theorem dX1_lays_2_11 : decode cX1_lays_2 11 = .ok (.iload 4, 2) := dk_21 4 (dk_at dksX1_lays_2_0 11 rfl rfl)
theorem dX1_lays_2_13 : decode cX1_lays_2 13 = .ok (.if_icmp .ge 21, 3) := dk_162 0 21 (dk_at dksX1_lays_2_0 13 rfl rfl)
theorem dX1_lays_2_16 : decode cX1_lays_2 16 = .ok (.aload_n 3, 1) := dk_45 (dk_at dksX1_lays_2_0 16 rfl rfl)
theorem dX1_lays_2_17 : decode cX1_lays_2 17 = .ok (.iload 5, 2) := dk_21 5 (dk_at dksX1_lays_2_0 17 rfl rfl)
theorem dX1_lays_2_19 : decode cX1_lays_2 19 = .ok (.aaload, 1) := dk_50 (dk_at dksX1_lays_2_0 19 rfl rfl)
theorem dX1_lays_2_20 : decode cX1_lays_2 20 = .ok (.astore 6, 2) := dk_58 6 (dk_at dksX1_lays_2_0 20 rfl rfl)
theorem dX1_lays_2_22 : decode cX1_lays_2 22 = .ok (.aload 6, 2) := dk_25 6 (dk_at dksX1_lays_2_0 22 rfl rfl)
theorem dX1_lays_2_24 : decode cX1_lays_2 24 = .ok (.iconst 0, 1) := dk_3 (dk_at dksX1_lays_2_1 0 rfl rfl)
theorem dX1_lays_2_25 : decode cX1_lays_2 25 = .ok (.invokestatic 17, 3) := dk_184 0 17 (dk_at dksX1_lays_2_1 1 rfl rfl)
theorem dX1_lays_2_28 : decode cX1_lays_2 28 = .ok (.iinc 5 1, 3) := dk_132 5 1 (dk_at dksX1_lays_2_1 4 rfl rfl)
theorem dX1_lays_2_31 : decode cX1_lays_2 31 = .ok (.goto (-22), 3) := dk_167 255 234 (dk_at dksX1_lays_2_1 7 rfl rfl)
theorem dX1_lays_2_34 : decode cX1_lays_2 34 = .ok (.iconst 0, 1) := dk_3 (dk_at dksX1_lays_2_1 10 rfl rfl)
theorem dX1_lays_2_35 : decode cX1_lays_2 35 = .ok (.istore_n 3, 1) := dk_62 (dk_at dksX1_lays_2_1 11 rfl rfl)
theorem dX1_lays_2_36 : decode cX1_lays_2 36 = .ok (.iload_n 3, 1) := dk_29 (dk_at dksX1_lays_2_1 12 rfl rfl)
theorem dX1_lays_2_37 : decode cX1_lays_2 37 = .ok (.aload_n 1, 1) := dk_43 (dk_at dksX1_lays_2_1 13 rfl rfl)
theorem dX1_lays_2_38 : decode cX1_lays_2 38 = .ok (.getfield 62, 3) := dk_180 0 62 (dk_at dksX1_lays_2_1 14 rfl rfl)
theorem dX1_lays_2_41 : decode cX1_lays_2 41 = .ok (.if_icmp .ge 38, 3) := dk_162 0 38 (dk_at dksX1_lays_2_1 17 rfl rfl)
theorem dX1_lays_2_44 : decode cX1_lays_2 44 = .ok (.aload_n 2, 1) := dk_44 (dk_at dksX1_lays_2_1 20 rfl rfl)
theorem dX1_lays_2_45 : decode cX1_lays_2 45 = .ok (.aload_n 1, 1) := dk_43 (dk_at dksX1_lays_2_1 21 rfl rfl)
theorem dX1_lays_2_46 : decode cX1_lays_2 46 = .ok (.getfield 69, 3) := dk_180 0 69 (dk_at dksX1_lays_2_2 0 rfl rfl)
theorem dX1_lays_2_49 : decode cX1_lays_2 49 = .ok (.iload_n 3, 1) := dk_29 (dk_at dksX1_lays_2_2 3 rfl rfl)
theorem dX1_lays_2_50 : decode cX1_lays_2 50 = .ok (.iaload, 1) := dk_46 (dk_at dksX1_lays_2_2 4 rfl rfl)
theorem dX1_lays_2_51 : decode cX1_lays_2 51 = .ok (.iconst 0, 1) := dk_3 (dk_at dksX1_lays_2_2 5 rfl rfl)
theorem dX1_lays_2_52 : decode cX1_lays_2 52 = .ok (.invokestatic 3, 3) := dk_184 0 3 (dk_at dksX1_lays_2_2 6 rfl rfl)
theorem dX1_lays_2_55 : decode cX1_lays_2 55 = .ok (.aaload, 1) := dk_50 (dk_at dksX1_lays_2_2 9 rfl rfl)
theorem dX1_lays_2_56 : decode cX1_lays_2 56 = .ok (.aload_n 1, 1) := dk_43 (dk_at dksX1_lays_2_2 10 rfl rfl)
theorem dX1_lays_2_57 : decode cX1_lays_2 57 = .ok (.getfield 69, 3) := dk_180 0 69 (dk_at dksX1_lays_2_2 11 rfl rfl)
theorem dX1_lays_2_60 : decode cX1_lays_2 60 = .ok (.iload_n 3, 1) := dk_29 (dk_at dksX1_lays_2_2 14 rfl rfl)
theorem dX1_lays_2_61 : decode cX1_lays_2 61 = .ok (.iaload, 1) := dk_46 (dk_at dksX1_lays_2_2 15 rfl rfl)
theorem dX1_lays_2_62 : decode cX1_lays_2 62 = .ok (.iconst 1, 1) := dk_4 (dk_at dksX1_lays_2_2 16 rfl rfl)
theorem dX1_lays_2_63 : decode cX1_lays_2 63 = .ok (.invokestatic 3, 3) := dk_184 0 3 (dk_at dksX1_lays_2_2 17 rfl rfl)
theorem dX1_lays_2_66 : decode cX1_lays_2 66 = .ok (.aload_n 1, 1) := dk_43 (dk_at dksX1_lays_2_2 20 rfl rfl)
theorem dX1_lays_2_67 : decode cX1_lays_2 67 = .ok (.getfield 76, 3) := dk_180 0 76 (dk_at dksX1_lays_2_2 21 rfl rfl)
theorem dX1_lays_2_70 : decode cX1_lays_2 70 = .ok (.iload_n 3, 1) := dk_29 (dk_at dksX1_lays_2_3 0 rfl rfl)
theorem dX1_lays_2_71 : decode cX1_lays_2 71 = .ok (.iaload, 1) := dk_46 (dk_at dksX1_lays_2_3 1 rfl rfl)
theorem dX1_lays_2_72 : decode cX1_lays_2 72 = .ok (.iastore, 1) := dk_79 (dk_at dksX1_lays_2_3 2 rfl rfl)
theorem dX1_lays_2_73 : decode cX1_lays_2 73 = .ok (.iinc 3 1, 3) := dk_132 3 1 (dk_at dksX1_lays_2_3 3 rfl rfl)
theorem dX1_lays_2_76 : decode cX1_lays_2 76 = .ok (.goto (-40), 3) := dk_167 255 216 (dk_at dksX1_lays_2_3 6 rfl rfl)
theorem dX1_lays_2_79 : decode cX1_lays_2 79 = .ok (.aload_n 2, 1) := dk_44 (dk_at dksX1_lays_2_3 9 rfl rfl)
theorem dX1_lays_2_80 : decode cX1_lays_2 80 = .ok (.areturn, 1) := dk_176 (dk_at dksX1_lays_2_3 10 rfl rfl)
abbrev cX1_primitive : ByteArray := prog_1_method_27_code
def yX1_primitive : MethodName := ⟨RX1, "primitive", "([[I)[I"⟩
def dkwX1_primitive_2 : List UInt8 := [132, 6, 1, 167, 255, 232, 44, 29, 4, 96, 184, 0, 167, 176]
abbrev dktX1_primitive_2 : List UInt8 := dkwX1_primitive_2 ++ []
def dkwX1_primitive_1 : List UInt8 := [54, 6, 21, 6, 21, 5, 162, 0, 23, 25, 4, 21, 6, 50, 58, 7, 42, 25, 7, 44, 182, 0, 164]
abbrev dktX1_primitive_1 : List UInt8 := dkwX1_primitive_1 ++ dktX1_primitive_2
def dkwX1_primitive_0 : List UInt8 := [42, 43, 182, 0, 160, 77, 44, 184, 0, 135, 62, 29, 158, 0, 41, 43, 58, 4, 25, 4, 190, 54, 5, 3]
abbrev dktX1_primitive_0 : List UInt8 := dkwX1_primitive_0 ++ dktX1_primitive_1
theorem dksX1_primitive_0 : cX1_primitive.data.toList.drop 0 = dktX1_primitive_0 := by decide +kernel
theorem dksX1_primitive_1 : cX1_primitive.data.toList.drop 24 = dktX1_primitive_1 := dk_seg dksX1_primitive_0 24 rfl rfl
theorem dksX1_primitive_2 : cX1_primitive.data.toList.drop 47 = dktX1_primitive_2 := dk_seg dksX1_primitive_1 23 rfl rfl
theorem dX1_primitive_0 : decode cX1_primitive 0 = .ok (.aload_n 0, 1) := dk_42 (dk_at dksX1_primitive_0 0 rfl rfl)
theorem dX1_primitive_1 : decode cX1_primitive 1 = .ok (.aload_n 1, 1) := dk_43 (dk_at dksX1_primitive_0 1 rfl rfl)
theorem dX1_primitive_2 : decode cX1_primitive 2 = .ok (.invokevirtual 160, 3) := dk_182 0 160 (dk_at dksX1_primitive_0 2 rfl rfl)
theorem dX1_primitive_5 : decode cX1_primitive 5 = .ok (.astore_n 2, 1) := dk_77 (dk_at dksX1_primitive_0 5 rfl rfl)
theorem dX1_primitive_6 : decode cX1_primitive 6 = .ok (.aload_n 2, 1) := dk_44 (dk_at dksX1_primitive_0 6 rfl rfl)
theorem dX1_primitive_7 : decode cX1_primitive 7 = .ok (.invokestatic 135, 3) := dk_184 0 135 (dk_at dksX1_primitive_0 7 rfl rfl)
theorem dX1_primitive_10 : decode cX1_primitive 10 = .ok (.istore_n 3, 1) := dk_62 (dk_at dksX1_primitive_0 10 rfl rfl)
theorem dX1_primitive_11 : decode cX1_primitive 11 = .ok (.iload_n 3, 1) := dk_29 (dk_at dksX1_primitive_0 11 rfl rfl)
theorem dX1_primitive_12 : decode cX1_primitive 12 = .ok (.ifCond .le 41, 3) := dk_158 0 41 (dk_at dksX1_primitive_0 12 rfl rfl)
theorem dX1_primitive_15 : decode cX1_primitive 15 = .ok (.aload_n 1, 1) := dk_43 (dk_at dksX1_primitive_0 15 rfl rfl)
theorem dX1_primitive_16 : decode cX1_primitive 16 = .ok (.astore 4, 2) := dk_58 4 (dk_at dksX1_primitive_0 16 rfl rfl)
theorem dX1_primitive_18 : decode cX1_primitive 18 = .ok (.aload 4, 2) := dk_25 4 (dk_at dksX1_primitive_0 18 rfl rfl)
theorem dX1_primitive_20 : decode cX1_primitive 20 = .ok (.arraylength, 1) := dk_190 (dk_at dksX1_primitive_0 20 rfl rfl)
theorem dX1_primitive_21 : decode cX1_primitive 21 = .ok (.istore 5, 2) := dk_54 5 (dk_at dksX1_primitive_0 21 rfl rfl)
theorem dX1_primitive_23 : decode cX1_primitive 23 = .ok (.iconst 0, 1) := dk_3 (dk_at dksX1_primitive_0 23 rfl rfl)
theorem dX1_primitive_24 : decode cX1_primitive 24 = .ok (.istore 6, 2) := dk_54 6 (dk_at dksX1_primitive_1 0 rfl rfl)
theorem dX1_primitive_26 : decode cX1_primitive 26 = .ok (.iload 6, 2) := dk_21 6 (dk_at dksX1_primitive_1 2 rfl rfl)
theorem dX1_primitive_28 : decode cX1_primitive 28 = .ok (.iload 5, 2) := dk_21 5 (dk_at dksX1_primitive_1 4 rfl rfl)
theorem dX1_primitive_30 : decode cX1_primitive 30 = .ok (.if_icmp .ge 23, 3) := dk_162 0 23 (dk_at dksX1_primitive_1 6 rfl rfl)
theorem dX1_primitive_33 : decode cX1_primitive 33 = .ok (.aload 4, 2) := dk_25 4 (dk_at dksX1_primitive_1 9 rfl rfl)
theorem dX1_primitive_35 : decode cX1_primitive 35 = .ok (.iload 6, 2) := dk_21 6 (dk_at dksX1_primitive_1 11 rfl rfl)
theorem dX1_primitive_37 : decode cX1_primitive 37 = .ok (.aaload, 1) := dk_50 (dk_at dksX1_primitive_1 13 rfl rfl)
theorem dX1_primitive_38 : decode cX1_primitive 38 = .ok (.astore 7, 2) := dk_58 7 (dk_at dksX1_primitive_1 14 rfl rfl)
theorem dX1_primitive_40 : decode cX1_primitive 40 = .ok (.aload_n 0, 1) := dk_42 (dk_at dksX1_primitive_1 16 rfl rfl)
theorem dX1_primitive_41 : decode cX1_primitive 41 = .ok (.aload 7, 2) := dk_25 7 (dk_at dksX1_primitive_1 17 rfl rfl)
theorem dX1_primitive_43 : decode cX1_primitive 43 = .ok (.aload_n 2, 1) := dk_44 (dk_at dksX1_primitive_1 19 rfl rfl)
theorem dX1_primitive_44 : decode cX1_primitive 44 = .ok (.invokevirtual 164, 3) := dk_182 0 164 (dk_at dksX1_primitive_1 20 rfl rfl)
theorem dX1_primitive_47 : decode cX1_primitive 47 = .ok (.iinc 6 1, 3) := dk_132 6 1 (dk_at dksX1_primitive_2 0 rfl rfl)
theorem dX1_primitive_50 : decode cX1_primitive 50 = .ok (.goto (-24), 3) := dk_167 255 232 (dk_at dksX1_primitive_2 3 rfl rfl)
theorem dX1_primitive_53 : decode cX1_primitive 53 = .ok (.aload_n 2, 1) := dk_44 (dk_at dksX1_primitive_2 6 rfl rfl)
theorem dX1_primitive_54 : decode cX1_primitive 54 = .ok (.iload_n 3, 1) := dk_29 (dk_at dksX1_primitive_2 7 rfl rfl)
theorem dX1_primitive_55 : decode cX1_primitive 55 = .ok (.iconst 1, 1) := dk_4 (dk_at dksX1_primitive_2 8 rfl rfl)
theorem dX1_primitive_56 : decode cX1_primitive 56 = .ok (.iadd, 1) := dk_96 (dk_at dksX1_primitive_2 9 rfl rfl)
theorem dX1_primitive_57 : decode cX1_primitive 57 = .ok (.invokestatic 167, 3) := dk_184 0 167 (dk_at dksX1_primitive_2 10 rfl rfl)
theorem dX1_primitive_60 : decode cX1_primitive 60 = .ok (.areturn, 1) := dk_176 (dk_at dksX1_primitive_2 13 rfl rfl)
abbrev cX1_contentOf : ByteArray := prog_1_method_24_code
def yX1_contentOf : MethodName := ⟨RX1, "contentOf", "([[I)[I"⟩
def dkwX1_contentOf_6 : List UInt8 := [167, 255, 230, 44, 176]
abbrev dktX1_contentOf_6 : List UInt8 := dkwX1_contentOf_6 ++ []
def dkwX1_contentOf_5 : List UInt8 := [21, 4, 163, 0, 25, 44, 21, 6, 44, 21, 6, 46, 21, 5, 104, 42, 180, 0, 23, 112, 79, 132, 6, 1]
abbrev dktX1_contentOf_5 : List UInt8 := dkwX1_contentOf_5 ++ dktX1_contentOf_6
def dkwX1_contentOf_4 : List UInt8 := [156, 0, 7, 3, 167, 0, 12, 42, 180, 0, 43, 44, 21, 4, 46, 46, 54, 5, 3, 54, 6, 21, 6]
abbrev dktX1_contentOf_4 : List UInt8 := dkwX1_contentOf_4 ++ dktX1_contentOf_5
def dkwX1_contentOf_3 : List UInt8 := [58, 8, 45, 77, 25, 8, 78, 167, 255, 228, 132, 6, 1, 167, 255, 197, 44, 184, 0, 135, 54, 4, 21, 4]
abbrev dktX1_contentOf_3 : List UInt8 := dkwX1_contentOf_3 ++ dktX1_contentOf_4
def dkwX1_contentOf_2 : List UInt8 := [184, 0, 144, 45, 184, 0, 135, 155, 0, 27, 44, 184, 0, 135, 155, 0, 9, 42, 44, 45, 182, 0, 156, 44]
abbrev dktX1_contentOf_2 : List UInt8 := dkwX1_contentOf_2 ++ dktX1_contentOf_3
def dkwX1_contentOf_1 : List UInt8 := [54, 6, 21, 6, 21, 5, 162, 0, 58, 25, 4, 21, 6, 50, 58, 7, 25, 7, 3, 45, 3, 17, 9, 0]
abbrev dktX1_contentOf_1 : List UInt8 := dkwX1_contentOf_1 ++ dktX1_contentOf_2
def dkwX1_contentOf_0 : List UInt8 := [42, 180, 0, 150, 77, 42, 180, 0, 153, 78, 44, 3, 184, 0, 17, 43, 58, 4, 25, 4, 190, 54, 5, 3]
abbrev dktX1_contentOf_0 : List UInt8 := dkwX1_contentOf_0 ++ dktX1_contentOf_1
theorem dksX1_contentOf_0 : cX1_contentOf.data.toList.drop 0 = dktX1_contentOf_0 := by decide +kernel
theorem dksX1_contentOf_1 : cX1_contentOf.data.toList.drop 24 = dktX1_contentOf_1 := dk_seg dksX1_contentOf_0 24 rfl rfl
theorem dksX1_contentOf_2 : cX1_contentOf.data.toList.drop 48 = dktX1_contentOf_2 := dk_seg dksX1_contentOf_1 24 rfl rfl
theorem dksX1_contentOf_3 : cX1_contentOf.data.toList.drop 72 = dktX1_contentOf_3 := dk_seg dksX1_contentOf_2 24 rfl rfl
theorem dksX1_contentOf_4 : cX1_contentOf.data.toList.drop 96 = dktX1_contentOf_4 := dk_seg dksX1_contentOf_3 24 rfl rfl
theorem dksX1_contentOf_5 : cX1_contentOf.data.toList.drop 119 = dktX1_contentOf_5 := dk_seg dksX1_contentOf_4 23 rfl rfl
theorem dksX1_contentOf_6 : cX1_contentOf.data.toList.drop 143 = dktX1_contentOf_6 := dk_seg dksX1_contentOf_5 24 rfl rfl
theorem dX1_contentOf_0 : decode cX1_contentOf 0 = .ok (.aload_n 0, 1) := dk_42 (dk_at dksX1_contentOf_0 0 rfl rfl)
theorem dX1_contentOf_1 : decode cX1_contentOf 1 = .ok (.getfield 150, 3) := dk_180 0 150 (dk_at dksX1_contentOf_0 1 rfl rfl)
theorem dX1_contentOf_4 : decode cX1_contentOf 4 = .ok (.astore_n 2, 1) := dk_77 (dk_at dksX1_contentOf_0 4 rfl rfl)
theorem dX1_contentOf_5 : decode cX1_contentOf 5 = .ok (.aload_n 0, 1) := dk_42 (dk_at dksX1_contentOf_0 5 rfl rfl)
theorem dX1_contentOf_6 : decode cX1_contentOf 6 = .ok (.getfield 153, 3) := dk_180 0 153 (dk_at dksX1_contentOf_0 6 rfl rfl)
theorem dX1_contentOf_9 : decode cX1_contentOf 9 = .ok (.astore_n 3, 1) := dk_78 (dk_at dksX1_contentOf_0 9 rfl rfl)
theorem dX1_contentOf_10 : decode cX1_contentOf 10 = .ok (.aload_n 2, 1) := dk_44 (dk_at dksX1_contentOf_0 10 rfl rfl)
theorem dX1_contentOf_11 : decode cX1_contentOf 11 = .ok (.iconst 0, 1) := dk_3 (dk_at dksX1_contentOf_0 11 rfl rfl)
theorem dX1_contentOf_12 : decode cX1_contentOf 12 = .ok (.invokestatic 17, 3) := dk_184 0 17 (dk_at dksX1_contentOf_0 12 rfl rfl)
theorem dX1_contentOf_15 : decode cX1_contentOf 15 = .ok (.aload_n 1, 1) := dk_43 (dk_at dksX1_contentOf_0 15 rfl rfl)
theorem dX1_contentOf_16 : decode cX1_contentOf 16 = .ok (.astore 4, 2) := dk_58 4 (dk_at dksX1_contentOf_0 16 rfl rfl)
theorem dX1_contentOf_18 : decode cX1_contentOf 18 = .ok (.aload 4, 2) := dk_25 4 (dk_at dksX1_contentOf_0 18 rfl rfl)
theorem dX1_contentOf_20 : decode cX1_contentOf 20 = .ok (.arraylength, 1) := dk_190 (dk_at dksX1_contentOf_0 20 rfl rfl)
theorem dX1_contentOf_21 : decode cX1_contentOf 21 = .ok (.istore 5, 2) := dk_54 5 (dk_at dksX1_contentOf_0 21 rfl rfl)
theorem dX1_contentOf_23 : decode cX1_contentOf 23 = .ok (.iconst 0, 1) := dk_3 (dk_at dksX1_contentOf_0 23 rfl rfl)
theorem dX1_contentOf_24 : decode cX1_contentOf 24 = .ok (.istore 6, 2) := dk_54 6 (dk_at dksX1_contentOf_1 0 rfl rfl)
theorem dX1_contentOf_26 : decode cX1_contentOf 26 = .ok (.iload 6, 2) := dk_21 6 (dk_at dksX1_contentOf_1 2 rfl rfl)
theorem dX1_contentOf_28 : decode cX1_contentOf 28 = .ok (.iload 5, 2) := dk_21 5 (dk_at dksX1_contentOf_1 4 rfl rfl)
theorem dX1_contentOf_30 : decode cX1_contentOf 30 = .ok (.if_icmp .ge 58, 3) := dk_162 0 58 (dk_at dksX1_contentOf_1 6 rfl rfl)
theorem dX1_contentOf_33 : decode cX1_contentOf 33 = .ok (.aload 4, 2) := dk_25 4 (dk_at dksX1_contentOf_1 9 rfl rfl)
theorem dX1_contentOf_35 : decode cX1_contentOf 35 = .ok (.iload 6, 2) := dk_21 6 (dk_at dksX1_contentOf_1 11 rfl rfl)
theorem dX1_contentOf_37 : decode cX1_contentOf 37 = .ok (.aaload, 1) := dk_50 (dk_at dksX1_contentOf_1 13 rfl rfl)
theorem dX1_contentOf_38 : decode cX1_contentOf 38 = .ok (.astore 7, 2) := dk_58 7 (dk_at dksX1_contentOf_1 14 rfl rfl)
theorem dX1_contentOf_40 : decode cX1_contentOf 40 = .ok (.aload 7, 2) := dk_25 7 (dk_at dksX1_contentOf_1 16 rfl rfl)
theorem dX1_contentOf_42 : decode cX1_contentOf 42 = .ok (.iconst 0, 1) := dk_3 (dk_at dksX1_contentOf_1 18 rfl rfl)
theorem dX1_contentOf_43 : decode cX1_contentOf 43 = .ok (.aload_n 3, 1) := dk_45 (dk_at dksX1_contentOf_1 19 rfl rfl)
theorem dX1_contentOf_44 : decode cX1_contentOf 44 = .ok (.iconst 0, 1) := dk_3 (dk_at dksX1_contentOf_1 20 rfl rfl)
theorem dX1_contentOf_45 : decode cX1_contentOf 45 = .ok (.sipush 2304, 3) := dk_17 9 0 (dk_at dksX1_contentOf_1 21 rfl rfl)
theorem dX1_contentOf_48 : decode cX1_contentOf 48 = .ok (.invokestatic 144, 3) := dk_184 0 144 (dk_at dksX1_contentOf_2 0 rfl rfl)
theorem dX1_contentOf_51 : decode cX1_contentOf 51 = .ok (.aload_n 3, 1) := dk_45 (dk_at dksX1_contentOf_2 3 rfl rfl)
theorem dX1_contentOf_52 : decode cX1_contentOf 52 = .ok (.invokestatic 135, 3) := dk_184 0 135 (dk_at dksX1_contentOf_2 4 rfl rfl)
theorem dX1_contentOf_55 : decode cX1_contentOf 55 = .ok (.ifCond .lt 27, 3) := dk_155 0 27 (dk_at dksX1_contentOf_2 7 rfl rfl)
theorem dX1_contentOf_58 : decode cX1_contentOf 58 = .ok (.aload_n 2, 1) := dk_44 (dk_at dksX1_contentOf_2 10 rfl rfl)
theorem dX1_contentOf_59 : decode cX1_contentOf 59 = .ok (.invokestatic 135, 3) := dk_184 0 135 (dk_at dksX1_contentOf_2 11 rfl rfl)
theorem dX1_contentOf_62 : decode cX1_contentOf 62 = .ok (.ifCond .lt 9, 3) := dk_155 0 9 (dk_at dksX1_contentOf_2 14 rfl rfl)
theorem dX1_contentOf_65 : decode cX1_contentOf 65 = .ok (.aload_n 0, 1) := dk_42 (dk_at dksX1_contentOf_2 17 rfl rfl)
theorem dX1_contentOf_66 : decode cX1_contentOf 66 = .ok (.aload_n 2, 1) := dk_44 (dk_at dksX1_contentOf_2 18 rfl rfl)
theorem dX1_contentOf_67 : decode cX1_contentOf 67 = .ok (.aload_n 3, 1) := dk_45 (dk_at dksX1_contentOf_2 19 rfl rfl)
theorem dX1_contentOf_68 : decode cX1_contentOf 68 = .ok (.invokevirtual 156, 3) := dk_182 0 156 (dk_at dksX1_contentOf_2 20 rfl rfl)
theorem dX1_contentOf_71 : decode cX1_contentOf 71 = .ok (.aload_n 2, 1) := dk_44 (dk_at dksX1_contentOf_2 23 rfl rfl)
theorem dX1_contentOf_72 : decode cX1_contentOf 72 = .ok (.astore 8, 2) := dk_58 8 (dk_at dksX1_contentOf_3 0 rfl rfl)
theorem dX1_contentOf_74 : decode cX1_contentOf 74 = .ok (.aload_n 3, 1) := dk_45 (dk_at dksX1_contentOf_3 2 rfl rfl)
theorem dX1_contentOf_75 : decode cX1_contentOf 75 = .ok (.astore_n 2, 1) := dk_77 (dk_at dksX1_contentOf_3 3 rfl rfl)
theorem dX1_contentOf_76 : decode cX1_contentOf 76 = .ok (.aload 8, 2) := dk_25 8 (dk_at dksX1_contentOf_3 4 rfl rfl)
theorem dX1_contentOf_78 : decode cX1_contentOf 78 = .ok (.astore_n 3, 1) := dk_78 (dk_at dksX1_contentOf_3 6 rfl rfl)
theorem dX1_contentOf_79 : decode cX1_contentOf 79 = .ok (.goto (-28), 3) := dk_167 255 228 (dk_at dksX1_contentOf_3 7 rfl rfl)
theorem dX1_contentOf_82 : decode cX1_contentOf 82 = .ok (.iinc 6 1, 3) := dk_132 6 1 (dk_at dksX1_contentOf_3 10 rfl rfl)
theorem dX1_contentOf_85 : decode cX1_contentOf 85 = .ok (.goto (-59), 3) := dk_167 255 197 (dk_at dksX1_contentOf_3 13 rfl rfl)
theorem dX1_contentOf_88 : decode cX1_contentOf 88 = .ok (.aload_n 2, 1) := dk_44 (dk_at dksX1_contentOf_3 16 rfl rfl)
theorem dX1_contentOf_89 : decode cX1_contentOf 89 = .ok (.invokestatic 135, 3) := dk_184 0 135 (dk_at dksX1_contentOf_3 17 rfl rfl)
theorem dX1_contentOf_92 : decode cX1_contentOf 92 = .ok (.istore 4, 2) := dk_54 4 (dk_at dksX1_contentOf_3 20 rfl rfl)
theorem dX1_contentOf_94 : decode cX1_contentOf 94 = .ok (.iload 4, 2) := dk_21 4 (dk_at dksX1_contentOf_3 22 rfl rfl)
theorem dX1_contentOf_96 : decode cX1_contentOf 96 = .ok (.ifCond .ge 7, 3) := dk_156 0 7 (dk_at dksX1_contentOf_4 0 rfl rfl)
theorem dX1_contentOf_99 : decode cX1_contentOf 99 = .ok (.iconst 0, 1) := dk_3 (dk_at dksX1_contentOf_4 3 rfl rfl)
theorem dX1_contentOf_100 : decode cX1_contentOf 100 = .ok (.goto 12, 3) := dk_167 0 12 (dk_at dksX1_contentOf_4 4 rfl rfl)
theorem dX1_contentOf_103 : decode cX1_contentOf 103 = .ok (.aload_n 0, 1) := dk_42 (dk_at dksX1_contentOf_4 7 rfl rfl)
theorem dX1_contentOf_104 : decode cX1_contentOf 104 = .ok (.getfield 43, 3) := dk_180 0 43 (dk_at dksX1_contentOf_4 8 rfl rfl)
theorem dX1_contentOf_107 : decode cX1_contentOf 107 = .ok (.aload_n 2, 1) := dk_44 (dk_at dksX1_contentOf_4 11 rfl rfl)
theorem dX1_contentOf_108 : decode cX1_contentOf 108 = .ok (.iload 4, 2) := dk_21 4 (dk_at dksX1_contentOf_4 12 rfl rfl)
theorem dX1_contentOf_110 : decode cX1_contentOf 110 = .ok (.iaload, 1) := dk_46 (dk_at dksX1_contentOf_4 14 rfl rfl)
theorem dX1_contentOf_111 : decode cX1_contentOf 111 = .ok (.iaload, 1) := dk_46 (dk_at dksX1_contentOf_4 15 rfl rfl)
theorem dX1_contentOf_112 : decode cX1_contentOf 112 = .ok (.istore 5, 2) := dk_54 5 (dk_at dksX1_contentOf_4 16 rfl rfl)
theorem dX1_contentOf_114 : decode cX1_contentOf 114 = .ok (.iconst 0, 1) := dk_3 (dk_at dksX1_contentOf_4 18 rfl rfl)
theorem dX1_contentOf_115 : decode cX1_contentOf 115 = .ok (.istore 6, 2) := dk_54 6 (dk_at dksX1_contentOf_4 19 rfl rfl)
theorem dX1_contentOf_117 : decode cX1_contentOf 117 = .ok (.iload 6, 2) := dk_21 6 (dk_at dksX1_contentOf_4 21 rfl rfl)
theorem dX1_contentOf_119 : decode cX1_contentOf 119 = .ok (.iload 4, 2) := dk_21 4 (dk_at dksX1_contentOf_5 0 rfl rfl)
theorem dX1_contentOf_121 : decode cX1_contentOf 121 = .ok (.if_icmp .gt 25, 3) := dk_163 0 25 (dk_at dksX1_contentOf_5 2 rfl rfl)
theorem dX1_contentOf_124 : decode cX1_contentOf 124 = .ok (.aload_n 2, 1) := dk_44 (dk_at dksX1_contentOf_5 5 rfl rfl)
theorem dX1_contentOf_125 : decode cX1_contentOf 125 = .ok (.iload 6, 2) := dk_21 6 (dk_at dksX1_contentOf_5 6 rfl rfl)
theorem dX1_contentOf_127 : decode cX1_contentOf 127 = .ok (.aload_n 2, 1) := dk_44 (dk_at dksX1_contentOf_5 8 rfl rfl)
theorem dX1_contentOf_128 : decode cX1_contentOf 128 = .ok (.iload 6, 2) := dk_21 6 (dk_at dksX1_contentOf_5 9 rfl rfl)
theorem dX1_contentOf_130 : decode cX1_contentOf 130 = .ok (.iaload, 1) := dk_46 (dk_at dksX1_contentOf_5 11 rfl rfl)
theorem dX1_contentOf_131 : decode cX1_contentOf 131 = .ok (.iload 5, 2) := dk_21 5 (dk_at dksX1_contentOf_5 12 rfl rfl)
theorem dX1_contentOf_133 : decode cX1_contentOf 133 = .ok (.imul, 1) := dk_104 (dk_at dksX1_contentOf_5 14 rfl rfl)
theorem dX1_contentOf_134 : decode cX1_contentOf 134 = .ok (.aload_n 0, 1) := dk_42 (dk_at dksX1_contentOf_5 15 rfl rfl)
theorem dX1_contentOf_135 : decode cX1_contentOf 135 = .ok (.getfield 23, 3) := dk_180 0 23 (dk_at dksX1_contentOf_5 16 rfl rfl)
theorem dX1_contentOf_138 : decode cX1_contentOf 138 = .ok (.irem, 1) := dk_112 (dk_at dksX1_contentOf_5 19 rfl rfl)
theorem dX1_contentOf_139 : decode cX1_contentOf 139 = .ok (.iastore, 1) := dk_79 (dk_at dksX1_contentOf_5 20 rfl rfl)
theorem dX1_contentOf_140 : decode cX1_contentOf 140 = .ok (.iinc 6 1, 3) := dk_132 6 1 (dk_at dksX1_contentOf_5 21 rfl rfl)
theorem dX1_contentOf_143 : decode cX1_contentOf 143 = .ok (.goto (-26), 3) := dk_167 255 230 (dk_at dksX1_contentOf_6 0 rfl rfl)
theorem dX1_contentOf_146 : decode cX1_contentOf 146 = .ok (.aload_n 2, 1) := dk_44 (dk_at dksX1_contentOf_6 3 rfl rfl)
theorem dX1_contentOf_147 : decode cX1_contentOf 147 = .ok (.areturn, 1) := dk_176 (dk_at dksX1_contentOf_6 4 rfl rfl)
abbrev cX1_top : ByteArray := prog_1_method_21_code
def yX1_top : MethodName := ⟨RX1, "top", "([I)I"⟩
def dkwX1_top_0 : List UInt8 := [42, 190, 4, 100, 60, 27, 155, 0, 15, 42, 27, 46, 154, 0, 9, 132, 1, 255, 167, 255, 243, 27, 172]
abbrev dktX1_top_0 : List UInt8 := dkwX1_top_0 ++ []
theorem dksX1_top_0 : cX1_top.data.toList.drop 0 = dktX1_top_0 := by decide +kernel
theorem dX1_top_0 : decode cX1_top 0 = .ok (.aload_n 0, 1) := dk_42 (dk_at dksX1_top_0 0 rfl rfl)
theorem dX1_top_1 : decode cX1_top 1 = .ok (.arraylength, 1) := dk_190 (dk_at dksX1_top_0 1 rfl rfl)
theorem dX1_top_2 : decode cX1_top 2 = .ok (.iconst 1, 1) := dk_4 (dk_at dksX1_top_0 2 rfl rfl)
theorem dX1_top_3 : decode cX1_top 3 = .ok (.isub, 1) := dk_100 (dk_at dksX1_top_0 3 rfl rfl)
theorem dX1_top_4 : decode cX1_top 4 = .ok (.istore_n 1, 1) := dk_60 (dk_at dksX1_top_0 4 rfl rfl)
theorem dX1_top_5 : decode cX1_top 5 = .ok (.iload_n 1, 1) := dk_27 (dk_at dksX1_top_0 5 rfl rfl)
theorem dX1_top_6 : decode cX1_top 6 = .ok (.ifCond .lt 15, 3) := dk_155 0 15 (dk_at dksX1_top_0 6 rfl rfl)
theorem dX1_top_9 : decode cX1_top 9 = .ok (.aload_n 0, 1) := dk_42 (dk_at dksX1_top_0 9 rfl rfl)
theorem dX1_top_10 : decode cX1_top 10 = .ok (.iload_n 1, 1) := dk_27 (dk_at dksX1_top_0 10 rfl rfl)
theorem dX1_top_11 : decode cX1_top 11 = .ok (.iaload, 1) := dk_46 (dk_at dksX1_top_0 11 rfl rfl)
theorem dX1_top_12 : decode cX1_top 12 = .ok (.ifCond .ne 9, 3) := dk_154 0 9 (dk_at dksX1_top_0 12 rfl rfl)
theorem dX1_top_15 : decode cX1_top 15 = .ok (.iinc 1 (-1), 3) := dk_132 1 255 (dk_at dksX1_top_0 15 rfl rfl)
theorem dX1_top_18 : decode cX1_top 18 = .ok (.goto (-13), 3) := dk_167 255 243 (dk_at dksX1_top_0 18 rfl rfl)
theorem dX1_top_21 : decode cX1_top 21 = .ok (.iload_n 1, 1) := dk_27 (dk_at dksX1_top_0 21 rfl rfl)
theorem dX1_top_22 : decode cX1_top 22 = .ok (.ireturn, 1) := dk_172 (dk_at dksX1_top_0 22 rfl rfl)
abbrev cX1_leaves_2 : ByteArray := prog_1_method_22_code
def yX1_leaves_2 : MethodName := ⟨RX1, "leaves", "([I[I)V"⟩
def dkwX1_leaves_2_4 : List UInt8 := [177]
abbrev dktX1_leaves_2_4 : List UInt8 := dkwX1_leaves_2_4 ++ []
def dkwX1_leaves_2_3 : List UInt8 := [21, 5, 44, 21, 6, 46, 104, 100, 182, 0, 138, 79, 132, 6, 1, 167, 255, 212, 132, 4, 255, 167, 255, 177]
abbrev dktX1_leaves_2_3 : List UInt8 := dkwX1_leaves_2_3 ++ dktX1_leaves_2_4
def dkwX1_leaves_2_2 : List UInt8 := [21, 5, 153, 0, 39, 43, 21, 4, 29, 100, 21, 6, 96, 42, 43, 21, 4, 29, 100, 21, 6, 96, 46]
abbrev dktX1_leaves_2_2 : List UInt8 := dkwX1_leaves_2_2 ++ dktX1_leaves_2_3
def dkwX1_leaves_2_1 : List UInt8 := [180, 0, 43, 44, 29, 46, 46, 104, 42, 180, 0, 23, 112, 54, 5, 3, 54, 6, 21, 6, 29, 163, 0, 44]
abbrev dktX1_leaves_2_1 : List UInt8 := dkwX1_leaves_2_1 ++ dktX1_leaves_2_2
def dkwX1_leaves_2_0 : List UInt8 := [44, 184, 0, 135, 62, 43, 184, 0, 135, 54, 4, 21, 4, 29, 161, 0, 79, 43, 21, 4, 46, 42]
abbrev dktX1_leaves_2_0 : List UInt8 := dkwX1_leaves_2_0 ++ dktX1_leaves_2_1
theorem dksX1_leaves_2_0 : cX1_leaves_2.data.toList.drop 0 = dktX1_leaves_2_0 := by decide +kernel
theorem dksX1_leaves_2_1 : cX1_leaves_2.data.toList.drop 22 = dktX1_leaves_2_1 := dk_seg dksX1_leaves_2_0 22 rfl rfl
theorem dksX1_leaves_2_2 : cX1_leaves_2.data.toList.drop 46 = dktX1_leaves_2_2 := dk_seg dksX1_leaves_2_1 24 rfl rfl
theorem dksX1_leaves_2_3 : cX1_leaves_2.data.toList.drop 69 = dktX1_leaves_2_3 := dk_seg dksX1_leaves_2_2 23 rfl rfl
theorem dksX1_leaves_2_4 : cX1_leaves_2.data.toList.drop 93 = dktX1_leaves_2_4 := dk_seg dksX1_leaves_2_3 24 rfl rfl
theorem dX1_leaves_2_0 : decode cX1_leaves_2 0 = .ok (.aload_n 2, 1) := dk_44 (dk_at dksX1_leaves_2_0 0 rfl rfl)
theorem dX1_leaves_2_1 : decode cX1_leaves_2 1 = .ok (.invokestatic 135, 3) := dk_184 0 135 (dk_at dksX1_leaves_2_0 1 rfl rfl)
theorem dX1_leaves_2_4 : decode cX1_leaves_2 4 = .ok (.istore_n 3, 1) := dk_62 (dk_at dksX1_leaves_2_0 4 rfl rfl)
theorem dX1_leaves_2_5 : decode cX1_leaves_2 5 = .ok (.aload_n 1, 1) := dk_43 (dk_at dksX1_leaves_2_0 5 rfl rfl)
theorem dX1_leaves_2_6 : decode cX1_leaves_2 6 = .ok (.invokestatic 135, 3) := dk_184 0 135 (dk_at dksX1_leaves_2_0 6 rfl rfl)
theorem dX1_leaves_2_9 : decode cX1_leaves_2 9 = .ok (.istore 4, 2) := dk_54 4 (dk_at dksX1_leaves_2_0 9 rfl rfl)
theorem dX1_leaves_2_11 : decode cX1_leaves_2 11 = .ok (.iload 4, 2) := dk_21 4 (dk_at dksX1_leaves_2_0 11 rfl rfl)
theorem dX1_leaves_2_13 : decode cX1_leaves_2 13 = .ok (.iload_n 3, 1) := dk_29 (dk_at dksX1_leaves_2_0 13 rfl rfl)
theorem dX1_leaves_2_14 : decode cX1_leaves_2 14 = .ok (.if_icmp .lt 79, 3) := dk_161 0 79 (dk_at dksX1_leaves_2_0 14 rfl rfl)
theorem dX1_leaves_2_17 : decode cX1_leaves_2 17 = .ok (.aload_n 1, 1) := dk_43 (dk_at dksX1_leaves_2_0 17 rfl rfl)
theorem dX1_leaves_2_18 : decode cX1_leaves_2 18 = .ok (.iload 4, 2) := dk_21 4 (dk_at dksX1_leaves_2_0 18 rfl rfl)
theorem dX1_leaves_2_20 : decode cX1_leaves_2 20 = .ok (.iaload, 1) := dk_46 (dk_at dksX1_leaves_2_0 20 rfl rfl)
theorem dX1_leaves_2_21 : decode cX1_leaves_2 21 = .ok (.aload_n 0, 1) := dk_42 (dk_at dksX1_leaves_2_0 21 rfl rfl)
theorem dX1_leaves_2_22 : decode cX1_leaves_2 22 = .ok (.getfield 43, 3) := dk_180 0 43 (dk_at dksX1_leaves_2_1 0 rfl rfl)
theorem dX1_leaves_2_25 : decode cX1_leaves_2 25 = .ok (.aload_n 2, 1) := dk_44 (dk_at dksX1_leaves_2_1 3 rfl rfl)
theorem dX1_leaves_2_26 : decode cX1_leaves_2 26 = .ok (.iload_n 3, 1) := dk_29 (dk_at dksX1_leaves_2_1 4 rfl rfl)
theorem dX1_leaves_2_27 : decode cX1_leaves_2 27 = .ok (.iaload, 1) := dk_46 (dk_at dksX1_leaves_2_1 5 rfl rfl)
theorem dX1_leaves_2_28 : decode cX1_leaves_2 28 = .ok (.iaload, 1) := dk_46 (dk_at dksX1_leaves_2_1 6 rfl rfl)
theorem dX1_leaves_2_29 : decode cX1_leaves_2 29 = .ok (.imul, 1) := dk_104 (dk_at dksX1_leaves_2_1 7 rfl rfl)
theorem dX1_leaves_2_30 : decode cX1_leaves_2 30 = .ok (.aload_n 0, 1) := dk_42 (dk_at dksX1_leaves_2_1 8 rfl rfl)
theorem dX1_leaves_2_31 : decode cX1_leaves_2 31 = .ok (.getfield 23, 3) := dk_180 0 23 (dk_at dksX1_leaves_2_1 9 rfl rfl)
theorem dX1_leaves_2_34 : decode cX1_leaves_2 34 = .ok (.irem, 1) := dk_112 (dk_at dksX1_leaves_2_1 12 rfl rfl)
theorem dX1_leaves_2_35 : decode cX1_leaves_2 35 = .ok (.istore 5, 2) := dk_54 5 (dk_at dksX1_leaves_2_1 13 rfl rfl)
theorem dX1_leaves_2_37 : decode cX1_leaves_2 37 = .ok (.iconst 0, 1) := dk_3 (dk_at dksX1_leaves_2_1 15 rfl rfl)
theorem dX1_leaves_2_38 : decode cX1_leaves_2 38 = .ok (.istore 6, 2) := dk_54 6 (dk_at dksX1_leaves_2_1 16 rfl rfl)
theorem dX1_leaves_2_40 : decode cX1_leaves_2 40 = .ok (.iload 6, 2) := dk_21 6 (dk_at dksX1_leaves_2_1 18 rfl rfl)
theorem dX1_leaves_2_42 : decode cX1_leaves_2 42 = .ok (.iload_n 3, 1) := dk_29 (dk_at dksX1_leaves_2_1 20 rfl rfl)
theorem dX1_leaves_2_43 : decode cX1_leaves_2 43 = .ok (.if_icmp .gt 44, 3) := dk_163 0 44 (dk_at dksX1_leaves_2_1 21 rfl rfl)
theorem dX1_leaves_2_46 : decode cX1_leaves_2 46 = .ok (.iload 5, 2) := dk_21 5 (dk_at dksX1_leaves_2_2 0 rfl rfl)
theorem dX1_leaves_2_48 : decode cX1_leaves_2 48 = .ok (.ifCond .eq 39, 3) := dk_153 0 39 (dk_at dksX1_leaves_2_2 2 rfl rfl)
theorem dX1_leaves_2_51 : decode cX1_leaves_2 51 = .ok (.aload_n 1, 1) := dk_43 (dk_at dksX1_leaves_2_2 5 rfl rfl)
theorem dX1_leaves_2_52 : decode cX1_leaves_2 52 = .ok (.iload 4, 2) := dk_21 4 (dk_at dksX1_leaves_2_2 6 rfl rfl)
theorem dX1_leaves_2_54 : decode cX1_leaves_2 54 = .ok (.iload_n 3, 1) := dk_29 (dk_at dksX1_leaves_2_2 8 rfl rfl)
theorem dX1_leaves_2_55 : decode cX1_leaves_2 55 = .ok (.isub, 1) := dk_100 (dk_at dksX1_leaves_2_2 9 rfl rfl)
theorem dX1_leaves_2_56 : decode cX1_leaves_2 56 = .ok (.iload 6, 2) := dk_21 6 (dk_at dksX1_leaves_2_2 10 rfl rfl)
theorem dX1_leaves_2_58 : decode cX1_leaves_2 58 = .ok (.iadd, 1) := dk_96 (dk_at dksX1_leaves_2_2 12 rfl rfl)
theorem dX1_leaves_2_59 : decode cX1_leaves_2 59 = .ok (.aload_n 0, 1) := dk_42 (dk_at dksX1_leaves_2_2 13 rfl rfl)
theorem dX1_leaves_2_60 : decode cX1_leaves_2 60 = .ok (.aload_n 1, 1) := dk_43 (dk_at dksX1_leaves_2_2 14 rfl rfl)
theorem dX1_leaves_2_61 : decode cX1_leaves_2 61 = .ok (.iload 4, 2) := dk_21 4 (dk_at dksX1_leaves_2_2 15 rfl rfl)
theorem dX1_leaves_2_63 : decode cX1_leaves_2 63 = .ok (.iload_n 3, 1) := dk_29 (dk_at dksX1_leaves_2_2 17 rfl rfl)
theorem dX1_leaves_2_64 : decode cX1_leaves_2 64 = .ok (.isub, 1) := dk_100 (dk_at dksX1_leaves_2_2 18 rfl rfl)
theorem dX1_leaves_2_65 : decode cX1_leaves_2 65 = .ok (.iload 6, 2) := dk_21 6 (dk_at dksX1_leaves_2_2 19 rfl rfl)
theorem dX1_leaves_2_67 : decode cX1_leaves_2 67 = .ok (.iadd, 1) := dk_96 (dk_at dksX1_leaves_2_2 21 rfl rfl)
theorem dX1_leaves_2_68 : decode cX1_leaves_2 68 = .ok (.iaload, 1) := dk_46 (dk_at dksX1_leaves_2_2 22 rfl rfl)
theorem dX1_leaves_2_69 : decode cX1_leaves_2 69 = .ok (.iload 5, 2) := dk_21 5 (dk_at dksX1_leaves_2_3 0 rfl rfl)
theorem dX1_leaves_2_71 : decode cX1_leaves_2 71 = .ok (.aload_n 2, 1) := dk_44 (dk_at dksX1_leaves_2_3 2 rfl rfl)
theorem dX1_leaves_2_72 : decode cX1_leaves_2 72 = .ok (.iload 6, 2) := dk_21 6 (dk_at dksX1_leaves_2_3 3 rfl rfl)
theorem dX1_leaves_2_74 : decode cX1_leaves_2 74 = .ok (.iaload, 1) := dk_46 (dk_at dksX1_leaves_2_3 5 rfl rfl)
theorem dX1_leaves_2_75 : decode cX1_leaves_2 75 = .ok (.imul, 1) := dk_104 (dk_at dksX1_leaves_2_3 6 rfl rfl)
theorem dX1_leaves_2_76 : decode cX1_leaves_2 76 = .ok (.isub, 1) := dk_100 (dk_at dksX1_leaves_2_3 7 rfl rfl)
theorem dX1_leaves_2_77 : decode cX1_leaves_2 77 = .ok (.invokevirtual 138, 3) := dk_182 0 138 (dk_at dksX1_leaves_2_3 8 rfl rfl)
theorem dX1_leaves_2_80 : decode cX1_leaves_2 80 = .ok (.iastore, 1) := dk_79 (dk_at dksX1_leaves_2_3 11 rfl rfl)
theorem dX1_leaves_2_81 : decode cX1_leaves_2 81 = .ok (.iinc 6 1, 3) := dk_132 6 1 (dk_at dksX1_leaves_2_3 12 rfl rfl)
theorem dX1_leaves_2_84 : decode cX1_leaves_2 84 = .ok (.goto (-44), 3) := dk_167 255 212 (dk_at dksX1_leaves_2_3 15 rfl rfl)
theorem dX1_leaves_2_87 : decode cX1_leaves_2 87 = .ok (.iinc 4 (-1), 3) := dk_132 4 255 (dk_at dksX1_leaves_2_3 18 rfl rfl)
theorem dX1_leaves_2_90 : decode cX1_leaves_2 90 = .ok (.goto (-79), 3) := dk_167 255 177 (dk_at dksX1_leaves_2_3 21 rfl rfl)
theorem dX1_leaves_2_93 : decode cX1_leaves_2 93 = .ok (.return_, 1) := dk_177 (dk_at dksX1_leaves_2_4 0 rfl rfl)
abbrev cX1_dividesBy : ByteArray := prog_1_method_23_code
def yX1_dividesBy : MethodName := ⟨RX1, "dividesBy", "([I[I)V"⟩
def dkwX1_dividesBy_5 : List UInt8 := [3, 43, 190, 184, 0, 144, 177]
abbrev dktX1_dividesBy_5 : List UInt8 := dkwX1_dividesBy_5 ++ []
def dkwX1_dividesBy_4 : List UInt8 := [104, 100, 182, 0, 138, 79, 132, 6, 1, 167, 255, 212, 132, 4, 255, 167, 255, 166, 42, 180, 0, 141, 3, 43]
abbrev dktX1_dividesBy_4 : List UInt8 := dkwX1_dividesBy_4 ++ dktX1_dividesBy_5
def dkwX1_dividesBy_3 : List UInt8 := [43, 21, 4, 29, 100, 21, 6, 96, 42, 43, 21, 4, 29, 100, 21, 6, 96, 46, 21, 5, 44, 21, 6, 46]
abbrev dktX1_dividesBy_3 : List UInt8 := dkwX1_dividesBy_3 ++ dktX1_dividesBy_4
def dkwX1_dividesBy_2 : List UInt8 := [180, 0, 141, 21, 4, 29, 100, 21, 5, 79, 3, 54, 6, 21, 6, 29, 163, 0, 44, 21, 5, 153, 0, 39]
abbrev dktX1_dividesBy_2 : List UInt8 := dkwX1_dividesBy_2 ++ dktX1_dividesBy_3
def dkwX1_dividesBy_1 : List UInt8 := [161, 0, 90, 43, 21, 4, 46, 42, 180, 0, 43, 44, 29, 46, 46, 104, 42, 180, 0, 23, 112, 54, 5, 42]
abbrev dktX1_dividesBy_1 : List UInt8 := dkwX1_dividesBy_1 ++ dktX1_dividesBy_2
def dkwX1_dividesBy_0 : List UInt8 := [44, 184, 0, 135, 62, 42, 180, 0, 141, 3, 184, 0, 17, 43, 184, 0, 135, 54, 4, 21, 4, 29]
abbrev dktX1_dividesBy_0 : List UInt8 := dkwX1_dividesBy_0 ++ dktX1_dividesBy_1
theorem dksX1_dividesBy_0 : cX1_dividesBy.data.toList.drop 0 = dktX1_dividesBy_0 := by decide +kernel
theorem dksX1_dividesBy_1 : cX1_dividesBy.data.toList.drop 22 = dktX1_dividesBy_1 := dk_seg dksX1_dividesBy_0 22 rfl rfl
theorem dksX1_dividesBy_2 : cX1_dividesBy.data.toList.drop 46 = dktX1_dividesBy_2 := dk_seg dksX1_dividesBy_1 24 rfl rfl
theorem dksX1_dividesBy_3 : cX1_dividesBy.data.toList.drop 70 = dktX1_dividesBy_3 := dk_seg dksX1_dividesBy_2 24 rfl rfl
theorem dksX1_dividesBy_4 : cX1_dividesBy.data.toList.drop 94 = dktX1_dividesBy_4 := dk_seg dksX1_dividesBy_3 24 rfl rfl
theorem dksX1_dividesBy_5 : cX1_dividesBy.data.toList.drop 118 = dktX1_dividesBy_5 := dk_seg dksX1_dividesBy_4 24 rfl rfl
theorem dX1_dividesBy_0 : decode cX1_dividesBy 0 = .ok (.aload_n 2, 1) := dk_44 (dk_at dksX1_dividesBy_0 0 rfl rfl)
theorem dX1_dividesBy_1 : decode cX1_dividesBy 1 = .ok (.invokestatic 135, 3) := dk_184 0 135 (dk_at dksX1_dividesBy_0 1 rfl rfl)
theorem dX1_dividesBy_4 : decode cX1_dividesBy 4 = .ok (.istore_n 3, 1) := dk_62 (dk_at dksX1_dividesBy_0 4 rfl rfl)
theorem dX1_dividesBy_5 : decode cX1_dividesBy 5 = .ok (.aload_n 0, 1) := dk_42 (dk_at dksX1_dividesBy_0 5 rfl rfl)
theorem dX1_dividesBy_6 : decode cX1_dividesBy 6 = .ok (.getfield 141, 3) := dk_180 0 141 (dk_at dksX1_dividesBy_0 6 rfl rfl)
theorem dX1_dividesBy_9 : decode cX1_dividesBy 9 = .ok (.iconst 0, 1) := dk_3 (dk_at dksX1_dividesBy_0 9 rfl rfl)
theorem dX1_dividesBy_10 : decode cX1_dividesBy 10 = .ok (.invokestatic 17, 3) := dk_184 0 17 (dk_at dksX1_dividesBy_0 10 rfl rfl)
theorem dX1_dividesBy_13 : decode cX1_dividesBy 13 = .ok (.aload_n 1, 1) := dk_43 (dk_at dksX1_dividesBy_0 13 rfl rfl)
theorem dX1_dividesBy_14 : decode cX1_dividesBy 14 = .ok (.invokestatic 135, 3) := dk_184 0 135 (dk_at dksX1_dividesBy_0 14 rfl rfl)
theorem dX1_dividesBy_17 : decode cX1_dividesBy 17 = .ok (.istore 4, 2) := dk_54 4 (dk_at dksX1_dividesBy_0 17 rfl rfl)
theorem dX1_dividesBy_19 : decode cX1_dividesBy 19 = .ok (.iload 4, 2) := dk_21 4 (dk_at dksX1_dividesBy_0 19 rfl rfl)
theorem dX1_dividesBy_21 : decode cX1_dividesBy 21 = .ok (.iload_n 3, 1) := dk_29 (dk_at dksX1_dividesBy_0 21 rfl rfl)
theorem dX1_dividesBy_22 : decode cX1_dividesBy 22 = .ok (.if_icmp .lt 90, 3) := dk_161 0 90 (dk_at dksX1_dividesBy_1 0 rfl rfl)
theorem dX1_dividesBy_25 : decode cX1_dividesBy 25 = .ok (.aload_n 1, 1) := dk_43 (dk_at dksX1_dividesBy_1 3 rfl rfl)
theorem dX1_dividesBy_26 : decode cX1_dividesBy 26 = .ok (.iload 4, 2) := dk_21 4 (dk_at dksX1_dividesBy_1 4 rfl rfl)
theorem dX1_dividesBy_28 : decode cX1_dividesBy 28 = .ok (.iaload, 1) := dk_46 (dk_at dksX1_dividesBy_1 6 rfl rfl)
theorem dX1_dividesBy_29 : decode cX1_dividesBy 29 = .ok (.aload_n 0, 1) := dk_42 (dk_at dksX1_dividesBy_1 7 rfl rfl)
theorem dX1_dividesBy_30 : decode cX1_dividesBy 30 = .ok (.getfield 43, 3) := dk_180 0 43 (dk_at dksX1_dividesBy_1 8 rfl rfl)
theorem dX1_dividesBy_33 : decode cX1_dividesBy 33 = .ok (.aload_n 2, 1) := dk_44 (dk_at dksX1_dividesBy_1 11 rfl rfl)
theorem dX1_dividesBy_34 : decode cX1_dividesBy 34 = .ok (.iload_n 3, 1) := dk_29 (dk_at dksX1_dividesBy_1 12 rfl rfl)
theorem dX1_dividesBy_35 : decode cX1_dividesBy 35 = .ok (.iaload, 1) := dk_46 (dk_at dksX1_dividesBy_1 13 rfl rfl)
theorem dX1_dividesBy_36 : decode cX1_dividesBy 36 = .ok (.iaload, 1) := dk_46 (dk_at dksX1_dividesBy_1 14 rfl rfl)
theorem dX1_dividesBy_37 : decode cX1_dividesBy 37 = .ok (.imul, 1) := dk_104 (dk_at dksX1_dividesBy_1 15 rfl rfl)
theorem dX1_dividesBy_38 : decode cX1_dividesBy 38 = .ok (.aload_n 0, 1) := dk_42 (dk_at dksX1_dividesBy_1 16 rfl rfl)
theorem dX1_dividesBy_39 : decode cX1_dividesBy 39 = .ok (.getfield 23, 3) := dk_180 0 23 (dk_at dksX1_dividesBy_1 17 rfl rfl)
theorem dX1_dividesBy_42 : decode cX1_dividesBy 42 = .ok (.irem, 1) := dk_112 (dk_at dksX1_dividesBy_1 20 rfl rfl)
theorem dX1_dividesBy_43 : decode cX1_dividesBy 43 = .ok (.istore 5, 2) := dk_54 5 (dk_at dksX1_dividesBy_1 21 rfl rfl)
theorem dX1_dividesBy_45 : decode cX1_dividesBy 45 = .ok (.aload_n 0, 1) := dk_42 (dk_at dksX1_dividesBy_1 23 rfl rfl)
theorem dX1_dividesBy_46 : decode cX1_dividesBy 46 = .ok (.getfield 141, 3) := dk_180 0 141 (dk_at dksX1_dividesBy_2 0 rfl rfl)
theorem dX1_dividesBy_49 : decode cX1_dividesBy 49 = .ok (.iload 4, 2) := dk_21 4 (dk_at dksX1_dividesBy_2 3 rfl rfl)
theorem dX1_dividesBy_51 : decode cX1_dividesBy 51 = .ok (.iload_n 3, 1) := dk_29 (dk_at dksX1_dividesBy_2 5 rfl rfl)
theorem dX1_dividesBy_52 : decode cX1_dividesBy 52 = .ok (.isub, 1) := dk_100 (dk_at dksX1_dividesBy_2 6 rfl rfl)
theorem dX1_dividesBy_53 : decode cX1_dividesBy 53 = .ok (.iload 5, 2) := dk_21 5 (dk_at dksX1_dividesBy_2 7 rfl rfl)
theorem dX1_dividesBy_55 : decode cX1_dividesBy 55 = .ok (.iastore, 1) := dk_79 (dk_at dksX1_dividesBy_2 9 rfl rfl)
theorem dX1_dividesBy_56 : decode cX1_dividesBy 56 = .ok (.iconst 0, 1) := dk_3 (dk_at dksX1_dividesBy_2 10 rfl rfl)
theorem dX1_dividesBy_57 : decode cX1_dividesBy 57 = .ok (.istore 6, 2) := dk_54 6 (dk_at dksX1_dividesBy_2 11 rfl rfl)
theorem dX1_dividesBy_59 : decode cX1_dividesBy 59 = .ok (.iload 6, 2) := dk_21 6 (dk_at dksX1_dividesBy_2 13 rfl rfl)
theorem dX1_dividesBy_61 : decode cX1_dividesBy 61 = .ok (.iload_n 3, 1) := dk_29 (dk_at dksX1_dividesBy_2 15 rfl rfl)
theorem dX1_dividesBy_62 : decode cX1_dividesBy 62 = .ok (.if_icmp .gt 44, 3) := dk_163 0 44 (dk_at dksX1_dividesBy_2 16 rfl rfl)
theorem dX1_dividesBy_65 : decode cX1_dividesBy 65 = .ok (.iload 5, 2) := dk_21 5 (dk_at dksX1_dividesBy_2 19 rfl rfl)
theorem dX1_dividesBy_67 : decode cX1_dividesBy 67 = .ok (.ifCond .eq 39, 3) := dk_153 0 39 (dk_at dksX1_dividesBy_2 21 rfl rfl)
theorem dX1_dividesBy_70 : decode cX1_dividesBy 70 = .ok (.aload_n 1, 1) := dk_43 (dk_at dksX1_dividesBy_3 0 rfl rfl)
theorem dX1_dividesBy_71 : decode cX1_dividesBy 71 = .ok (.iload 4, 2) := dk_21 4 (dk_at dksX1_dividesBy_3 1 rfl rfl)
theorem dX1_dividesBy_73 : decode cX1_dividesBy 73 = .ok (.iload_n 3, 1) := dk_29 (dk_at dksX1_dividesBy_3 3 rfl rfl)
theorem dX1_dividesBy_74 : decode cX1_dividesBy 74 = .ok (.isub, 1) := dk_100 (dk_at dksX1_dividesBy_3 4 rfl rfl)
theorem dX1_dividesBy_75 : decode cX1_dividesBy 75 = .ok (.iload 6, 2) := dk_21 6 (dk_at dksX1_dividesBy_3 5 rfl rfl)
theorem dX1_dividesBy_77 : decode cX1_dividesBy 77 = .ok (.iadd, 1) := dk_96 (dk_at dksX1_dividesBy_3 7 rfl rfl)
theorem dX1_dividesBy_78 : decode cX1_dividesBy 78 = .ok (.aload_n 0, 1) := dk_42 (dk_at dksX1_dividesBy_3 8 rfl rfl)
theorem dX1_dividesBy_79 : decode cX1_dividesBy 79 = .ok (.aload_n 1, 1) := dk_43 (dk_at dksX1_dividesBy_3 9 rfl rfl)
theorem dX1_dividesBy_80 : decode cX1_dividesBy 80 = .ok (.iload 4, 2) := dk_21 4 (dk_at dksX1_dividesBy_3 10 rfl rfl)
theorem dX1_dividesBy_82 : decode cX1_dividesBy 82 = .ok (.iload_n 3, 1) := dk_29 (dk_at dksX1_dividesBy_3 12 rfl rfl)
theorem dX1_dividesBy_83 : decode cX1_dividesBy 83 = .ok (.isub, 1) := dk_100 (dk_at dksX1_dividesBy_3 13 rfl rfl)
theorem dX1_dividesBy_84 : decode cX1_dividesBy 84 = .ok (.iload 6, 2) := dk_21 6 (dk_at dksX1_dividesBy_3 14 rfl rfl)
theorem dX1_dividesBy_86 : decode cX1_dividesBy 86 = .ok (.iadd, 1) := dk_96 (dk_at dksX1_dividesBy_3 16 rfl rfl)
theorem dX1_dividesBy_87 : decode cX1_dividesBy 87 = .ok (.iaload, 1) := dk_46 (dk_at dksX1_dividesBy_3 17 rfl rfl)
theorem dX1_dividesBy_88 : decode cX1_dividesBy 88 = .ok (.iload 5, 2) := dk_21 5 (dk_at dksX1_dividesBy_3 18 rfl rfl)
theorem dX1_dividesBy_90 : decode cX1_dividesBy 90 = .ok (.aload_n 2, 1) := dk_44 (dk_at dksX1_dividesBy_3 20 rfl rfl)
theorem dX1_dividesBy_91 : decode cX1_dividesBy 91 = .ok (.iload 6, 2) := dk_21 6 (dk_at dksX1_dividesBy_3 21 rfl rfl)
theorem dX1_dividesBy_93 : decode cX1_dividesBy 93 = .ok (.iaload, 1) := dk_46 (dk_at dksX1_dividesBy_3 23 rfl rfl)
theorem dX1_dividesBy_94 : decode cX1_dividesBy 94 = .ok (.imul, 1) := dk_104 (dk_at dksX1_dividesBy_4 0 rfl rfl)
theorem dX1_dividesBy_95 : decode cX1_dividesBy 95 = .ok (.isub, 1) := dk_100 (dk_at dksX1_dividesBy_4 1 rfl rfl)
theorem dX1_dividesBy_96 : decode cX1_dividesBy 96 = .ok (.invokevirtual 138, 3) := dk_182 0 138 (dk_at dksX1_dividesBy_4 2 rfl rfl)
theorem dX1_dividesBy_99 : decode cX1_dividesBy 99 = .ok (.iastore, 1) := dk_79 (dk_at dksX1_dividesBy_4 5 rfl rfl)
theorem dX1_dividesBy_100 : decode cX1_dividesBy 100 = .ok (.iinc 6 1, 3) := dk_132 6 1 (dk_at dksX1_dividesBy_4 6 rfl rfl)
theorem dX1_dividesBy_103 : decode cX1_dividesBy 103 = .ok (.goto (-44), 3) := dk_167 255 212 (dk_at dksX1_dividesBy_4 9 rfl rfl)
theorem dX1_dividesBy_106 : decode cX1_dividesBy 106 = .ok (.iinc 4 (-1), 3) := dk_132 4 255 (dk_at dksX1_dividesBy_4 12 rfl rfl)
theorem dX1_dividesBy_109 : decode cX1_dividesBy 109 = .ok (.goto (-90), 3) := dk_167 255 166 (dk_at dksX1_dividesBy_4 15 rfl rfl)
theorem dX1_dividesBy_112 : decode cX1_dividesBy 112 = .ok (.aload_n 0, 1) := dk_42 (dk_at dksX1_dividesBy_4 18 rfl rfl)
theorem dX1_dividesBy_113 : decode cX1_dividesBy 113 = .ok (.getfield 141, 3) := dk_180 0 141 (dk_at dksX1_dividesBy_4 19 rfl rfl)
theorem dX1_dividesBy_116 : decode cX1_dividesBy 116 = .ok (.iconst 0, 1) := dk_3 (dk_at dksX1_dividesBy_4 22 rfl rfl)
theorem dX1_dividesBy_117 : decode cX1_dividesBy 117 = .ok (.aload_n 1, 1) := dk_43 (dk_at dksX1_dividesBy_4 23 rfl rfl)
theorem dX1_dividesBy_118 : decode cX1_dividesBy 118 = .ok (.iconst 0, 1) := dk_3 (dk_at dksX1_dividesBy_5 0 rfl rfl)
theorem dX1_dividesBy_119 : decode cX1_dividesBy 119 = .ok (.aload_n 1, 1) := dk_43 (dk_at dksX1_dividesBy_5 1 rfl rfl)
theorem dX1_dividesBy_120 : decode cX1_dividesBy 120 = .ok (.arraylength, 1) := dk_190 (dk_at dksX1_dividesBy_5 2 rfl rfl)
theorem dX1_dividesBy_121 : decode cX1_dividesBy 121 = .ok (.invokestatic 144, 3) := dk_184 0 144 (dk_at dksX1_dividesBy_5 3 rfl rfl)
theorem dX1_dividesBy_124 : decode cX1_dividesBy 124 = .ok (.return_, 1) := dk_177 (dk_at dksX1_dividesBy_5 6 rfl rfl)
abbrev cX1_topRow : ByteArray := prog_1_method_26_code
def yX1_topRow : MethodName := ⟨RX1, "topRow", "([[I)I"⟩
def dkwX1_topRow_1 : List UInt8 := [27, 172]
abbrev dktX1_topRow_1 : List UInt8 := dkwX1_topRow_1 ++ []
def dkwX1_topRow_0 : List UInt8 := [42, 190, 4, 100, 60, 27, 155, 0, 18, 42, 27, 50, 184, 0, 135, 156, 0, 9, 132, 1, 255, 167, 255, 240]
abbrev dktX1_topRow_0 : List UInt8 := dkwX1_topRow_0 ++ dktX1_topRow_1
theorem dksX1_topRow_0 : cX1_topRow.data.toList.drop 0 = dktX1_topRow_0 := by decide +kernel
theorem dksX1_topRow_1 : cX1_topRow.data.toList.drop 24 = dktX1_topRow_1 := dk_seg dksX1_topRow_0 24 rfl rfl
theorem dX1_topRow_0 : decode cX1_topRow 0 = .ok (.aload_n 0, 1) := dk_42 (dk_at dksX1_topRow_0 0 rfl rfl)
theorem dX1_topRow_1 : decode cX1_topRow 1 = .ok (.arraylength, 1) := dk_190 (dk_at dksX1_topRow_0 1 rfl rfl)
theorem dX1_topRow_2 : decode cX1_topRow 2 = .ok (.iconst 1, 1) := dk_4 (dk_at dksX1_topRow_0 2 rfl rfl)
theorem dX1_topRow_3 : decode cX1_topRow 3 = .ok (.isub, 1) := dk_100 (dk_at dksX1_topRow_0 3 rfl rfl)
theorem dX1_topRow_4 : decode cX1_topRow 4 = .ok (.istore_n 1, 1) := dk_60 (dk_at dksX1_topRow_0 4 rfl rfl)
theorem dX1_topRow_5 : decode cX1_topRow 5 = .ok (.iload_n 1, 1) := dk_27 (dk_at dksX1_topRow_0 5 rfl rfl)
theorem dX1_topRow_6 : decode cX1_topRow 6 = .ok (.ifCond .lt 18, 3) := dk_155 0 18 (dk_at dksX1_topRow_0 6 rfl rfl)
theorem dX1_topRow_9 : decode cX1_topRow 9 = .ok (.aload_n 0, 1) := dk_42 (dk_at dksX1_topRow_0 9 rfl rfl)
theorem dX1_topRow_10 : decode cX1_topRow 10 = .ok (.iload_n 1, 1) := dk_27 (dk_at dksX1_topRow_0 10 rfl rfl)
theorem dX1_topRow_11 : decode cX1_topRow 11 = .ok (.aaload, 1) := dk_50 (dk_at dksX1_topRow_0 11 rfl rfl)
theorem dX1_topRow_12 : decode cX1_topRow 12 = .ok (.invokestatic 135, 3) := dk_184 0 135 (dk_at dksX1_topRow_0 12 rfl rfl)
theorem dX1_topRow_15 : decode cX1_topRow 15 = .ok (.ifCond .ge 9, 3) := dk_156 0 9 (dk_at dksX1_topRow_0 15 rfl rfl)
theorem dX1_topRow_18 : decode cX1_topRow 18 = .ok (.iinc 1 (-1), 3) := dk_132 1 255 (dk_at dksX1_topRow_0 18 rfl rfl)
theorem dX1_topRow_21 : decode cX1_topRow 21 = .ok (.goto (-16), 3) := dk_167 255 240 (dk_at dksX1_topRow_0 21 rfl rfl)
theorem dX1_topRow_24 : decode cX1_topRow 24 = .ok (.iload_n 1, 1) := dk_27 (dk_at dksX1_topRow_1 0 rfl rfl)
theorem dX1_topRow_25 : decode cX1_topRow 25 = .ok (.ireturn, 1) := dk_172 (dk_at dksX1_topRow_1 1 rfl rfl)
abbrev cX1_leaves_3 : ByteArray := prog_1_method_29_code
def yX1_leaves_3 : MethodName := ⟨RX1, "leaves", "([[I[[I)V"⟩
def dkwX1_leaves_3_4 : List UInt8 := [167, 255, 173, 177]
abbrev dktX1_leaves_3_4 : List UInt8 := dkwX1_leaves_3_4 ++ []
def dkwX1_leaves_3_3 : List UInt8 := [167, 255, 206, 43, 21, 4, 50, 3, 184, 0, 17, 42, 43, 182, 0, 182, 58, 5, 43, 184, 0, 171, 54, 4]
abbrev dktX1_leaves_3_3 : List UInt8 := dkwX1_leaves_3_3 ++ dktX1_leaves_3_4
def dkwX1_leaves_3_2 : List UInt8 := [44, 21, 5, 21, 4, 100, 29, 96, 50, 167, 0, 7, 42, 180, 0, 175, 182, 0, 178, 132, 5, 1]
abbrev dktX1_leaves_3_2 : List UInt8 := dkwX1_leaves_3_2 ++ dktX1_leaves_3_3
def dkwX1_leaves_3_1 : List UInt8 := [162, 0, 49, 42, 43, 21, 5, 50, 44, 29, 50, 43, 21, 4, 50, 21, 5, 21, 4, 29, 100, 161, 0, 15]
abbrev dktX1_leaves_3_1 : List UInt8 := dkwX1_leaves_3_1 ++ dktX1_leaves_3_2
def dkwX1_leaves_3_0 : List UInt8 := [44, 184, 0, 171, 62, 43, 184, 0, 171, 54, 4, 21, 4, 29, 161, 0, 83, 3, 54, 5, 21, 5, 21, 4]
abbrev dktX1_leaves_3_0 : List UInt8 := dkwX1_leaves_3_0 ++ dktX1_leaves_3_1
theorem dksX1_leaves_3_0 : cX1_leaves_3.data.toList.drop 0 = dktX1_leaves_3_0 := by decide +kernel
theorem dksX1_leaves_3_1 : cX1_leaves_3.data.toList.drop 24 = dktX1_leaves_3_1 := dk_seg dksX1_leaves_3_0 24 rfl rfl
theorem dksX1_leaves_3_2 : cX1_leaves_3.data.toList.drop 48 = dktX1_leaves_3_2 := dk_seg dksX1_leaves_3_1 24 rfl rfl
theorem dksX1_leaves_3_3 : cX1_leaves_3.data.toList.drop 70 = dktX1_leaves_3_3 := dk_seg dksX1_leaves_3_2 22 rfl rfl
theorem dksX1_leaves_3_4 : cX1_leaves_3.data.toList.drop 94 = dktX1_leaves_3_4 := dk_seg dksX1_leaves_3_3 24 rfl rfl
theorem dX1_leaves_3_0 : decode cX1_leaves_3 0 = .ok (.aload_n 2, 1) := dk_44 (dk_at dksX1_leaves_3_0 0 rfl rfl)
theorem dX1_leaves_3_1 : decode cX1_leaves_3 1 = .ok (.invokestatic 171, 3) := dk_184 0 171 (dk_at dksX1_leaves_3_0 1 rfl rfl)
theorem dX1_leaves_3_4 : decode cX1_leaves_3 4 = .ok (.istore_n 3, 1) := dk_62 (dk_at dksX1_leaves_3_0 4 rfl rfl)
theorem dX1_leaves_3_5 : decode cX1_leaves_3 5 = .ok (.aload_n 1, 1) := dk_43 (dk_at dksX1_leaves_3_0 5 rfl rfl)
theorem dX1_leaves_3_6 : decode cX1_leaves_3 6 = .ok (.invokestatic 171, 3) := dk_184 0 171 (dk_at dksX1_leaves_3_0 6 rfl rfl)
theorem dX1_leaves_3_9 : decode cX1_leaves_3 9 = .ok (.istore 4, 2) := dk_54 4 (dk_at dksX1_leaves_3_0 9 rfl rfl)
theorem dX1_leaves_3_11 : decode cX1_leaves_3 11 = .ok (.iload 4, 2) := dk_21 4 (dk_at dksX1_leaves_3_0 11 rfl rfl)
theorem dX1_leaves_3_13 : decode cX1_leaves_3 13 = .ok (.iload_n 3, 1) := dk_29 (dk_at dksX1_leaves_3_0 13 rfl rfl)
theorem dX1_leaves_3_14 : decode cX1_leaves_3 14 = .ok (.if_icmp .lt 83, 3) := dk_161 0 83 (dk_at dksX1_leaves_3_0 14 rfl rfl)
theorem dX1_leaves_3_17 : decode cX1_leaves_3 17 = .ok (.iconst 0, 1) := dk_3 (dk_at dksX1_leaves_3_0 17 rfl rfl)
theorem dX1_leaves_3_18 : decode cX1_leaves_3 18 = .ok (.istore 5, 2) := dk_54 5 (dk_at dksX1_leaves_3_0 18 rfl rfl)
theorem dX1_leaves_3_20 : decode cX1_leaves_3 20 = .ok (.iload 5, 2) := dk_21 5 (dk_at dksX1_leaves_3_0 20 rfl rfl)
theorem dX1_leaves_3_22 : decode cX1_leaves_3 22 = .ok (.iload 4, 2) := dk_21 4 (dk_at dksX1_leaves_3_0 22 rfl rfl)
theorem dX1_leaves_3_24 : decode cX1_leaves_3 24 = .ok (.if_icmp .ge 49, 3) := dk_162 0 49 (dk_at dksX1_leaves_3_1 0 rfl rfl)
theorem dX1_leaves_3_27 : decode cX1_leaves_3 27 = .ok (.aload_n 0, 1) := dk_42 (dk_at dksX1_leaves_3_1 3 rfl rfl)
theorem dX1_leaves_3_28 : decode cX1_leaves_3 28 = .ok (.aload_n 1, 1) := dk_43 (dk_at dksX1_leaves_3_1 4 rfl rfl)
theorem dX1_leaves_3_29 : decode cX1_leaves_3 29 = .ok (.iload 5, 2) := dk_21 5 (dk_at dksX1_leaves_3_1 5 rfl rfl)
theorem dX1_leaves_3_31 : decode cX1_leaves_3 31 = .ok (.aaload, 1) := dk_50 (dk_at dksX1_leaves_3_1 7 rfl rfl)
theorem dX1_leaves_3_32 : decode cX1_leaves_3 32 = .ok (.aload_n 2, 1) := dk_44 (dk_at dksX1_leaves_3_1 8 rfl rfl)
theorem dX1_leaves_3_33 : decode cX1_leaves_3 33 = .ok (.iload_n 3, 1) := dk_29 (dk_at dksX1_leaves_3_1 9 rfl rfl)
theorem dX1_leaves_3_34 : decode cX1_leaves_3 34 = .ok (.aaload, 1) := dk_50 (dk_at dksX1_leaves_3_1 10 rfl rfl)
theorem dX1_leaves_3_35 : decode cX1_leaves_3 35 = .ok (.aload_n 1, 1) := dk_43 (dk_at dksX1_leaves_3_1 11 rfl rfl)
theorem dX1_leaves_3_36 : decode cX1_leaves_3 36 = .ok (.iload 4, 2) := dk_21 4 (dk_at dksX1_leaves_3_1 12 rfl rfl)
theorem dX1_leaves_3_38 : decode cX1_leaves_3 38 = .ok (.aaload, 1) := dk_50 (dk_at dksX1_leaves_3_1 14 rfl rfl)
theorem dX1_leaves_3_39 : decode cX1_leaves_3 39 = .ok (.iload 5, 2) := dk_21 5 (dk_at dksX1_leaves_3_1 15 rfl rfl)
theorem dX1_leaves_3_41 : decode cX1_leaves_3 41 = .ok (.iload 4, 2) := dk_21 4 (dk_at dksX1_leaves_3_1 17 rfl rfl)
theorem dX1_leaves_3_43 : decode cX1_leaves_3 43 = .ok (.iload_n 3, 1) := dk_29 (dk_at dksX1_leaves_3_1 19 rfl rfl)
theorem dX1_leaves_3_44 : decode cX1_leaves_3 44 = .ok (.isub, 1) := dk_100 (dk_at dksX1_leaves_3_1 20 rfl rfl)
theorem dX1_leaves_3_45 : decode cX1_leaves_3 45 = .ok (.if_icmp .lt 15, 3) := dk_161 0 15 (dk_at dksX1_leaves_3_1 21 rfl rfl)
theorem dX1_leaves_3_48 : decode cX1_leaves_3 48 = .ok (.aload_n 2, 1) := dk_44 (dk_at dksX1_leaves_3_2 0 rfl rfl)
theorem dX1_leaves_3_49 : decode cX1_leaves_3 49 = .ok (.iload 5, 2) := dk_21 5 (dk_at dksX1_leaves_3_2 1 rfl rfl)
theorem dX1_leaves_3_51 : decode cX1_leaves_3 51 = .ok (.iload 4, 2) := dk_21 4 (dk_at dksX1_leaves_3_2 3 rfl rfl)
theorem dX1_leaves_3_53 : decode cX1_leaves_3 53 = .ok (.isub, 1) := dk_100 (dk_at dksX1_leaves_3_2 5 rfl rfl)
theorem dX1_leaves_3_54 : decode cX1_leaves_3 54 = .ok (.iload_n 3, 1) := dk_29 (dk_at dksX1_leaves_3_2 6 rfl rfl)
theorem dX1_leaves_3_55 : decode cX1_leaves_3 55 = .ok (.iadd, 1) := dk_96 (dk_at dksX1_leaves_3_2 7 rfl rfl)
theorem dX1_leaves_3_56 : decode cX1_leaves_3 56 = .ok (.aaload, 1) := dk_50 (dk_at dksX1_leaves_3_2 8 rfl rfl)
theorem dX1_leaves_3_57 : decode cX1_leaves_3 57 = .ok (.goto 7, 3) := dk_167 0 7 (dk_at dksX1_leaves_3_2 9 rfl rfl)
theorem dX1_leaves_3_60 : decode cX1_leaves_3 60 = .ok (.aload_n 0, 1) := dk_42 (dk_at dksX1_leaves_3_2 12 rfl rfl)
theorem dX1_leaves_3_61 : decode cX1_leaves_3 61 = .ok (.getfield 175, 3) := dk_180 0 175 (dk_at dksX1_leaves_3_2 13 rfl rfl)
theorem dX1_leaves_3_64 : decode cX1_leaves_3 64 = .ok (.invokevirtual 178, 3) := dk_182 0 178 (dk_at dksX1_leaves_3_2 16 rfl rfl)
theorem dX1_leaves_3_67 : decode cX1_leaves_3 67 = .ok (.iinc 5 1, 3) := dk_132 5 1 (dk_at dksX1_leaves_3_2 19 rfl rfl)
theorem dX1_leaves_3_70 : decode cX1_leaves_3 70 = .ok (.goto (-50), 3) := dk_167 255 206 (dk_at dksX1_leaves_3_3 0 rfl rfl)
theorem dX1_leaves_3_73 : decode cX1_leaves_3 73 = .ok (.aload_n 1, 1) := dk_43 (dk_at dksX1_leaves_3_3 3 rfl rfl)
theorem dX1_leaves_3_74 : decode cX1_leaves_3 74 = .ok (.iload 4, 2) := dk_21 4 (dk_at dksX1_leaves_3_3 4 rfl rfl)
theorem dX1_leaves_3_76 : decode cX1_leaves_3 76 = .ok (.aaload, 1) := dk_50 (dk_at dksX1_leaves_3_3 6 rfl rfl)
theorem dX1_leaves_3_77 : decode cX1_leaves_3 77 = .ok (.iconst 0, 1) := dk_3 (dk_at dksX1_leaves_3_3 7 rfl rfl)
theorem dX1_leaves_3_78 : decode cX1_leaves_3 78 = .ok (.invokestatic 17, 3) := dk_184 0 17 (dk_at dksX1_leaves_3_3 8 rfl rfl)
theorem dX1_leaves_3_81 : decode cX1_leaves_3 81 = .ok (.aload_n 0, 1) := dk_42 (dk_at dksX1_leaves_3_3 11 rfl rfl)
theorem dX1_leaves_3_82 : decode cX1_leaves_3 82 = .ok (.aload_n 1, 1) := dk_43 (dk_at dksX1_leaves_3_3 12 rfl rfl)
theorem dX1_leaves_3_83 : decode cX1_leaves_3 83 = .ok (.invokevirtual 182, 3) := dk_182 0 182 (dk_at dksX1_leaves_3_3 13 rfl rfl)
theorem dX1_leaves_3_86 : decode cX1_leaves_3 86 = .ok (.astore 5, 2) := dk_58 5 (dk_at dksX1_leaves_3_3 16 rfl rfl)
theorem dX1_leaves_3_88 : decode cX1_leaves_3 88 = .ok (.aload_n 1, 1) := dk_43 (dk_at dksX1_leaves_3_3 18 rfl rfl)
theorem dX1_leaves_3_89 : decode cX1_leaves_3 89 = .ok (.invokestatic 171, 3) := dk_184 0 171 (dk_at dksX1_leaves_3_3 19 rfl rfl)
theorem dX1_leaves_3_92 : decode cX1_leaves_3 92 = .ok (.istore 4, 2) := dk_54 4 (dk_at dksX1_leaves_3_3 22 rfl rfl)
theorem dX1_leaves_3_94 : decode cX1_leaves_3 94 = .ok (.goto (-83), 3) := dk_167 255 173 (dk_at dksX1_leaves_3_4 0 rfl rfl)
theorem dX1_leaves_3_97 : decode cX1_leaves_3 97 = .ok (.return_, 1) := dk_177 (dk_at dksX1_leaves_3_4 3 rfl rfl)
abbrev cX1_mixes : ByteArray := prog_1_method_28_code
def yX1_mixes : MethodName := ⟨RX1, "mixes", "([I[I[I[I)V"⟩
def dkwX1_mixes_7 : List UInt8 := [167, 255, 195, 42, 180, 0, 141, 3, 43, 3, 17, 9, 0, 184, 0, 144, 177]
abbrev dktX1_mixes_7 : List UInt8 := dkwX1_mixes_7 ++ []
def dkwX1_mixes_6 : List UInt8 := [21, 9, 46, 25, 4, 21, 10, 46, 104, 100, 182, 0, 138, 79, 132, 10, 1, 167, 255, 211, 132, 9, 1]
abbrev dktX1_mixes_6 : List UInt8 := dkwX1_mixes_6 ++ dktX1_mixes_7
def dkwX1_mixes_5 : List UInt8 := [163, 0, 44, 42, 180, 0, 141, 21, 9, 21, 10, 96, 42, 42, 180, 0, 141, 21, 9, 21, 10, 96, 46, 45]
abbrev dktX1_mixes_5 : List UInt8 := dkwX1_mixes_5 ++ dktX1_mixes_6
def dkwX1_mixes_4 : List UInt8 := [132, 9, 1, 167, 255, 195, 3, 54, 9, 21, 9, 21, 7, 163, 0, 60, 3, 54, 10, 21, 10, 21, 8]
abbrev dktX1_mixes_4 : List UInt8 := dkwX1_mixes_4 ++ dktX1_mixes_5
def dkwX1_mixes_3 : List UInt8 := [96, 46, 43, 21, 9, 46, 44, 21, 10, 46, 104, 96, 42, 180, 0, 23, 112, 79, 132, 10, 1, 167, 255, 211]
abbrev dktX1_mixes_3 : List UInt8 := dkwX1_mixes_3 ++ dktX1_mixes_4
def dkwX1_mixes_2 : List UInt8 := [21, 10, 21, 6, 163, 0, 44, 42, 180, 0, 141, 21, 9, 21, 10, 96, 42, 180, 0, 141, 21, 9, 21, 10]
abbrev dktX1_mixes_2 : List UInt8 := dkwX1_mixes_2 ++ dktX1_mixes_3
def dkwX1_mixes_1 : List UInt8 := [54, 8, 42, 180, 0, 141, 3, 184, 0, 17, 3, 54, 9, 21, 9, 21, 5, 163, 0, 60, 3, 54, 10]
abbrev dktX1_mixes_1 : List UInt8 := dkwX1_mixes_1 ++ dktX1_mixes_2
def dkwX1_mixes_0 : List UInt8 := [43, 184, 0, 135, 54, 5, 44, 184, 0, 135, 54, 6, 45, 184, 0, 135, 54, 7, 25, 4, 184, 0, 135]
abbrev dktX1_mixes_0 : List UInt8 := dkwX1_mixes_0 ++ dktX1_mixes_1
theorem dksX1_mixes_0 : cX1_mixes.data.toList.drop 0 = dktX1_mixes_0 := by decide +kernel
theorem dksX1_mixes_1 : cX1_mixes.data.toList.drop 23 = dktX1_mixes_1 := dk_seg dksX1_mixes_0 23 rfl rfl
theorem dksX1_mixes_2 : cX1_mixes.data.toList.drop 46 = dktX1_mixes_2 := dk_seg dksX1_mixes_1 23 rfl rfl
theorem dksX1_mixes_3 : cX1_mixes.data.toList.drop 70 = dktX1_mixes_3 := dk_seg dksX1_mixes_2 24 rfl rfl
theorem dksX1_mixes_4 : cX1_mixes.data.toList.drop 94 = dktX1_mixes_4 := dk_seg dksX1_mixes_3 24 rfl rfl
theorem dksX1_mixes_5 : cX1_mixes.data.toList.drop 117 = dktX1_mixes_5 := dk_seg dksX1_mixes_4 23 rfl rfl
theorem dksX1_mixes_6 : cX1_mixes.data.toList.drop 141 = dktX1_mixes_6 := dk_seg dksX1_mixes_5 24 rfl rfl
theorem dksX1_mixes_7 : cX1_mixes.data.toList.drop 164 = dktX1_mixes_7 := dk_seg dksX1_mixes_6 23 rfl rfl
theorem dX1_mixes_0 : decode cX1_mixes 0 = .ok (.aload_n 1, 1) := dk_43 (dk_at dksX1_mixes_0 0 rfl rfl)
theorem dX1_mixes_1 : decode cX1_mixes 1 = .ok (.invokestatic 135, 3) := dk_184 0 135 (dk_at dksX1_mixes_0 1 rfl rfl)
theorem dX1_mixes_4 : decode cX1_mixes 4 = .ok (.istore 5, 2) := dk_54 5 (dk_at dksX1_mixes_0 4 rfl rfl)
theorem dX1_mixes_6 : decode cX1_mixes 6 = .ok (.aload_n 2, 1) := dk_44 (dk_at dksX1_mixes_0 6 rfl rfl)
theorem dX1_mixes_7 : decode cX1_mixes 7 = .ok (.invokestatic 135, 3) := dk_184 0 135 (dk_at dksX1_mixes_0 7 rfl rfl)
theorem dX1_mixes_10 : decode cX1_mixes 10 = .ok (.istore 6, 2) := dk_54 6 (dk_at dksX1_mixes_0 10 rfl rfl)
theorem dX1_mixes_12 : decode cX1_mixes 12 = .ok (.aload_n 3, 1) := dk_45 (dk_at dksX1_mixes_0 12 rfl rfl)
theorem dX1_mixes_13 : decode cX1_mixes 13 = .ok (.invokestatic 135, 3) := dk_184 0 135 (dk_at dksX1_mixes_0 13 rfl rfl)
theorem dX1_mixes_16 : decode cX1_mixes 16 = .ok (.istore 7, 2) := dk_54 7 (dk_at dksX1_mixes_0 16 rfl rfl)
theorem dX1_mixes_18 : decode cX1_mixes 18 = .ok (.aload 4, 2) := dk_25 4 (dk_at dksX1_mixes_0 18 rfl rfl)
theorem dX1_mixes_20 : decode cX1_mixes 20 = .ok (.invokestatic 135, 3) := dk_184 0 135 (dk_at dksX1_mixes_0 20 rfl rfl)
theorem dX1_mixes_23 : decode cX1_mixes 23 = .ok (.istore 8, 2) := dk_54 8 (dk_at dksX1_mixes_1 0 rfl rfl)
theorem dX1_mixes_25 : decode cX1_mixes 25 = .ok (.aload_n 0, 1) := dk_42 (dk_at dksX1_mixes_1 2 rfl rfl)
theorem dX1_mixes_26 : decode cX1_mixes 26 = .ok (.getfield 141, 3) := dk_180 0 141 (dk_at dksX1_mixes_1 3 rfl rfl)
theorem dX1_mixes_29 : decode cX1_mixes 29 = .ok (.iconst 0, 1) := dk_3 (dk_at dksX1_mixes_1 6 rfl rfl)
theorem dX1_mixes_30 : decode cX1_mixes 30 = .ok (.invokestatic 17, 3) := dk_184 0 17 (dk_at dksX1_mixes_1 7 rfl rfl)
theorem dX1_mixes_33 : decode cX1_mixes 33 = .ok (.iconst 0, 1) := dk_3 (dk_at dksX1_mixes_1 10 rfl rfl)
theorem dX1_mixes_34 : decode cX1_mixes 34 = .ok (.istore 9, 2) := dk_54 9 (dk_at dksX1_mixes_1 11 rfl rfl)
theorem dX1_mixes_36 : decode cX1_mixes 36 = .ok (.iload 9, 2) := dk_21 9 (dk_at dksX1_mixes_1 13 rfl rfl)
theorem dX1_mixes_38 : decode cX1_mixes 38 = .ok (.iload 5, 2) := dk_21 5 (dk_at dksX1_mixes_1 15 rfl rfl)
theorem dX1_mixes_40 : decode cX1_mixes 40 = .ok (.if_icmp .gt 60, 3) := dk_163 0 60 (dk_at dksX1_mixes_1 17 rfl rfl)
theorem dX1_mixes_43 : decode cX1_mixes 43 = .ok (.iconst 0, 1) := dk_3 (dk_at dksX1_mixes_1 20 rfl rfl)
theorem dX1_mixes_44 : decode cX1_mixes 44 = .ok (.istore 10, 2) := dk_54 10 (dk_at dksX1_mixes_1 21 rfl rfl)
theorem dX1_mixes_46 : decode cX1_mixes 46 = .ok (.iload 10, 2) := dk_21 10 (dk_at dksX1_mixes_2 0 rfl rfl)
theorem dX1_mixes_48 : decode cX1_mixes 48 = .ok (.iload 6, 2) := dk_21 6 (dk_at dksX1_mixes_2 2 rfl rfl)
theorem dX1_mixes_50 : decode cX1_mixes 50 = .ok (.if_icmp .gt 44, 3) := dk_163 0 44 (dk_at dksX1_mixes_2 4 rfl rfl)
theorem dX1_mixes_53 : decode cX1_mixes 53 = .ok (.aload_n 0, 1) := dk_42 (dk_at dksX1_mixes_2 7 rfl rfl)
theorem dX1_mixes_54 : decode cX1_mixes 54 = .ok (.getfield 141, 3) := dk_180 0 141 (dk_at dksX1_mixes_2 8 rfl rfl)
theorem dX1_mixes_57 : decode cX1_mixes 57 = .ok (.iload 9, 2) := dk_21 9 (dk_at dksX1_mixes_2 11 rfl rfl)
theorem dX1_mixes_59 : decode cX1_mixes 59 = .ok (.iload 10, 2) := dk_21 10 (dk_at dksX1_mixes_2 13 rfl rfl)
theorem dX1_mixes_61 : decode cX1_mixes 61 = .ok (.iadd, 1) := dk_96 (dk_at dksX1_mixes_2 15 rfl rfl)
theorem dX1_mixes_62 : decode cX1_mixes 62 = .ok (.aload_n 0, 1) := dk_42 (dk_at dksX1_mixes_2 16 rfl rfl)
theorem dX1_mixes_63 : decode cX1_mixes 63 = .ok (.getfield 141, 3) := dk_180 0 141 (dk_at dksX1_mixes_2 17 rfl rfl)
theorem dX1_mixes_66 : decode cX1_mixes 66 = .ok (.iload 9, 2) := dk_21 9 (dk_at dksX1_mixes_2 20 rfl rfl)
theorem dX1_mixes_68 : decode cX1_mixes 68 = .ok (.iload 10, 2) := dk_21 10 (dk_at dksX1_mixes_2 22 rfl rfl)
theorem dX1_mixes_70 : decode cX1_mixes 70 = .ok (.iadd, 1) := dk_96 (dk_at dksX1_mixes_3 0 rfl rfl)
theorem dX1_mixes_71 : decode cX1_mixes 71 = .ok (.iaload, 1) := dk_46 (dk_at dksX1_mixes_3 1 rfl rfl)
theorem dX1_mixes_72 : decode cX1_mixes 72 = .ok (.aload_n 1, 1) := dk_43 (dk_at dksX1_mixes_3 2 rfl rfl)
theorem dX1_mixes_73 : decode cX1_mixes 73 = .ok (.iload 9, 2) := dk_21 9 (dk_at dksX1_mixes_3 3 rfl rfl)
theorem dX1_mixes_75 : decode cX1_mixes 75 = .ok (.iaload, 1) := dk_46 (dk_at dksX1_mixes_3 5 rfl rfl)
theorem dX1_mixes_76 : decode cX1_mixes 76 = .ok (.aload_n 2, 1) := dk_44 (dk_at dksX1_mixes_3 6 rfl rfl)
theorem dX1_mixes_77 : decode cX1_mixes 77 = .ok (.iload 10, 2) := dk_21 10 (dk_at dksX1_mixes_3 7 rfl rfl)
theorem dX1_mixes_79 : decode cX1_mixes 79 = .ok (.iaload, 1) := dk_46 (dk_at dksX1_mixes_3 9 rfl rfl)
theorem dX1_mixes_80 : decode cX1_mixes 80 = .ok (.imul, 1) := dk_104 (dk_at dksX1_mixes_3 10 rfl rfl)
theorem dX1_mixes_81 : decode cX1_mixes 81 = .ok (.iadd, 1) := dk_96 (dk_at dksX1_mixes_3 11 rfl rfl)
theorem dX1_mixes_82 : decode cX1_mixes 82 = .ok (.aload_n 0, 1) := dk_42 (dk_at dksX1_mixes_3 12 rfl rfl)
theorem dX1_mixes_83 : decode cX1_mixes 83 = .ok (.getfield 23, 3) := dk_180 0 23 (dk_at dksX1_mixes_3 13 rfl rfl)
theorem dX1_mixes_86 : decode cX1_mixes 86 = .ok (.irem, 1) := dk_112 (dk_at dksX1_mixes_3 16 rfl rfl)
theorem dX1_mixes_87 : decode cX1_mixes 87 = .ok (.iastore, 1) := dk_79 (dk_at dksX1_mixes_3 17 rfl rfl)
theorem dX1_mixes_88 : decode cX1_mixes 88 = .ok (.iinc 10 1, 3) := dk_132 10 1 (dk_at dksX1_mixes_3 18 rfl rfl)
theorem dX1_mixes_91 : decode cX1_mixes 91 = .ok (.goto (-45), 3) := dk_167 255 211 (dk_at dksX1_mixes_3 21 rfl rfl)
theorem dX1_mixes_94 : decode cX1_mixes 94 = .ok (.iinc 9 1, 3) := dk_132 9 1 (dk_at dksX1_mixes_4 0 rfl rfl)
theorem dX1_mixes_97 : decode cX1_mixes 97 = .ok (.goto (-61), 3) := dk_167 255 195 (dk_at dksX1_mixes_4 3 rfl rfl)
theorem dX1_mixes_100 : decode cX1_mixes 100 = .ok (.iconst 0, 1) := dk_3 (dk_at dksX1_mixes_4 6 rfl rfl)
theorem dX1_mixes_101 : decode cX1_mixes 101 = .ok (.istore 9, 2) := dk_54 9 (dk_at dksX1_mixes_4 7 rfl rfl)
theorem dX1_mixes_103 : decode cX1_mixes 103 = .ok (.iload 9, 2) := dk_21 9 (dk_at dksX1_mixes_4 9 rfl rfl)
theorem dX1_mixes_105 : decode cX1_mixes 105 = .ok (.iload 7, 2) := dk_21 7 (dk_at dksX1_mixes_4 11 rfl rfl)
theorem dX1_mixes_107 : decode cX1_mixes 107 = .ok (.if_icmp .gt 60, 3) := dk_163 0 60 (dk_at dksX1_mixes_4 13 rfl rfl)
theorem dX1_mixes_110 : decode cX1_mixes 110 = .ok (.iconst 0, 1) := dk_3 (dk_at dksX1_mixes_4 16 rfl rfl)
theorem dX1_mixes_111 : decode cX1_mixes 111 = .ok (.istore 10, 2) := dk_54 10 (dk_at dksX1_mixes_4 17 rfl rfl)
theorem dX1_mixes_113 : decode cX1_mixes 113 = .ok (.iload 10, 2) := dk_21 10 (dk_at dksX1_mixes_4 19 rfl rfl)
theorem dX1_mixes_115 : decode cX1_mixes 115 = .ok (.iload 8, 2) := dk_21 8 (dk_at dksX1_mixes_4 21 rfl rfl)
theorem dX1_mixes_117 : decode cX1_mixes 117 = .ok (.if_icmp .gt 44, 3) := dk_163 0 44 (dk_at dksX1_mixes_5 0 rfl rfl)
theorem dX1_mixes_120 : decode cX1_mixes 120 = .ok (.aload_n 0, 1) := dk_42 (dk_at dksX1_mixes_5 3 rfl rfl)
theorem dX1_mixes_121 : decode cX1_mixes 121 = .ok (.getfield 141, 3) := dk_180 0 141 (dk_at dksX1_mixes_5 4 rfl rfl)
theorem dX1_mixes_124 : decode cX1_mixes 124 = .ok (.iload 9, 2) := dk_21 9 (dk_at dksX1_mixes_5 7 rfl rfl)
theorem dX1_mixes_126 : decode cX1_mixes 126 = .ok (.iload 10, 2) := dk_21 10 (dk_at dksX1_mixes_5 9 rfl rfl)
theorem dX1_mixes_128 : decode cX1_mixes 128 = .ok (.iadd, 1) := dk_96 (dk_at dksX1_mixes_5 11 rfl rfl)
theorem dX1_mixes_129 : decode cX1_mixes 129 = .ok (.aload_n 0, 1) := dk_42 (dk_at dksX1_mixes_5 12 rfl rfl)
theorem dX1_mixes_130 : decode cX1_mixes 130 = .ok (.aload_n 0, 1) := dk_42 (dk_at dksX1_mixes_5 13 rfl rfl)
theorem dX1_mixes_131 : decode cX1_mixes 131 = .ok (.getfield 141, 3) := dk_180 0 141 (dk_at dksX1_mixes_5 14 rfl rfl)
theorem dX1_mixes_134 : decode cX1_mixes 134 = .ok (.iload 9, 2) := dk_21 9 (dk_at dksX1_mixes_5 17 rfl rfl)
theorem dX1_mixes_136 : decode cX1_mixes 136 = .ok (.iload 10, 2) := dk_21 10 (dk_at dksX1_mixes_5 19 rfl rfl)
theorem dX1_mixes_138 : decode cX1_mixes 138 = .ok (.iadd, 1) := dk_96 (dk_at dksX1_mixes_5 21 rfl rfl)
theorem dX1_mixes_139 : decode cX1_mixes 139 = .ok (.iaload, 1) := dk_46 (dk_at dksX1_mixes_5 22 rfl rfl)
theorem dX1_mixes_140 : decode cX1_mixes 140 = .ok (.aload_n 3, 1) := dk_45 (dk_at dksX1_mixes_5 23 rfl rfl)
theorem dX1_mixes_141 : decode cX1_mixes 141 = .ok (.iload 9, 2) := dk_21 9 (dk_at dksX1_mixes_6 0 rfl rfl)
theorem dX1_mixes_143 : decode cX1_mixes 143 = .ok (.iaload, 1) := dk_46 (dk_at dksX1_mixes_6 2 rfl rfl)
theorem dX1_mixes_144 : decode cX1_mixes 144 = .ok (.aload 4, 2) := dk_25 4 (dk_at dksX1_mixes_6 3 rfl rfl)
theorem dX1_mixes_146 : decode cX1_mixes 146 = .ok (.iload 10, 2) := dk_21 10 (dk_at dksX1_mixes_6 5 rfl rfl)
theorem dX1_mixes_148 : decode cX1_mixes 148 = .ok (.iaload, 1) := dk_46 (dk_at dksX1_mixes_6 7 rfl rfl)
theorem dX1_mixes_149 : decode cX1_mixes 149 = .ok (.imul, 1) := dk_104 (dk_at dksX1_mixes_6 8 rfl rfl)
theorem dX1_mixes_150 : decode cX1_mixes 150 = .ok (.isub, 1) := dk_100 (dk_at dksX1_mixes_6 9 rfl rfl)
theorem dX1_mixes_151 : decode cX1_mixes 151 = .ok (.invokevirtual 138, 3) := dk_182 0 138 (dk_at dksX1_mixes_6 10 rfl rfl)
theorem dX1_mixes_154 : decode cX1_mixes 154 = .ok (.iastore, 1) := dk_79 (dk_at dksX1_mixes_6 13 rfl rfl)
theorem dX1_mixes_155 : decode cX1_mixes 155 = .ok (.iinc 10 1, 3) := dk_132 10 1 (dk_at dksX1_mixes_6 14 rfl rfl)
theorem dX1_mixes_158 : decode cX1_mixes 158 = .ok (.goto (-45), 3) := dk_167 255 211 (dk_at dksX1_mixes_6 17 rfl rfl)
theorem dX1_mixes_161 : decode cX1_mixes 161 = .ok (.iinc 9 1, 3) := dk_132 9 1 (dk_at dksX1_mixes_6 20 rfl rfl)
theorem dX1_mixes_164 : decode cX1_mixes 164 = .ok (.goto (-61), 3) := dk_167 255 195 (dk_at dksX1_mixes_7 0 rfl rfl)
theorem dX1_mixes_167 : decode cX1_mixes 167 = .ok (.aload_n 0, 1) := dk_42 (dk_at dksX1_mixes_7 3 rfl rfl)
theorem dX1_mixes_168 : decode cX1_mixes 168 = .ok (.getfield 141, 3) := dk_180 0 141 (dk_at dksX1_mixes_7 4 rfl rfl)
theorem dX1_mixes_171 : decode cX1_mixes 171 = .ok (.iconst 0, 1) := dk_3 (dk_at dksX1_mixes_7 7 rfl rfl)
theorem dX1_mixes_172 : decode cX1_mixes 172 = .ok (.aload_n 1, 1) := dk_43 (dk_at dksX1_mixes_7 8 rfl rfl)
theorem dX1_mixes_173 : decode cX1_mixes 173 = .ok (.iconst 0, 1) := dk_3 (dk_at dksX1_mixes_7 9 rfl rfl)
theorem dX1_mixes_174 : decode cX1_mixes 174 = .ok (.sipush 2304, 3) := dk_17 9 0 (dk_at dksX1_mixes_7 10 rfl rfl)
theorem dX1_mixes_177 : decode cX1_mixes 177 = .ok (.invokestatic 144, 3) := dk_184 0 144 (dk_at dksX1_mixes_7 13 rfl rfl)
theorem dX1_mixes_180 : decode cX1_mixes 180 = .ok (.return_, 1) := dk_177 (dk_at dksX1_mixes_7 16 rfl rfl)
abbrev cX1_content : ByteArray := prog_1_method_85_code
def yX1_content : MethodName := ⟨RX1, "content", "(II)I"⟩
def dkwX1_content_3 : List UInt8 := [172]
abbrev dktX1_content_3 : List UInt8 := dkwX1_content_3 ++ []
def dkwX1_content_2 : List UInt8 := [42, 42, 180, 0, 232, 27, 50, 42, 180, 0, 185, 182, 0, 189, 182, 0, 160, 182, 1, 168, 28, 182, 1, 157]
abbrev dktX1_content_2 : List UInt8 := dkwX1_content_2 ++ dktX1_content_3
def dkwX1_content_1 : List UInt8 := [153, 0, 5, 2, 172, 42, 27, 182, 1, 162, 153, 0, 11, 42, 8, 182, 1, 19, 167, 0, 30, 42, 42, 42]
abbrev dktX1_content_1 : List UInt8 := dkwX1_content_1 ++ dktX1_content_2
def dkwX1_content_0 : List UInt8 := [42, 42, 5, 188, 10, 89, 3, 27, 79, 89, 4, 28, 79, 184, 1, 69, 182, 1, 59, 182, 1, 62]
abbrev dktX1_content_0 : List UInt8 := dkwX1_content_0 ++ dktX1_content_1
theorem dksX1_content_0 : cX1_content.data.toList.drop 0 = dktX1_content_0 := by decide +kernel
theorem dksX1_content_1 : cX1_content.data.toList.drop 22 = dktX1_content_1 := dk_seg dksX1_content_0 22 rfl rfl
theorem dksX1_content_2 : cX1_content.data.toList.drop 46 = dktX1_content_2 := dk_seg dksX1_content_1 24 rfl rfl
theorem dksX1_content_3 : cX1_content.data.toList.drop 70 = dktX1_content_3 := dk_seg dksX1_content_2 24 rfl rfl
theorem dX1_content_0 : decode cX1_content 0 = .ok (.aload_n 0, 1) := dk_42 (dk_at dksX1_content_0 0 rfl rfl)
theorem dX1_content_1 : decode cX1_content 1 = .ok (.aload_n 0, 1) := dk_42 (dk_at dksX1_content_0 1 rfl rfl)
theorem dX1_content_2 : decode cX1_content 2 = .ok (.iconst 2, 1) := dk_5 (dk_at dksX1_content_0 2 rfl rfl)
theorem dX1_content_3 : decode cX1_content 3 = .ok (.newarray .int, 2) := dk_188_10 (dk_at dksX1_content_0 3 rfl rfl)
theorem dX1_content_5 : decode cX1_content 5 = .ok (.dup, 1) := dk_89 (dk_at dksX1_content_0 5 rfl rfl)
theorem dX1_content_6 : decode cX1_content 6 = .ok (.iconst 0, 1) := dk_3 (dk_at dksX1_content_0 6 rfl rfl)
theorem dX1_content_7 : decode cX1_content 7 = .ok (.iload_n 1, 1) := dk_27 (dk_at dksX1_content_0 7 rfl rfl)
theorem dX1_content_8 : decode cX1_content 8 = .ok (.iastore, 1) := dk_79 (dk_at dksX1_content_0 8 rfl rfl)
theorem dX1_content_9 : decode cX1_content 9 = .ok (.dup, 1) := dk_89 (dk_at dksX1_content_0 9 rfl rfl)
theorem dX1_content_10 : decode cX1_content 10 = .ok (.iconst 1, 1) := dk_4 (dk_at dksX1_content_0 10 rfl rfl)
theorem dX1_content_11 : decode cX1_content 11 = .ok (.iload_n 2, 1) := dk_28 (dk_at dksX1_content_0 11 rfl rfl)
theorem dX1_content_12 : decode cX1_content 12 = .ok (.iastore, 1) := dk_79 (dk_at dksX1_content_0 12 rfl rfl)
theorem dX1_content_13 : decode cX1_content 13 = .ok (.invokestatic 325, 3) := dk_184 1 69 (dk_at dksX1_content_0 13 rfl rfl)
theorem dX1_content_16 : decode cX1_content 16 = .ok (.invokevirtual 315, 3) := dk_182 1 59 (dk_at dksX1_content_0 16 rfl rfl)
theorem dX1_content_19 : decode cX1_content 19 = .ok (.invokevirtual 318, 3) := dk_182 1 62 (dk_at dksX1_content_0 19 rfl rfl)
theorem dX1_content_22 : decode cX1_content 22 = .ok (.ifCond .eq 5, 3) := dk_153 0 5 (dk_at dksX1_content_1 0 rfl rfl)
theorem dX1_content_25 : decode cX1_content 25 = .ok (.iconst (-1), 1) := dk_2 (dk_at dksX1_content_1 3 rfl rfl)
theorem dX1_content_26 : decode cX1_content 26 = .ok (.ireturn, 1) := dk_172 (dk_at dksX1_content_1 4 rfl rfl)
theorem dX1_content_27 : decode cX1_content 27 = .ok (.aload_n 0, 1) := dk_42 (dk_at dksX1_content_1 5 rfl rfl)
theorem dX1_content_28 : decode cX1_content 28 = .ok (.iload_n 1, 1) := dk_27 (dk_at dksX1_content_1 6 rfl rfl)
theorem dX1_content_29 : decode cX1_content 29 = .ok (.invokevirtual 418, 3) := dk_182 1 162 (dk_at dksX1_content_1 7 rfl rfl)
theorem dX1_content_32 : decode cX1_content 32 = .ok (.ifCond .eq 11, 3) := dk_153 0 11 (dk_at dksX1_content_1 10 rfl rfl)
theorem dX1_content_35 : decode cX1_content 35 = .ok (.aload_n 0, 1) := dk_42 (dk_at dksX1_content_1 13 rfl rfl)
theorem dX1_content_36 : decode cX1_content 36 = .ok (.iconst 5, 1) := dk_8 (dk_at dksX1_content_1 14 rfl rfl)
theorem dX1_content_37 : decode cX1_content 37 = .ok (.invokevirtual 275, 3) := dk_182 1 19 (dk_at dksX1_content_1 15 rfl rfl)
theorem dX1_content_40 : decode cX1_content 40 = .ok (.goto 30, 3) := dk_167 0 30 (dk_at dksX1_content_1 18 rfl rfl)
theorem dX1_content_43 : decode cX1_content 43 = .ok (.aload_n 0, 1) := dk_42 (dk_at dksX1_content_1 21 rfl rfl)
theorem dX1_content_44 : decode cX1_content 44 = .ok (.aload_n 0, 1) := dk_42 (dk_at dksX1_content_1 22 rfl rfl)
theorem dX1_content_45 : decode cX1_content 45 = .ok (.aload_n 0, 1) := dk_42 (dk_at dksX1_content_1 23 rfl rfl)
theorem dX1_content_46 : decode cX1_content 46 = .ok (.aload_n 0, 1) := dk_42 (dk_at dksX1_content_2 0 rfl rfl)
theorem dX1_content_47 : decode cX1_content 47 = .ok (.aload_n 0, 1) := dk_42 (dk_at dksX1_content_2 1 rfl rfl)
theorem dX1_content_48 : decode cX1_content 48 = .ok (.getfield 232, 3) := dk_180 0 232 (dk_at dksX1_content_2 2 rfl rfl)
theorem dX1_content_51 : decode cX1_content 51 = .ok (.iload_n 1, 1) := dk_27 (dk_at dksX1_content_2 5 rfl rfl)
theorem dX1_content_52 : decode cX1_content 52 = .ok (.aaload, 1) := dk_50 (dk_at dksX1_content_2 6 rfl rfl)
theorem dX1_content_53 : decode cX1_content 53 = .ok (.aload_n 0, 1) := dk_42 (dk_at dksX1_content_2 7 rfl rfl)
theorem dX1_content_54 : decode cX1_content 54 = .ok (.getfield 185, 3) := dk_180 0 185 (dk_at dksX1_content_2 8 rfl rfl)
theorem dX1_content_57 : decode cX1_content 57 = .ok (.invokevirtual 189, 3) := dk_182 0 189 (dk_at dksX1_content_2 11 rfl rfl)
theorem dX1_content_60 : decode cX1_content 60 = .ok (.invokevirtual 160, 3) := dk_182 0 160 (dk_at dksX1_content_2 14 rfl rfl)
theorem dX1_content_63 : decode cX1_content 63 = .ok (.invokevirtual 424, 3) := dk_182 1 168 (dk_at dksX1_content_2 17 rfl rfl)
theorem dX1_content_66 : decode cX1_content 66 = .ok (.iload_n 2, 1) := dk_28 (dk_at dksX1_content_2 20 rfl rfl)
theorem dX1_content_67 : decode cX1_content 67 = .ok (.invokevirtual 413, 3) := dk_182 1 157 (dk_at dksX1_content_2 21 rfl rfl)
theorem dX1_content_70 : decode cX1_content 70 = .ok (.ireturn, 1) := dk_172 (dk_at dksX1_content_3 0 rfl rfl)
abbrev cX1_inY : ByteArray := prog_1_method_31_code
def yX1_inY : MethodName := ⟨RX1, "inY", "([I)LTermDesk$Poly;"⟩
def dkwX1_inY_1 : List UInt8 := [46, 79, 132, 3, 1, 167, 255, 234, 42, 44, 182, 0, 203, 176]
abbrev dktX1_inY_1 : List UInt8 := dkwX1_inY_1 ++ []
def dkwX1_inY_0 : List UInt8 := [42, 182, 0, 113, 77, 3, 62, 29, 43, 184, 0, 135, 163, 0, 20, 44, 3, 29, 3, 184, 0, 199, 43, 29]
abbrev dktX1_inY_0 : List UInt8 := dkwX1_inY_0 ++ dktX1_inY_1
theorem dksX1_inY_0 : cX1_inY.data.toList.drop 0 = dktX1_inY_0 := by decide +kernel
theorem dksX1_inY_1 : cX1_inY.data.toList.drop 24 = dktX1_inY_1 := dk_seg dksX1_inY_0 24 rfl rfl
theorem dX1_inY_0 : decode cX1_inY 0 = .ok (.aload_n 0, 1) := dk_42 (dk_at dksX1_inY_0 0 rfl rfl)
theorem dX1_inY_1 : decode cX1_inY 1 = .ok (.invokevirtual 113, 3) := dk_182 0 113 (dk_at dksX1_inY_0 1 rfl rfl)
theorem dX1_inY_4 : decode cX1_inY 4 = .ok (.astore_n 2, 1) := dk_77 (dk_at dksX1_inY_0 4 rfl rfl)
theorem dX1_inY_5 : decode cX1_inY 5 = .ok (.iconst 0, 1) := dk_3 (dk_at dksX1_inY_0 5 rfl rfl)
theorem dX1_inY_6 : decode cX1_inY 6 = .ok (.istore_n 3, 1) := dk_62 (dk_at dksX1_inY_0 6 rfl rfl)
theorem dX1_inY_7 : decode cX1_inY 7 = .ok (.iload_n 3, 1) := dk_29 (dk_at dksX1_inY_0 7 rfl rfl)
theorem dX1_inY_8 : decode cX1_inY 8 = .ok (.aload_n 1, 1) := dk_43 (dk_at dksX1_inY_0 8 rfl rfl)
theorem dX1_inY_9 : decode cX1_inY 9 = .ok (.invokestatic 135, 3) := dk_184 0 135 (dk_at dksX1_inY_0 9 rfl rfl)
theorem dX1_inY_12 : decode cX1_inY 12 = .ok (.if_icmp .gt 20, 3) := dk_163 0 20 (dk_at dksX1_inY_0 12 rfl rfl)
theorem dX1_inY_15 : decode cX1_inY 15 = .ok (.aload_n 2, 1) := dk_44 (dk_at dksX1_inY_0 15 rfl rfl)
theorem dX1_inY_16 : decode cX1_inY 16 = .ok (.iconst 0, 1) := dk_3 (dk_at dksX1_inY_0 16 rfl rfl)
theorem dX1_inY_17 : decode cX1_inY 17 = .ok (.iload_n 3, 1) := dk_29 (dk_at dksX1_inY_0 17 rfl rfl)
theorem dX1_inY_18 : decode cX1_inY 18 = .ok (.iconst 0, 1) := dk_3 (dk_at dksX1_inY_0 18 rfl rfl)
theorem dX1_inY_19 : decode cX1_inY 19 = .ok (.invokestatic 199, 3) := dk_184 0 199 (dk_at dksX1_inY_0 19 rfl rfl)
theorem dX1_inY_22 : decode cX1_inY 22 = .ok (.aload_n 1, 1) := dk_43 (dk_at dksX1_inY_0 22 rfl rfl)
theorem dX1_inY_23 : decode cX1_inY 23 = .ok (.iload_n 3, 1) := dk_29 (dk_at dksX1_inY_0 23 rfl rfl)
theorem dX1_inY_24 : decode cX1_inY 24 = .ok (.iaload, 1) := dk_46 (dk_at dksX1_inY_1 0 rfl rfl)
theorem dX1_inY_25 : decode cX1_inY 25 = .ok (.iastore, 1) := dk_79 (dk_at dksX1_inY_1 1 rfl rfl)
theorem dX1_inY_26 : decode cX1_inY 26 = .ok (.iinc 3 1, 3) := dk_132 3 1 (dk_at dksX1_inY_1 2 rfl rfl)
theorem dX1_inY_29 : decode cX1_inY 29 = .ok (.goto (-22), 3) := dk_167 255 234 (dk_at dksX1_inY_1 5 rfl rfl)
theorem dX1_inY_32 : decode cX1_inY 32 = .ok (.aload_n 0, 1) := dk_42 (dk_at dksX1_inY_1 8 rfl rfl)
theorem dX1_inY_33 : decode cX1_inY 33 = .ok (.aload_n 2, 1) := dk_44 (dk_at dksX1_inY_1 9 rfl rfl)
theorem dX1_inY_34 : decode cX1_inY 34 = .ok (.invokevirtual 203, 3) := dk_182 0 203 (dk_at dksX1_inY_1 10 rfl rfl)
theorem dX1_inY_37 : decode cX1_inY 37 = .ok (.areturn, 1) := dk_176 (dk_at dksX1_inY_1 13 rfl rfl)
abbrev cX1_primitive_2 : ByteArray := prog_1_method_86_code
def yX1_primitive_2 : MethodName := ⟨RX1, "primitive", "(II)I"⟩
def dkwX1_primitive_2_5 : List UInt8 := [132, 6, 1, 167, 255, 217, 132, 5, 1, 167, 255, 201, 42, 42, 25, 4, 182, 0, 203, 28, 182, 1, 157, 172]
abbrev dktX1_primitive_2_5 : List UInt8 := dkwX1_primitive_2_5 ++ []
def dkwX1_primitive_2_4 : List UInt8 := [163, 0, 30, 25, 4, 21, 5, 21, 6, 3, 184, 0, 199, 42, 180, 0, 185, 21, 5, 50, 21, 6, 46, 79]
abbrev dktX1_primitive_2_4 : List UInt8 := dkwX1_primitive_2_4 ++ dktX1_primitive_2_5
def dkwX1_primitive_2_3 : List UInt8 := [54, 5, 21, 5, 16, 15, 163, 0, 54, 3, 54, 6, 21, 6, 42, 180, 0, 185, 21, 5, 50, 184, 0, 135]
abbrev dktX1_primitive_2_3 : List UInt8 := dkwX1_primitive_2_3 ++ dktX1_primitive_2_4
def dkwX1_primitive_2_2 : List UInt8 := [180, 0, 232, 27, 50, 42, 180, 0, 185, 182, 0, 189, 182, 0, 182, 78, 42, 182, 0, 113, 58, 4, 3]
abbrev dktX1_primitive_2_2 : List UInt8 := dkwX1_primitive_2_2 ++ dktX1_primitive_2_3
def dkwX1_primitive_2_1 : List UInt8 := [153, 0, 5, 2, 172, 42, 27, 182, 1, 162, 153, 0, 9, 42, 8, 182, 1, 19, 172, 42, 42, 42]
abbrev dktX1_primitive_2_1 : List UInt8 := dkwX1_primitive_2_1 ++ dktX1_primitive_2_2
def dkwX1_primitive_2_0 : List UInt8 := [42, 42, 5, 188, 10, 89, 3, 27, 79, 89, 4, 28, 79, 184, 1, 69, 182, 1, 59, 182, 1, 62]
abbrev dktX1_primitive_2_0 : List UInt8 := dkwX1_primitive_2_0 ++ dktX1_primitive_2_1
theorem dksX1_primitive_2_0 : cX1_primitive_2.data.toList.drop 0 = dktX1_primitive_2_0 := by decide +kernel
theorem dksX1_primitive_2_1 : cX1_primitive_2.data.toList.drop 22 = dktX1_primitive_2_1 := dk_seg dksX1_primitive_2_0 22 rfl rfl
theorem dksX1_primitive_2_2 : cX1_primitive_2.data.toList.drop 44 = dktX1_primitive_2_2 := dk_seg dksX1_primitive_2_1 22 rfl rfl
theorem dksX1_primitive_2_3 : cX1_primitive_2.data.toList.drop 67 = dktX1_primitive_2_3 := dk_seg dksX1_primitive_2_2 23 rfl rfl
theorem dksX1_primitive_2_4 : cX1_primitive_2.data.toList.drop 91 = dktX1_primitive_2_4 := dk_seg dksX1_primitive_2_3 24 rfl rfl
theorem dksX1_primitive_2_5 : cX1_primitive_2.data.toList.drop 115 = dktX1_primitive_2_5 := dk_seg dksX1_primitive_2_4 24 rfl rfl
theorem dX1_primitive_2_0 : decode cX1_primitive_2 0 = .ok (.aload_n 0, 1) := dk_42 (dk_at dksX1_primitive_2_0 0 rfl rfl)
theorem dX1_primitive_2_1 : decode cX1_primitive_2 1 = .ok (.aload_n 0, 1) := dk_42 (dk_at dksX1_primitive_2_0 1 rfl rfl)
theorem dX1_primitive_2_2 : decode cX1_primitive_2 2 = .ok (.iconst 2, 1) := dk_5 (dk_at dksX1_primitive_2_0 2 rfl rfl)
theorem dX1_primitive_2_3 : decode cX1_primitive_2 3 = .ok (.newarray .int, 2) := dk_188_10 (dk_at dksX1_primitive_2_0 3 rfl rfl)
theorem dX1_primitive_2_5 : decode cX1_primitive_2 5 = .ok (.dup, 1) := dk_89 (dk_at dksX1_primitive_2_0 5 rfl rfl)
theorem dX1_primitive_2_6 : decode cX1_primitive_2 6 = .ok (.iconst 0, 1) := dk_3 (dk_at dksX1_primitive_2_0 6 rfl rfl)
theorem dX1_primitive_2_7 : decode cX1_primitive_2 7 = .ok (.iload_n 1, 1) := dk_27 (dk_at dksX1_primitive_2_0 7 rfl rfl)
theorem dX1_primitive_2_8 : decode cX1_primitive_2 8 = .ok (.iastore, 1) := dk_79 (dk_at dksX1_primitive_2_0 8 rfl rfl)
theorem dX1_primitive_2_9 : decode cX1_primitive_2 9 = .ok (.dup, 1) := dk_89 (dk_at dksX1_primitive_2_0 9 rfl rfl)
theorem dX1_primitive_2_10 : decode cX1_primitive_2 10 = .ok (.iconst 1, 1) := dk_4 (dk_at dksX1_primitive_2_0 10 rfl rfl)
theorem dX1_primitive_2_11 : decode cX1_primitive_2 11 = .ok (.iload_n 2, 1) := dk_28 (dk_at dksX1_primitive_2_0 11 rfl rfl)
theorem dX1_primitive_2_12 : decode cX1_primitive_2 12 = .ok (.iastore, 1) := dk_79 (dk_at dksX1_primitive_2_0 12 rfl rfl)
theorem dX1_primitive_2_13 : decode cX1_primitive_2 13 = .ok (.invokestatic 325, 3) := dk_184 1 69 (dk_at dksX1_primitive_2_0 13 rfl rfl)
theorem dX1_primitive_2_16 : decode cX1_primitive_2 16 = .ok (.invokevirtual 315, 3) := dk_182 1 59 (dk_at dksX1_primitive_2_0 16 rfl rfl)
theorem dX1_primitive_2_19 : decode cX1_primitive_2 19 = .ok (.invokevirtual 318, 3) := dk_182 1 62 (dk_at dksX1_primitive_2_0 19 rfl rfl)
theorem dX1_primitive_2_22 : decode cX1_primitive_2 22 = .ok (.ifCond .eq 5, 3) := dk_153 0 5 (dk_at dksX1_primitive_2_1 0 rfl rfl)
theorem dX1_primitive_2_25 : decode cX1_primitive_2 25 = .ok (.iconst (-1), 1) := dk_2 (dk_at dksX1_primitive_2_1 3 rfl rfl)
theorem dX1_primitive_2_26 : decode cX1_primitive_2 26 = .ok (.ireturn, 1) := dk_172 (dk_at dksX1_primitive_2_1 4 rfl rfl)
theorem dX1_primitive_2_27 : decode cX1_primitive_2 27 = .ok (.aload_n 0, 1) := dk_42 (dk_at dksX1_primitive_2_1 5 rfl rfl)
theorem dX1_primitive_2_28 : decode cX1_primitive_2 28 = .ok (.iload_n 1, 1) := dk_27 (dk_at dksX1_primitive_2_1 6 rfl rfl)
theorem dX1_primitive_2_29 : decode cX1_primitive_2 29 = .ok (.invokevirtual 418, 3) := dk_182 1 162 (dk_at dksX1_primitive_2_1 7 rfl rfl)
theorem dX1_primitive_2_32 : decode cX1_primitive_2 32 = .ok (.ifCond .eq 9, 3) := dk_153 0 9 (dk_at dksX1_primitive_2_1 10 rfl rfl)
theorem dX1_primitive_2_35 : decode cX1_primitive_2 35 = .ok (.aload_n 0, 1) := dk_42 (dk_at dksX1_primitive_2_1 13 rfl rfl)
theorem dX1_primitive_2_36 : decode cX1_primitive_2 36 = .ok (.iconst 5, 1) := dk_8 (dk_at dksX1_primitive_2_1 14 rfl rfl)
theorem dX1_primitive_2_37 : decode cX1_primitive_2 37 = .ok (.invokevirtual 275, 3) := dk_182 1 19 (dk_at dksX1_primitive_2_1 15 rfl rfl)
theorem dX1_primitive_2_40 : decode cX1_primitive_2 40 = .ok (.ireturn, 1) := dk_172 (dk_at dksX1_primitive_2_1 18 rfl rfl)
theorem dX1_primitive_2_41 : decode cX1_primitive_2 41 = .ok (.aload_n 0, 1) := dk_42 (dk_at dksX1_primitive_2_1 19 rfl rfl)
theorem dX1_primitive_2_42 : decode cX1_primitive_2 42 = .ok (.aload_n 0, 1) := dk_42 (dk_at dksX1_primitive_2_1 20 rfl rfl)
theorem dX1_primitive_2_43 : decode cX1_primitive_2 43 = .ok (.aload_n 0, 1) := dk_42 (dk_at dksX1_primitive_2_1 21 rfl rfl)
theorem dX1_primitive_2_44 : decode cX1_primitive_2 44 = .ok (.getfield 232, 3) := dk_180 0 232 (dk_at dksX1_primitive_2_2 0 rfl rfl)
theorem dX1_primitive_2_47 : decode cX1_primitive_2 47 = .ok (.iload_n 1, 1) := dk_27 (dk_at dksX1_primitive_2_2 3 rfl rfl)
theorem dX1_primitive_2_48 : decode cX1_primitive_2 48 = .ok (.aaload, 1) := dk_50 (dk_at dksX1_primitive_2_2 4 rfl rfl)
theorem dX1_primitive_2_49 : decode cX1_primitive_2 49 = .ok (.aload_n 0, 1) := dk_42 (dk_at dksX1_primitive_2_2 5 rfl rfl)
theorem dX1_primitive_2_50 : decode cX1_primitive_2 50 = .ok (.getfield 185, 3) := dk_180 0 185 (dk_at dksX1_primitive_2_2 6 rfl rfl)
theorem dX1_primitive_2_53 : decode cX1_primitive_2 53 = .ok (.invokevirtual 189, 3) := dk_182 0 189 (dk_at dksX1_primitive_2_2 9 rfl rfl)
theorem dX1_primitive_2_56 : decode cX1_primitive_2 56 = .ok (.invokevirtual 182, 3) := dk_182 0 182 (dk_at dksX1_primitive_2_2 12 rfl rfl)
theorem dX1_primitive_2_59 : decode cX1_primitive_2 59 = .ok (.astore_n 3, 1) := dk_78 (dk_at dksX1_primitive_2_2 15 rfl rfl)
theorem dX1_primitive_2_60 : decode cX1_primitive_2 60 = .ok (.aload_n 0, 1) := dk_42 (dk_at dksX1_primitive_2_2 16 rfl rfl)
theorem dX1_primitive_2_61 : decode cX1_primitive_2 61 = .ok (.invokevirtual 113, 3) := dk_182 0 113 (dk_at dksX1_primitive_2_2 17 rfl rfl)
theorem dX1_primitive_2_64 : decode cX1_primitive_2 64 = .ok (.astore 4, 2) := dk_58 4 (dk_at dksX1_primitive_2_2 20 rfl rfl)
theorem dX1_primitive_2_66 : decode cX1_primitive_2 66 = .ok (.iconst 0, 1) := dk_3 (dk_at dksX1_primitive_2_2 22 rfl rfl)
theorem dX1_primitive_2_67 : decode cX1_primitive_2 67 = .ok (.istore 5, 2) := dk_54 5 (dk_at dksX1_primitive_2_3 0 rfl rfl)
theorem dX1_primitive_2_69 : decode cX1_primitive_2 69 = .ok (.iload 5, 2) := dk_21 5 (dk_at dksX1_primitive_2_3 2 rfl rfl)
theorem dX1_primitive_2_71 : decode cX1_primitive_2 71 = .ok (.bipush 15, 2) := dk_16 15 (dk_at dksX1_primitive_2_3 4 rfl rfl)
theorem dX1_primitive_2_73 : decode cX1_primitive_2 73 = .ok (.if_icmp .gt 54, 3) := dk_163 0 54 (dk_at dksX1_primitive_2_3 6 rfl rfl)
theorem dX1_primitive_2_76 : decode cX1_primitive_2 76 = .ok (.iconst 0, 1) := dk_3 (dk_at dksX1_primitive_2_3 9 rfl rfl)
theorem dX1_primitive_2_77 : decode cX1_primitive_2 77 = .ok (.istore 6, 2) := dk_54 6 (dk_at dksX1_primitive_2_3 10 rfl rfl)
theorem dX1_primitive_2_79 : decode cX1_primitive_2 79 = .ok (.iload 6, 2) := dk_21 6 (dk_at dksX1_primitive_2_3 12 rfl rfl)
theorem dX1_primitive_2_81 : decode cX1_primitive_2 81 = .ok (.aload_n 0, 1) := dk_42 (dk_at dksX1_primitive_2_3 14 rfl rfl)
theorem dX1_primitive_2_82 : decode cX1_primitive_2 82 = .ok (.getfield 185, 3) := dk_180 0 185 (dk_at dksX1_primitive_2_3 15 rfl rfl)
theorem dX1_primitive_2_85 : decode cX1_primitive_2 85 = .ok (.iload 5, 2) := dk_21 5 (dk_at dksX1_primitive_2_3 18 rfl rfl)
theorem dX1_primitive_2_87 : decode cX1_primitive_2 87 = .ok (.aaload, 1) := dk_50 (dk_at dksX1_primitive_2_3 20 rfl rfl)
theorem dX1_primitive_2_88 : decode cX1_primitive_2 88 = .ok (.invokestatic 135, 3) := dk_184 0 135 (dk_at dksX1_primitive_2_3 21 rfl rfl)
theorem dX1_primitive_2_91 : decode cX1_primitive_2 91 = .ok (.if_icmp .gt 30, 3) := dk_163 0 30 (dk_at dksX1_primitive_2_4 0 rfl rfl)
theorem dX1_primitive_2_94 : decode cX1_primitive_2 94 = .ok (.aload 4, 2) := dk_25 4 (dk_at dksX1_primitive_2_4 3 rfl rfl)
theorem dX1_primitive_2_96 : decode cX1_primitive_2 96 = .ok (.iload 5, 2) := dk_21 5 (dk_at dksX1_primitive_2_4 5 rfl rfl)
theorem dX1_primitive_2_98 : decode cX1_primitive_2 98 = .ok (.iload 6, 2) := dk_21 6 (dk_at dksX1_primitive_2_4 7 rfl rfl)
theorem dX1_primitive_2_100 : decode cX1_primitive_2 100 = .ok (.iconst 0, 1) := dk_3 (dk_at dksX1_primitive_2_4 9 rfl rfl)
theorem dX1_primitive_2_101 : decode cX1_primitive_2 101 = .ok (.invokestatic 199, 3) := dk_184 0 199 (dk_at dksX1_primitive_2_4 10 rfl rfl)
theorem dX1_primitive_2_104 : decode cX1_primitive_2 104 = .ok (.aload_n 0, 1) := dk_42 (dk_at dksX1_primitive_2_4 13 rfl rfl)
theorem dX1_primitive_2_105 : decode cX1_primitive_2 105 = .ok (.getfield 185, 3) := dk_180 0 185 (dk_at dksX1_primitive_2_4 14 rfl rfl)
theorem dX1_primitive_2_108 : decode cX1_primitive_2 108 = .ok (.iload 5, 2) := dk_21 5 (dk_at dksX1_primitive_2_4 17 rfl rfl)
theorem dX1_primitive_2_110 : decode cX1_primitive_2 110 = .ok (.aaload, 1) := dk_50 (dk_at dksX1_primitive_2_4 19 rfl rfl)
theorem dX1_primitive_2_111 : decode cX1_primitive_2 111 = .ok (.iload 6, 2) := dk_21 6 (dk_at dksX1_primitive_2_4 20 rfl rfl)
theorem dX1_primitive_2_113 : decode cX1_primitive_2 113 = .ok (.iaload, 1) := dk_46 (dk_at dksX1_primitive_2_4 22 rfl rfl)
theorem dX1_primitive_2_114 : decode cX1_primitive_2 114 = .ok (.iastore, 1) := dk_79 (dk_at dksX1_primitive_2_4 23 rfl rfl)
theorem dX1_primitive_2_115 : decode cX1_primitive_2 115 = .ok (.iinc 6 1, 3) := dk_132 6 1 (dk_at dksX1_primitive_2_5 0 rfl rfl)
theorem dX1_primitive_2_118 : decode cX1_primitive_2 118 = .ok (.goto (-39), 3) := dk_167 255 217 (dk_at dksX1_primitive_2_5 3 rfl rfl)
theorem dX1_primitive_2_121 : decode cX1_primitive_2 121 = .ok (.iinc 5 1, 3) := dk_132 5 1 (dk_at dksX1_primitive_2_5 6 rfl rfl)
theorem dX1_primitive_2_124 : decode cX1_primitive_2 124 = .ok (.goto (-55), 3) := dk_167 255 201 (dk_at dksX1_primitive_2_5 9 rfl rfl)
theorem dX1_primitive_2_127 : decode cX1_primitive_2 127 = .ok (.aload_n 0, 1) := dk_42 (dk_at dksX1_primitive_2_5 12 rfl rfl)
theorem dX1_primitive_2_128 : decode cX1_primitive_2 128 = .ok (.aload_n 0, 1) := dk_42 (dk_at dksX1_primitive_2_5 13 rfl rfl)
theorem dX1_primitive_2_129 : decode cX1_primitive_2 129 = .ok (.aload 4, 2) := dk_25 4 (dk_at dksX1_primitive_2_5 14 rfl rfl)
theorem dX1_primitive_2_131 : decode cX1_primitive_2 131 = .ok (.invokevirtual 203, 3) := dk_182 0 203 (dk_at dksX1_primitive_2_5 16 rfl rfl)
theorem dX1_primitive_2_134 : decode cX1_primitive_2 134 = .ok (.iload_n 2, 1) := dk_28 (dk_at dksX1_primitive_2_5 19 rfl rfl)
theorem dX1_primitive_2_135 : decode cX1_primitive_2 135 = .ok (.invokevirtual 413, 3) := dk_182 1 157 (dk_at dksX1_primitive_2_5 20 rfl rfl)
theorem dX1_primitive_2_138 : decode cX1_primitive_2 138 = .ok (.ireturn, 1) := dk_172 (dk_at dksX1_primitive_2_5 23 rfl rfl)
abbrev cX1_complete : ByteArray := prog_1_method_88_code
def yX1_complete : MethodName := ⟨RX1, "complete", "(I)I"⟩
def dkwX1_complete_6 : List UInt8 := [172, 132, 3, 1, 167, 255, 156, 16, 254, 172]
abbrev dktX1_complete_6 : List UInt8 := dkwX1_complete_6 ++ []
def dkwX1_complete_5 : List UInt8 := [154, 0, 6, 167, 0, 22, 42, 42, 180, 0, 216, 180, 1, 139, 182, 0, 91, 28, 182, 1, 157, 54, 7, 28]
abbrev dktX1_complete_5 : List UInt8 := dkwX1_complete_5 ++ dktX1_complete_6
def dkwX1_complete_4 : List UInt8 := [21, 5, 27, 182, 1, 148, 54, 6, 21, 6, 156, 0, 11, 42, 21, 6, 116, 182, 1, 19, 172, 21, 6]
abbrev dktX1_complete_4 : List UInt8 := dkwX1_complete_4 ++ dktX1_complete_5
def dkwX1_complete_3 : List UInt8 := [21, 4, 122, 4, 126, 153, 0, 66, 27, 21, 5, 122, 4, 126, 154, 0, 6, 167, 0, 54, 42, 21, 4]
abbrev dktX1_complete_3 : List UInt8 := dkwX1_complete_3 ++ dktX1_complete_4
def dkwX1_complete_2 : List UInt8 := [162, 0, 100, 29, 16, 8, 108, 54, 4, 29, 16, 8, 112, 54, 5, 21, 4, 21, 5, 162, 0, 75, 27]
abbrev dktX1_complete_2 : List UInt8 := dkwX1_complete_2 ++ dktX1_complete_3
def dkwX1_complete_1 : List UInt8 := [42, 27, 182, 1, 110, 154, 0, 8, 28, 2, 160, 0, 9, 42, 8, 182, 1, 19, 172, 3, 62, 29, 16, 64]
abbrev dktX1_complete_1 : List UInt8 := dkwX1_complete_1 ++ dktX1_complete_2
def dkwX1_complete_0 : List UInt8 := [42, 42, 4, 27, 184, 1, 120, 182, 1, 4, 182, 1, 62, 153, 0, 5, 2, 172, 42, 27, 182, 1, 171, 61]
abbrev dktX1_complete_0 : List UInt8 := dkwX1_complete_0 ++ dktX1_complete_1
theorem dksX1_complete_0 : cX1_complete.data.toList.drop 0 = dktX1_complete_0 := by decide +kernel
theorem dksX1_complete_1 : cX1_complete.data.toList.drop 24 = dktX1_complete_1 := dk_seg dksX1_complete_0 24 rfl rfl
theorem dksX1_complete_2 : cX1_complete.data.toList.drop 48 = dktX1_complete_2 := dk_seg dksX1_complete_1 24 rfl rfl
theorem dksX1_complete_3 : cX1_complete.data.toList.drop 71 = dktX1_complete_3 := dk_seg dksX1_complete_2 23 rfl rfl
theorem dksX1_complete_4 : cX1_complete.data.toList.drop 94 = dktX1_complete_4 := dk_seg dksX1_complete_3 23 rfl rfl
theorem dksX1_complete_5 : cX1_complete.data.toList.drop 117 = dktX1_complete_5 := dk_seg dksX1_complete_4 23 rfl rfl
theorem dksX1_complete_6 : cX1_complete.data.toList.drop 141 = dktX1_complete_6 := dk_seg dksX1_complete_5 24 rfl rfl
theorem dX1_complete_0 : decode cX1_complete 0 = .ok (.aload_n 0, 1) := dk_42 (dk_at dksX1_complete_0 0 rfl rfl)
theorem dX1_complete_1 : decode cX1_complete 1 = .ok (.aload_n 0, 1) := dk_42 (dk_at dksX1_complete_0 1 rfl rfl)
theorem dX1_complete_2 : decode cX1_complete 2 = .ok (.iconst 1, 1) := dk_4 (dk_at dksX1_complete_0 2 rfl rfl)
theorem dX1_complete_3 : decode cX1_complete 3 = .ok (.iload_n 1, 1) := dk_27 (dk_at dksX1_complete_0 3 rfl rfl)
theorem dX1_complete_4 : decode cX1_complete 4 = .ok (.invokestatic 376, 3) := dk_184 1 120 (dk_at dksX1_complete_0 4 rfl rfl)
theorem dX1_complete_7 : decode cX1_complete 7 = .ok (.invokevirtual 260, 3) := dk_182 1 4 (dk_at dksX1_complete_0 7 rfl rfl)
theorem dX1_complete_10 : decode cX1_complete 10 = .ok (.invokevirtual 318, 3) := dk_182 1 62 (dk_at dksX1_complete_0 10 rfl rfl)
theorem dX1_complete_13 : decode cX1_complete 13 = .ok (.ifCond .eq 5, 3) := dk_153 0 5 (dk_at dksX1_complete_0 13 rfl rfl)
theorem dX1_complete_16 : decode cX1_complete 16 = .ok (.iconst (-1), 1) := dk_2 (dk_at dksX1_complete_0 16 rfl rfl)
theorem dX1_complete_17 : decode cX1_complete 17 = .ok (.ireturn, 1) := dk_172 (dk_at dksX1_complete_0 17 rfl rfl)
theorem dX1_complete_18 : decode cX1_complete 18 = .ok (.aload_n 0, 1) := dk_42 (dk_at dksX1_complete_0 18 rfl rfl)
theorem dX1_complete_19 : decode cX1_complete 19 = .ok (.iload_n 1, 1) := dk_27 (dk_at dksX1_complete_0 19 rfl rfl)
theorem dX1_complete_20 : decode cX1_complete 20 = .ok (.invokevirtual 427, 3) := dk_182 1 171 (dk_at dksX1_complete_0 20 rfl rfl)
theorem dX1_complete_23 : decode cX1_complete 23 = .ok (.istore_n 2, 1) := dk_61 (dk_at dksX1_complete_0 23 rfl rfl)
theorem dX1_complete_24 : decode cX1_complete 24 = .ok (.aload_n 0, 1) := dk_42 (dk_at dksX1_complete_1 0 rfl rfl)
theorem dX1_complete_25 : decode cX1_complete 25 = .ok (.iload_n 1, 1) := dk_27 (dk_at dksX1_complete_1 1 rfl rfl)
theorem dX1_complete_26 : decode cX1_complete 26 = .ok (.invokevirtual 366, 3) := dk_182 1 110 (dk_at dksX1_complete_1 2 rfl rfl)
theorem dX1_complete_29 : decode cX1_complete 29 = .ok (.ifCond .ne 8, 3) := dk_154 0 8 (dk_at dksX1_complete_1 5 rfl rfl)
theorem dX1_complete_32 : decode cX1_complete 32 = .ok (.iload_n 2, 1) := dk_28 (dk_at dksX1_complete_1 8 rfl rfl)
theorem dX1_complete_33 : decode cX1_complete 33 = .ok (.iconst (-1), 1) := dk_2 (dk_at dksX1_complete_1 9 rfl rfl)
theorem dX1_complete_34 : decode cX1_complete 34 = .ok (.if_icmp .ne 9, 3) := dk_160 0 9 (dk_at dksX1_complete_1 10 rfl rfl)
theorem dX1_complete_37 : decode cX1_complete 37 = .ok (.aload_n 0, 1) := dk_42 (dk_at dksX1_complete_1 13 rfl rfl)
theorem dX1_complete_38 : decode cX1_complete 38 = .ok (.iconst 5, 1) := dk_8 (dk_at dksX1_complete_1 14 rfl rfl)
theorem dX1_complete_39 : decode cX1_complete 39 = .ok (.invokevirtual 275, 3) := dk_182 1 19 (dk_at dksX1_complete_1 15 rfl rfl)
theorem dX1_complete_42 : decode cX1_complete 42 = .ok (.ireturn, 1) := dk_172 (dk_at dksX1_complete_1 18 rfl rfl)
theorem dX1_complete_43 : decode cX1_complete 43 = .ok (.iconst 0, 1) := dk_3 (dk_at dksX1_complete_1 19 rfl rfl)
theorem dX1_complete_44 : decode cX1_complete 44 = .ok (.istore_n 3, 1) := dk_62 (dk_at dksX1_complete_1 20 rfl rfl)
theorem dX1_complete_45 : decode cX1_complete 45 = .ok (.iload_n 3, 1) := dk_29 (dk_at dksX1_complete_1 21 rfl rfl)
theorem dX1_complete_46 : decode cX1_complete 46 = .ok (.bipush 64, 2) := dk_16 64 (dk_at dksX1_complete_1 22 rfl rfl)
theorem dX1_complete_48 : decode cX1_complete 48 = .ok (.if_icmp .ge 100, 3) := dk_162 0 100 (dk_at dksX1_complete_2 0 rfl rfl)
theorem dX1_complete_51 : decode cX1_complete 51 = .ok (.iload_n 3, 1) := dk_29 (dk_at dksX1_complete_2 3 rfl rfl)
theorem dX1_complete_52 : decode cX1_complete 52 = .ok (.bipush 8, 2) := dk_16 8 (dk_at dksX1_complete_2 4 rfl rfl)
theorem dX1_complete_54 : decode cX1_complete 54 = .ok (.idiv, 1) := dk_108 (dk_at dksX1_complete_2 6 rfl rfl)
theorem dX1_complete_55 : decode cX1_complete 55 = .ok (.istore 4, 2) := dk_54 4 (dk_at dksX1_complete_2 7 rfl rfl)
theorem dX1_complete_57 : decode cX1_complete 57 = .ok (.iload_n 3, 1) := dk_29 (dk_at dksX1_complete_2 9 rfl rfl)
theorem dX1_complete_58 : decode cX1_complete 58 = .ok (.bipush 8, 2) := dk_16 8 (dk_at dksX1_complete_2 10 rfl rfl)
theorem dX1_complete_60 : decode cX1_complete 60 = .ok (.irem, 1) := dk_112 (dk_at dksX1_complete_2 12 rfl rfl)
theorem dX1_complete_61 : decode cX1_complete 61 = .ok (.istore 5, 2) := dk_54 5 (dk_at dksX1_complete_2 13 rfl rfl)
theorem dX1_complete_63 : decode cX1_complete 63 = .ok (.iload 4, 2) := dk_21 4 (dk_at dksX1_complete_2 15 rfl rfl)
theorem dX1_complete_65 : decode cX1_complete 65 = .ok (.iload 5, 2) := dk_21 5 (dk_at dksX1_complete_2 17 rfl rfl)
theorem dX1_complete_67 : decode cX1_complete 67 = .ok (.if_icmp .ge 75, 3) := dk_162 0 75 (dk_at dksX1_complete_2 19 rfl rfl)
theorem dX1_complete_70 : decode cX1_complete 70 = .ok (.iload_n 1, 1) := dk_27 (dk_at dksX1_complete_2 22 rfl rfl)
theorem dX1_complete_71 : decode cX1_complete 71 = .ok (.iload 4, 2) := dk_21 4 (dk_at dksX1_complete_3 0 rfl rfl)
theorem dX1_complete_73 : decode cX1_complete 73 = .ok (.ishr, 1) := dk_122 (dk_at dksX1_complete_3 2 rfl rfl)
theorem dX1_complete_74 : decode cX1_complete 74 = .ok (.iconst 1, 1) := dk_4 (dk_at dksX1_complete_3 3 rfl rfl)
theorem dX1_complete_75 : decode cX1_complete 75 = .ok (.iand, 1) := dk_126 (dk_at dksX1_complete_3 4 rfl rfl)
theorem dX1_complete_76 : decode cX1_complete 76 = .ok (.ifCond .eq 66, 3) := dk_153 0 66 (dk_at dksX1_complete_3 5 rfl rfl)
theorem dX1_complete_79 : decode cX1_complete 79 = .ok (.iload_n 1, 1) := dk_27 (dk_at dksX1_complete_3 8 rfl rfl)
theorem dX1_complete_80 : decode cX1_complete 80 = .ok (.iload 5, 2) := dk_21 5 (dk_at dksX1_complete_3 9 rfl rfl)
theorem dX1_complete_82 : decode cX1_complete 82 = .ok (.ishr, 1) := dk_122 (dk_at dksX1_complete_3 11 rfl rfl)
theorem dX1_complete_83 : decode cX1_complete 83 = .ok (.iconst 1, 1) := dk_4 (dk_at dksX1_complete_3 12 rfl rfl)
theorem dX1_complete_84 : decode cX1_complete 84 = .ok (.iand, 1) := dk_126 (dk_at dksX1_complete_3 13 rfl rfl)
theorem dX1_complete_85 : decode cX1_complete 85 = .ok (.ifCond .ne 6, 3) := dk_154 0 6 (dk_at dksX1_complete_3 14 rfl rfl)
theorem dX1_complete_88 : decode cX1_complete 88 = .ok (.goto 54, 3) := dk_167 0 54 (dk_at dksX1_complete_3 17 rfl rfl)
theorem dX1_complete_91 : decode cX1_complete 91 = .ok (.aload_n 0, 1) := dk_42 (dk_at dksX1_complete_3 20 rfl rfl)
theorem dX1_complete_92 : decode cX1_complete 92 = .ok (.iload 4, 2) := dk_21 4 (dk_at dksX1_complete_3 21 rfl rfl)
theorem dX1_complete_94 : decode cX1_complete 94 = .ok (.iload 5, 2) := dk_21 5 (dk_at dksX1_complete_4 0 rfl rfl)
theorem dX1_complete_96 : decode cX1_complete 96 = .ok (.iload_n 1, 1) := dk_27 (dk_at dksX1_complete_4 2 rfl rfl)
theorem dX1_complete_97 : decode cX1_complete 97 = .ok (.invokevirtual 404, 3) := dk_182 1 148 (dk_at dksX1_complete_4 3 rfl rfl)
theorem dX1_complete_100 : decode cX1_complete 100 = .ok (.istore 6, 2) := dk_54 6 (dk_at dksX1_complete_4 6 rfl rfl)
theorem dX1_complete_102 : decode cX1_complete 102 = .ok (.iload 6, 2) := dk_21 6 (dk_at dksX1_complete_4 8 rfl rfl)
theorem dX1_complete_104 : decode cX1_complete 104 = .ok (.ifCond .ge 11, 3) := dk_156 0 11 (dk_at dksX1_complete_4 10 rfl rfl)
theorem dX1_complete_107 : decode cX1_complete 107 = .ok (.aload_n 0, 1) := dk_42 (dk_at dksX1_complete_4 13 rfl rfl)
theorem dX1_complete_108 : decode cX1_complete 108 = .ok (.iload 6, 2) := dk_21 6 (dk_at dksX1_complete_4 14 rfl rfl)
theorem dX1_complete_110 : decode cX1_complete 110 = .ok (.ineg, 1) := dk_116 (dk_at dksX1_complete_4 16 rfl rfl)
theorem dX1_complete_111 : decode cX1_complete 111 = .ok (.invokevirtual 275, 3) := dk_182 1 19 (dk_at dksX1_complete_4 17 rfl rfl)
theorem dX1_complete_114 : decode cX1_complete 114 = .ok (.ireturn, 1) := dk_172 (dk_at dksX1_complete_4 20 rfl rfl)
theorem dX1_complete_115 : decode cX1_complete 115 = .ok (.iload 6, 2) := dk_21 6 (dk_at dksX1_complete_4 21 rfl rfl)
theorem dX1_complete_117 : decode cX1_complete 117 = .ok (.ifCond .ne 6, 3) := dk_154 0 6 (dk_at dksX1_complete_5 0 rfl rfl)
theorem dX1_complete_120 : decode cX1_complete 120 = .ok (.goto 22, 3) := dk_167 0 22 (dk_at dksX1_complete_5 3 rfl rfl)
theorem dX1_complete_123 : decode cX1_complete 123 = .ok (.aload_n 0, 1) := dk_42 (dk_at dksX1_complete_5 6 rfl rfl)
theorem dX1_complete_124 : decode cX1_complete 124 = .ok (.aload_n 0, 1) := dk_42 (dk_at dksX1_complete_5 7 rfl rfl)
theorem dX1_complete_125 : decode cX1_complete 125 = .ok (.getfield 216, 3) := dk_180 0 216 (dk_at dksX1_complete_5 8 rfl rfl)
theorem dX1_complete_128 : decode cX1_complete 128 = .ok (.getfield 395, 3) := dk_180 1 139 (dk_at dksX1_complete_5 11 rfl rfl)
theorem dX1_complete_131 : decode cX1_complete 131 = .ok (.invokevirtual 91, 3) := dk_182 0 91 (dk_at dksX1_complete_5 14 rfl rfl)
theorem dX1_complete_134 : decode cX1_complete 134 = .ok (.iload_n 2, 1) := dk_28 (dk_at dksX1_complete_5 17 rfl rfl)
theorem dX1_complete_135 : decode cX1_complete 135 = .ok (.invokevirtual 413, 3) := dk_182 1 157 (dk_at dksX1_complete_5 18 rfl rfl)
theorem dX1_complete_138 : decode cX1_complete 138 = .ok (.istore 7, 2) := dk_54 7 (dk_at dksX1_complete_5 21 rfl rfl)
theorem dX1_complete_140 : decode cX1_complete 140 = .ok (.iload_n 2, 1) := dk_28 (dk_at dksX1_complete_5 23 rfl rfl)
theorem dX1_complete_141 : decode cX1_complete 141 = .ok (.ireturn, 1) := dk_172 (dk_at dksX1_complete_6 0 rfl rfl)
theorem dX1_complete_142 : decode cX1_complete 142 = .ok (.iinc 3 1, 3) := dk_132 3 1 (dk_at dksX1_complete_6 1 rfl rfl)
theorem dX1_complete_145 : decode cX1_complete 145 = .ok (.goto (-100), 3) := dk_167 255 156 (dk_at dksX1_complete_6 4 rfl rfl)
theorem dX1_complete_148 : decode cX1_complete 148 = .ok (.bipush (-2), 2) := dk_16 254 (dk_at dksX1_complete_6 7 rfl rfl)
theorem dX1_complete_150 : decode cX1_complete 150 = .ok (.ireturn, 1) := dk_172 (dk_at dksX1_complete_6 9 rfl rfl)
abbrev cX1_free : ByteArray := prog_1_method_87_code
def yX1_free : MethodName := ⟨RX1, "free", "(I)I"⟩
def dkwX1_free_1 : List UInt8 := [182, 0, 46, 153, 0, 5, 28, 172, 132, 2, 1, 167, 255, 225, 2, 172]
abbrev dktX1_free_1 : List UInt8 := dkwX1_free_1 ++ []
def dkwX1_free_0 : List UInt8 := [3, 61, 28, 16, 8, 162, 0, 31, 27, 28, 122, 4, 126, 154, 0, 17, 42, 180, 0, 232, 28, 50]
abbrev dktX1_free_0 : List UInt8 := dkwX1_free_0 ++ dktX1_free_1
theorem dksX1_free_0 : cX1_free.data.toList.drop 0 = dktX1_free_0 := by decide +kernel
theorem dksX1_free_1 : cX1_free.data.toList.drop 22 = dktX1_free_1 := dk_seg dksX1_free_0 22 rfl rfl
theorem dX1_free_0 : decode cX1_free 0 = .ok (.iconst 0, 1) := dk_3 (dk_at dksX1_free_0 0 rfl rfl)
theorem dX1_free_1 : decode cX1_free 1 = .ok (.istore_n 2, 1) := dk_61 (dk_at dksX1_free_0 1 rfl rfl)
theorem dX1_free_2 : decode cX1_free 2 = .ok (.iload_n 2, 1) := dk_28 (dk_at dksX1_free_0 2 rfl rfl)
theorem dX1_free_3 : decode cX1_free 3 = .ok (.bipush 8, 2) := dk_16 8 (dk_at dksX1_free_0 3 rfl rfl)
theorem dX1_free_5 : decode cX1_free 5 = .ok (.if_icmp .ge 31, 3) := dk_162 0 31 (dk_at dksX1_free_0 5 rfl rfl)
theorem dX1_free_8 : decode cX1_free 8 = .ok (.iload_n 1, 1) := dk_27 (dk_at dksX1_free_0 8 rfl rfl)
theorem dX1_free_9 : decode cX1_free 9 = .ok (.iload_n 2, 1) := dk_28 (dk_at dksX1_free_0 9 rfl rfl)
theorem dX1_free_10 : decode cX1_free 10 = .ok (.ishr, 1) := dk_122 (dk_at dksX1_free_0 10 rfl rfl)
theorem dX1_free_11 : decode cX1_free 11 = .ok (.iconst 1, 1) := dk_4 (dk_at dksX1_free_0 11 rfl rfl)
theorem dX1_free_12 : decode cX1_free 12 = .ok (.iand, 1) := dk_126 (dk_at dksX1_free_0 12 rfl rfl)
theorem dX1_free_13 : decode cX1_free 13 = .ok (.ifCond .ne 17, 3) := dk_154 0 17 (dk_at dksX1_free_0 13 rfl rfl)
theorem dX1_free_16 : decode cX1_free 16 = .ok (.aload_n 0, 1) := dk_42 (dk_at dksX1_free_0 16 rfl rfl)
theorem dX1_free_17 : decode cX1_free 17 = .ok (.getfield 232, 3) := dk_180 0 232 (dk_at dksX1_free_0 17 rfl rfl)
theorem dX1_free_20 : decode cX1_free 20 = .ok (.iload_n 2, 1) := dk_28 (dk_at dksX1_free_0 20 rfl rfl)
theorem dX1_free_21 : decode cX1_free 21 = .ok (.aaload, 1) := dk_50 (dk_at dksX1_free_0 21 rfl rfl)
theorem dX1_free_22 : decode cX1_free 22 = .ok (.invokevirtual 46, 3) := dk_182 0 46 (dk_at dksX1_free_1 0 rfl rfl)
theorem dX1_free_25 : decode cX1_free 25 = .ok (.ifCond .eq 5, 3) := dk_153 0 5 (dk_at dksX1_free_1 3 rfl rfl)
theorem dX1_free_28 : decode cX1_free 28 = .ok (.iload_n 2, 1) := dk_28 (dk_at dksX1_free_1 6 rfl rfl)
theorem dX1_free_29 : decode cX1_free 29 = .ok (.ireturn, 1) := dk_172 (dk_at dksX1_free_1 7 rfl rfl)
theorem dX1_free_30 : decode cX1_free 30 = .ok (.iinc 2 1, 3) := dk_132 2 1 (dk_at dksX1_free_1 8 rfl rfl)
theorem dX1_free_33 : decode cX1_free 33 = .ok (.goto (-31), 3) := dk_167 255 225 (dk_at dksX1_free_1 11 rfl rfl)
theorem dX1_free_36 : decode cX1_free 36 = .ok (.iconst (-1), 1) := dk_2 (dk_at dksX1_free_1 14 rfl rfl)
theorem dX1_free_37 : decode cX1_free 37 = .ok (.ireturn, 1) := dk_172 (dk_at dksX1_free_1 15 rfl rfl)
abbrev cX1_order : ByteArray := prog_1_method_89_code
def yX1_order : MethodName := ⟨RX1, "order", "(III)I"⟩
def dkwX1_order_4 : List UInt8 := [132, 5, 1, 167, 255, 224, 21, 4, 153, 0, 7, 4, 167, 0, 4, 3, 172]
abbrev dktX1_order_4 : List UInt8 := dkwX1_order_4 ++ []
def dkwX1_order_3 : List UInt8 := [42, 180, 0, 232, 21, 5, 42, 42, 42, 180, 0, 232, 21, 5, 50, 182, 1, 84, 182, 0, 203, 83]
abbrev dktX1_order_3 : List UInt8 := dkwX1_order_3 ++ dktX1_order_4
def dkwX1_order_2 : List UInt8 := [3, 54, 4, 42, 182, 1, 154, 42, 27, 28, 29, 182, 1, 46, 3, 54, 5, 21, 5, 16, 8, 162, 0, 31]
abbrev dktX1_order_2 : List UInt8 := dkwX1_order_2 ++ dktX1_order_3
def dkwX1_order_1 : List UInt8 := [27, 160, 0, 19, 42, 180, 0, 30, 28, 160, 0, 11, 42, 180, 0, 33, 29, 159, 0, 7, 4, 167, 0, 4]
abbrev dktX1_order_1 : List UInt8 := dkwX1_order_1 ++ dktX1_order_2
def dkwX1_order_0 : List UInt8 := [42, 42, 4, 27, 28, 29, 184, 1, 107, 182, 1, 4, 182, 1, 62, 153, 0, 5, 2, 172, 42, 180, 0, 27]
abbrev dktX1_order_0 : List UInt8 := dkwX1_order_0 ++ dktX1_order_1
theorem dksX1_order_0 : cX1_order.data.toList.drop 0 = dktX1_order_0 := by decide +kernel
theorem dksX1_order_1 : cX1_order.data.toList.drop 24 = dktX1_order_1 := dk_seg dksX1_order_0 24 rfl rfl
theorem dksX1_order_2 : cX1_order.data.toList.drop 48 = dktX1_order_2 := dk_seg dksX1_order_1 24 rfl rfl
theorem dksX1_order_3 : cX1_order.data.toList.drop 72 = dktX1_order_3 := dk_seg dksX1_order_2 24 rfl rfl
theorem dksX1_order_4 : cX1_order.data.toList.drop 94 = dktX1_order_4 := dk_seg dksX1_order_3 22 rfl rfl
theorem dX1_order_0 : decode cX1_order 0 = .ok (.aload_n 0, 1) := dk_42 (dk_at dksX1_order_0 0 rfl rfl)
theorem dX1_order_1 : decode cX1_order 1 = .ok (.aload_n 0, 1) := dk_42 (dk_at dksX1_order_0 1 rfl rfl)
theorem dX1_order_2 : decode cX1_order 2 = .ok (.iconst 1, 1) := dk_4 (dk_at dksX1_order_0 2 rfl rfl)
theorem dX1_order_3 : decode cX1_order 3 = .ok (.iload_n 1, 1) := dk_27 (dk_at dksX1_order_0 3 rfl rfl)
theorem dX1_order_4 : decode cX1_order 4 = .ok (.iload_n 2, 1) := dk_28 (dk_at dksX1_order_0 4 rfl rfl)
theorem dX1_order_5 : decode cX1_order 5 = .ok (.iload_n 3, 1) := dk_29 (dk_at dksX1_order_0 5 rfl rfl)
theorem dX1_order_6 : decode cX1_order 6 = .ok (.invokestatic 363, 3) := dk_184 1 107 (dk_at dksX1_order_0 6 rfl rfl)
theorem dX1_order_9 : decode cX1_order 9 = .ok (.invokevirtual 260, 3) := dk_182 1 4 (dk_at dksX1_order_0 9 rfl rfl)
theorem dX1_order_12 : decode cX1_order 12 = .ok (.invokevirtual 318, 3) := dk_182 1 62 (dk_at dksX1_order_0 12 rfl rfl)
theorem dX1_order_15 : decode cX1_order 15 = .ok (.ifCond .eq 5, 3) := dk_153 0 5 (dk_at dksX1_order_0 15 rfl rfl)
theorem dX1_order_18 : decode cX1_order 18 = .ok (.iconst (-1), 1) := dk_2 (dk_at dksX1_order_0 18 rfl rfl)
theorem dX1_order_19 : decode cX1_order 19 = .ok (.ireturn, 1) := dk_172 (dk_at dksX1_order_0 19 rfl rfl)
theorem dX1_order_20 : decode cX1_order 20 = .ok (.aload_n 0, 1) := dk_42 (dk_at dksX1_order_0 20 rfl rfl)
theorem dX1_order_21 : decode cX1_order 21 = .ok (.getfield 27, 3) := dk_180 0 27 (dk_at dksX1_order_0 21 rfl rfl)
theorem dX1_order_24 : decode cX1_order 24 = .ok (.iload_n 1, 1) := dk_27 (dk_at dksX1_order_1 0 rfl rfl)
theorem dX1_order_25 : decode cX1_order 25 = .ok (.if_icmp .ne 19, 3) := dk_160 0 19 (dk_at dksX1_order_1 1 rfl rfl)
theorem dX1_order_28 : decode cX1_order 28 = .ok (.aload_n 0, 1) := dk_42 (dk_at dksX1_order_1 4 rfl rfl)
theorem dX1_order_29 : decode cX1_order 29 = .ok (.getfield 30, 3) := dk_180 0 30 (dk_at dksX1_order_1 5 rfl rfl)
theorem dX1_order_32 : decode cX1_order 32 = .ok (.iload_n 2, 1) := dk_28 (dk_at dksX1_order_1 8 rfl rfl)
theorem dX1_order_33 : decode cX1_order 33 = .ok (.if_icmp .ne 11, 3) := dk_160 0 11 (dk_at dksX1_order_1 9 rfl rfl)
theorem dX1_order_36 : decode cX1_order 36 = .ok (.aload_n 0, 1) := dk_42 (dk_at dksX1_order_1 12 rfl rfl)
theorem dX1_order_37 : decode cX1_order 37 = .ok (.getfield 33, 3) := dk_180 0 33 (dk_at dksX1_order_1 13 rfl rfl)
theorem dX1_order_40 : decode cX1_order 40 = .ok (.iload_n 3, 1) := dk_29 (dk_at dksX1_order_1 16 rfl rfl)
theorem dX1_order_41 : decode cX1_order 41 = .ok (.if_icmp .eq 7, 3) := dk_159 0 7 (dk_at dksX1_order_1 17 rfl rfl)
theorem dX1_order_44 : decode cX1_order 44 = .ok (.iconst 1, 1) := dk_4 (dk_at dksX1_order_1 20 rfl rfl)
theorem dX1_order_45 : decode cX1_order 45 = .ok (.goto 4, 3) := dk_167 0 4 (dk_at dksX1_order_1 21 rfl rfl)
theorem dX1_order_48 : decode cX1_order 48 = .ok (.iconst 0, 1) := dk_3 (dk_at dksX1_order_2 0 rfl rfl)
theorem dX1_order_49 : decode cX1_order 49 = .ok (.istore 4, 2) := dk_54 4 (dk_at dksX1_order_2 1 rfl rfl)
theorem dX1_order_51 : decode cX1_order 51 = .ok (.aload_n 0, 1) := dk_42 (dk_at dksX1_order_2 3 rfl rfl)
theorem dX1_order_52 : decode cX1_order 52 = .ok (.invokevirtual 410, 3) := dk_182 1 154 (dk_at dksX1_order_2 4 rfl rfl)
theorem dX1_order_55 : decode cX1_order 55 = .ok (.aload_n 0, 1) := dk_42 (dk_at dksX1_order_2 7 rfl rfl)
theorem dX1_order_56 : decode cX1_order 56 = .ok (.iload_n 1, 1) := dk_27 (dk_at dksX1_order_2 8 rfl rfl)
theorem dX1_order_57 : decode cX1_order 57 = .ok (.iload_n 2, 1) := dk_28 (dk_at dksX1_order_2 9 rfl rfl)
theorem dX1_order_58 : decode cX1_order 58 = .ok (.iload_n 3, 1) := dk_29 (dk_at dksX1_order_2 10 rfl rfl)
theorem dX1_order_59 : decode cX1_order 59 = .ok (.invokevirtual 302, 3) := dk_182 1 46 (dk_at dksX1_order_2 11 rfl rfl)
theorem dX1_order_62 : decode cX1_order 62 = .ok (.iconst 0, 1) := dk_3 (dk_at dksX1_order_2 14 rfl rfl)
theorem dX1_order_63 : decode cX1_order 63 = .ok (.istore 5, 2) := dk_54 5 (dk_at dksX1_order_2 15 rfl rfl)
theorem dX1_order_65 : decode cX1_order 65 = .ok (.iload 5, 2) := dk_21 5 (dk_at dksX1_order_2 17 rfl rfl)
theorem dX1_order_67 : decode cX1_order 67 = .ok (.bipush 8, 2) := dk_16 8 (dk_at dksX1_order_2 19 rfl rfl)
theorem dX1_order_69 : decode cX1_order 69 = .ok (.if_icmp .ge 31, 3) := dk_162 0 31 (dk_at dksX1_order_2 21 rfl rfl)
theorem dX1_order_72 : decode cX1_order 72 = .ok (.aload_n 0, 1) := dk_42 (dk_at dksX1_order_3 0 rfl rfl)
theorem dX1_order_73 : decode cX1_order 73 = .ok (.getfield 232, 3) := dk_180 0 232 (dk_at dksX1_order_3 1 rfl rfl)
theorem dX1_order_76 : decode cX1_order 76 = .ok (.iload 5, 2) := dk_21 5 (dk_at dksX1_order_3 4 rfl rfl)
theorem dX1_order_78 : decode cX1_order 78 = .ok (.aload_n 0, 1) := dk_42 (dk_at dksX1_order_3 6 rfl rfl)
theorem dX1_order_79 : decode cX1_order 79 = .ok (.aload_n 0, 1) := dk_42 (dk_at dksX1_order_3 7 rfl rfl)
theorem dX1_order_80 : decode cX1_order 80 = .ok (.aload_n 0, 1) := dk_42 (dk_at dksX1_order_3 8 rfl rfl)
theorem dX1_order_81 : decode cX1_order 81 = .ok (.getfield 232, 3) := dk_180 0 232 (dk_at dksX1_order_3 9 rfl rfl)
theorem dX1_order_84 : decode cX1_order 84 = .ok (.iload 5, 2) := dk_21 5 (dk_at dksX1_order_3 12 rfl rfl)
theorem dX1_order_86 : decode cX1_order 86 = .ok (.aaload, 1) := dk_50 (dk_at dksX1_order_3 14 rfl rfl)
theorem dX1_order_87 : decode cX1_order 87 = .ok (.invokevirtual 340, 3) := dk_182 1 84 (dk_at dksX1_order_3 15 rfl rfl)
theorem dX1_order_90 : decode cX1_order 90 = .ok (.invokevirtual 203, 3) := dk_182 0 203 (dk_at dksX1_order_3 18 rfl rfl)
theorem dX1_order_93 : decode cX1_order 93 = .ok (.aastore, 1) := dk_83 (dk_at dksX1_order_3 21 rfl rfl)
theorem dX1_order_94 : decode cX1_order 94 = .ok (.iinc 5 1, 3) := dk_132 5 1 (dk_at dksX1_order_4 0 rfl rfl)
theorem dX1_order_97 : decode cX1_order 97 = .ok (.goto (-32), 3) := dk_167 255 224 (dk_at dksX1_order_4 3 rfl rfl)
theorem dX1_order_100 : decode cX1_order 100 = .ok (.iload 4, 2) := dk_21 4 (dk_at dksX1_order_4 6 rfl rfl)
theorem dX1_order_102 : decode cX1_order 102 = .ok (.ifCond .eq 7, 3) := dk_153 0 7 (dk_at dksX1_order_4 8 rfl rfl)
theorem dX1_order_105 : decode cX1_order 105 = .ok (.iconst 1, 1) := dk_4 (dk_at dksX1_order_4 11 rfl rfl)
theorem dX1_order_106 : decode cX1_order 106 = .ok (.goto 4, 3) := dk_167 0 4 (dk_at dksX1_order_4 12 rfl rfl)
theorem dX1_order_109 : decode cX1_order 109 = .ok (.iconst 0, 1) := dk_3 (dk_at dksX1_order_4 15 rfl rfl)
theorem dX1_order_110 : decode cX1_order 110 = .ok (.ireturn, 1) := dk_172 (dk_at dksX1_order_4 16 rfl rfl)
abbrev cX1_undo : ByteArray := prog_1_method_90_code
def yX1_undo : MethodName := ⟨RX1, "undo", "()Z"⟩
def dkwX1_undo_3 : List UInt8 := [42, 180, 0, 241, 42, 180, 1, 56, 46, 7, 112, 182, 1, 46, 4, 172]
abbrev dktX1_undo_3 : List UInt8 := dkwX1_undo_3 ++ []
def dkwX1_undo_2 : List UInt8 := [180, 0, 241, 42, 180, 1, 56, 46, 16, 16, 108, 42, 180, 0, 241, 42, 180, 1, 56, 46, 7, 108, 7, 112]
abbrev dktX1_undo_2 : List UInt8 := dkwX1_undo_2 ++ dktX1_undo_3
def dkwX1_undo_1 : List UInt8 := [180, 1, 56, 4, 100, 181, 1, 56, 42, 42, 180, 0, 237, 42, 180, 1, 56, 50, 181, 0, 232, 42, 42]
abbrev dktX1_undo_1 : List UInt8 := dkwX1_undo_1 ++ dktX1_undo_2
def dkwX1_undo_0 : List UInt8 := [42, 42, 180, 1, 56, 158, 0, 7, 3, 167, 0, 4, 4, 182, 1, 62, 153, 0, 5, 3, 172, 42, 89]
abbrev dktX1_undo_0 : List UInt8 := dkwX1_undo_0 ++ dktX1_undo_1
theorem dksX1_undo_0 : cX1_undo.data.toList.drop 0 = dktX1_undo_0 := by decide +kernel
theorem dksX1_undo_1 : cX1_undo.data.toList.drop 23 = dktX1_undo_1 := dk_seg dksX1_undo_0 23 rfl rfl
theorem dksX1_undo_2 : cX1_undo.data.toList.drop 46 = dktX1_undo_2 := dk_seg dksX1_undo_1 23 rfl rfl
theorem dksX1_undo_3 : cX1_undo.data.toList.drop 70 = dktX1_undo_3 := dk_seg dksX1_undo_2 24 rfl rfl
theorem dX1_undo_0 : decode cX1_undo 0 = .ok (.aload_n 0, 1) := dk_42 (dk_at dksX1_undo_0 0 rfl rfl)
theorem dX1_undo_1 : decode cX1_undo 1 = .ok (.aload_n 0, 1) := dk_42 (dk_at dksX1_undo_0 1 rfl rfl)
theorem dX1_undo_2 : decode cX1_undo 2 = .ok (.getfield 312, 3) := dk_180 1 56 (dk_at dksX1_undo_0 2 rfl rfl)
theorem dX1_undo_5 : decode cX1_undo 5 = .ok (.ifCond .le 7, 3) := dk_158 0 7 (dk_at dksX1_undo_0 5 rfl rfl)
theorem dX1_undo_8 : decode cX1_undo 8 = .ok (.iconst 0, 1) := dk_3 (dk_at dksX1_undo_0 8 rfl rfl)
theorem dX1_undo_9 : decode cX1_undo 9 = .ok (.goto 4, 3) := dk_167 0 4 (dk_at dksX1_undo_0 9 rfl rfl)
theorem dX1_undo_12 : decode cX1_undo 12 = .ok (.iconst 1, 1) := dk_4 (dk_at dksX1_undo_0 12 rfl rfl)
theorem dX1_undo_13 : decode cX1_undo 13 = .ok (.invokevirtual 318, 3) := dk_182 1 62 (dk_at dksX1_undo_0 13 rfl rfl)
theorem dX1_undo_16 : decode cX1_undo 16 = .ok (.ifCond .eq 5, 3) := dk_153 0 5 (dk_at dksX1_undo_0 16 rfl rfl)
theorem dX1_undo_19 : decode cX1_undo 19 = .ok (.iconst 0, 1) := dk_3 (dk_at dksX1_undo_0 19 rfl rfl)
theorem dX1_undo_20 : decode cX1_undo 20 = .ok (.ireturn, 1) := dk_172 (dk_at dksX1_undo_0 20 rfl rfl)
theorem dX1_undo_21 : decode cX1_undo 21 = .ok (.aload_n 0, 1) := dk_42 (dk_at dksX1_undo_0 21 rfl rfl)
theorem dX1_undo_22 : decode cX1_undo 22 = .ok (.dup, 1) := dk_89 (dk_at dksX1_undo_0 22 rfl rfl)
theorem dX1_undo_23 : decode cX1_undo 23 = .ok (.getfield 312, 3) := dk_180 1 56 (dk_at dksX1_undo_1 0 rfl rfl)
theorem dX1_undo_26 : decode cX1_undo 26 = .ok (.iconst 1, 1) := dk_4 (dk_at dksX1_undo_1 3 rfl rfl)
theorem dX1_undo_27 : decode cX1_undo 27 = .ok (.isub, 1) := dk_100 (dk_at dksX1_undo_1 4 rfl rfl)
theorem dX1_undo_28 : decode cX1_undo 28 = .ok (.putfield 312, 3) := dk_181 1 56 (dk_at dksX1_undo_1 5 rfl rfl)
theorem dX1_undo_31 : decode cX1_undo 31 = .ok (.aload_n 0, 1) := dk_42 (dk_at dksX1_undo_1 8 rfl rfl)
theorem dX1_undo_32 : decode cX1_undo 32 = .ok (.aload_n 0, 1) := dk_42 (dk_at dksX1_undo_1 9 rfl rfl)
theorem dX1_undo_33 : decode cX1_undo 33 = .ok (.getfield 237, 3) := dk_180 0 237 (dk_at dksX1_undo_1 10 rfl rfl)
theorem dX1_undo_36 : decode cX1_undo 36 = .ok (.aload_n 0, 1) := dk_42 (dk_at dksX1_undo_1 13 rfl rfl)
theorem dX1_undo_37 : decode cX1_undo 37 = .ok (.getfield 312, 3) := dk_180 1 56 (dk_at dksX1_undo_1 14 rfl rfl)
theorem dX1_undo_40 : decode cX1_undo 40 = .ok (.aaload, 1) := dk_50 (dk_at dksX1_undo_1 17 rfl rfl)
theorem dX1_undo_41 : decode cX1_undo 41 = .ok (.putfield 232, 3) := dk_181 0 232 (dk_at dksX1_undo_1 18 rfl rfl)
theorem dX1_undo_44 : decode cX1_undo 44 = .ok (.aload_n 0, 1) := dk_42 (dk_at dksX1_undo_1 21 rfl rfl)
theorem dX1_undo_45 : decode cX1_undo 45 = .ok (.aload_n 0, 1) := dk_42 (dk_at dksX1_undo_1 22 rfl rfl)
theorem dX1_undo_46 : decode cX1_undo 46 = .ok (.getfield 241, 3) := dk_180 0 241 (dk_at dksX1_undo_2 0 rfl rfl)
theorem dX1_undo_49 : decode cX1_undo 49 = .ok (.aload_n 0, 1) := dk_42 (dk_at dksX1_undo_2 3 rfl rfl)
theorem dX1_undo_50 : decode cX1_undo 50 = .ok (.getfield 312, 3) := dk_180 1 56 (dk_at dksX1_undo_2 4 rfl rfl)
theorem dX1_undo_53 : decode cX1_undo 53 = .ok (.iaload, 1) := dk_46 (dk_at dksX1_undo_2 7 rfl rfl)
theorem dX1_undo_54 : decode cX1_undo 54 = .ok (.bipush 16, 2) := dk_16 16 (dk_at dksX1_undo_2 8 rfl rfl)
theorem dX1_undo_56 : decode cX1_undo 56 = .ok (.idiv, 1) := dk_108 (dk_at dksX1_undo_2 10 rfl rfl)
theorem dX1_undo_57 : decode cX1_undo 57 = .ok (.aload_n 0, 1) := dk_42 (dk_at dksX1_undo_2 11 rfl rfl)
theorem dX1_undo_58 : decode cX1_undo 58 = .ok (.getfield 241, 3) := dk_180 0 241 (dk_at dksX1_undo_2 12 rfl rfl)
theorem dX1_undo_61 : decode cX1_undo 61 = .ok (.aload_n 0, 1) := dk_42 (dk_at dksX1_undo_2 15 rfl rfl)
theorem dX1_undo_62 : decode cX1_undo 62 = .ok (.getfield 312, 3) := dk_180 1 56 (dk_at dksX1_undo_2 16 rfl rfl)
theorem dX1_undo_65 : decode cX1_undo 65 = .ok (.iaload, 1) := dk_46 (dk_at dksX1_undo_2 19 rfl rfl)
theorem dX1_undo_66 : decode cX1_undo 66 = .ok (.iconst 4, 1) := dk_7 (dk_at dksX1_undo_2 20 rfl rfl)
theorem dX1_undo_67 : decode cX1_undo 67 = .ok (.idiv, 1) := dk_108 (dk_at dksX1_undo_2 21 rfl rfl)
theorem dX1_undo_68 : decode cX1_undo 68 = .ok (.iconst 4, 1) := dk_7 (dk_at dksX1_undo_2 22 rfl rfl)
theorem dX1_undo_69 : decode cX1_undo 69 = .ok (.irem, 1) := dk_112 (dk_at dksX1_undo_2 23 rfl rfl)
theorem dX1_undo_70 : decode cX1_undo 70 = .ok (.aload_n 0, 1) := dk_42 (dk_at dksX1_undo_3 0 rfl rfl)
theorem dX1_undo_71 : decode cX1_undo 71 = .ok (.getfield 241, 3) := dk_180 0 241 (dk_at dksX1_undo_3 1 rfl rfl)
theorem dX1_undo_74 : decode cX1_undo 74 = .ok (.aload_n 0, 1) := dk_42 (dk_at dksX1_undo_3 4 rfl rfl)
theorem dX1_undo_75 : decode cX1_undo 75 = .ok (.getfield 312, 3) := dk_180 1 56 (dk_at dksX1_undo_3 5 rfl rfl)
theorem dX1_undo_78 : decode cX1_undo 78 = .ok (.iaload, 1) := dk_46 (dk_at dksX1_undo_3 8 rfl rfl)
theorem dX1_undo_79 : decode cX1_undo 79 = .ok (.iconst 4, 1) := dk_7 (dk_at dksX1_undo_3 9 rfl rfl)
theorem dX1_undo_80 : decode cX1_undo 80 = .ok (.irem, 1) := dk_112 (dk_at dksX1_undo_3 10 rfl rfl)
theorem dX1_undo_81 : decode cX1_undo 81 = .ok (.invokevirtual 302, 3) := dk_182 1 46 (dk_at dksX1_undo_3 11 rfl rfl)
theorem dX1_undo_84 : decode cX1_undo 84 = .ok (.iconst 1, 1) := dk_4 (dk_at dksX1_undo_3 14 rfl rfl)
theorem dX1_undo_85 : decode cX1_undo 85 = .ok (.ireturn, 1) := dk_172 (dk_at dksX1_undo_3 15 rfl rfl)
abbrev cX1_size : ByteArray := prog_1_method_92_code
def yX1_size : MethodName := ⟨RX1, "size", "(I)I"⟩
def dkwX1_size_3 : List UInt8 := [167, 0, 4, 2, 172]
abbrev dktX1_size_3 : List UInt8 := dkwX1_size_3 ++ []
def dkwX1_size_2 : List UInt8 := [180, 1, 8, 167, 0, 25, 27, 4, 160, 0, 10, 42, 180, 1, 56, 167, 0, 13, 27, 5, 160, 0, 7, 28]
abbrev dktX1_size_2 : List UInt8 := dkwX1_size_2 ++ dktX1_size_3
def dkwX1_size_1 : List UInt8 := [50, 58, 6, 28, 25, 6, 180, 0, 62, 96, 61, 132, 5, 1, 167, 255, 232, 27, 154, 0, 10, 42]
abbrev dktX1_size_1 : List UInt8 := dkwX1_size_1 ++ dktX1_size_2
def dkwX1_size_0 : List UInt8 := [3, 61, 42, 180, 0, 232, 78, 45, 190, 54, 4, 3, 54, 5, 21, 5, 21, 4, 162, 0, 23, 45, 21, 5]
abbrev dktX1_size_0 : List UInt8 := dkwX1_size_0 ++ dktX1_size_1
theorem dksX1_size_0 : cX1_size.data.toList.drop 0 = dktX1_size_0 := by decide +kernel
theorem dksX1_size_1 : cX1_size.data.toList.drop 24 = dktX1_size_1 := dk_seg dksX1_size_0 24 rfl rfl
theorem dksX1_size_2 : cX1_size.data.toList.drop 46 = dktX1_size_2 := dk_seg dksX1_size_1 22 rfl rfl
theorem dksX1_size_3 : cX1_size.data.toList.drop 70 = dktX1_size_3 := dk_seg dksX1_size_2 24 rfl rfl
theorem dX1_size_0 : decode cX1_size 0 = .ok (.iconst 0, 1) := dk_3 (dk_at dksX1_size_0 0 rfl rfl)
theorem dX1_size_1 : decode cX1_size 1 = .ok (.istore_n 2, 1) := dk_61 (dk_at dksX1_size_0 1 rfl rfl)
theorem dX1_size_2 : decode cX1_size 2 = .ok (.aload_n 0, 1) := dk_42 (dk_at dksX1_size_0 2 rfl rfl)
theorem dX1_size_3 : decode cX1_size 3 = .ok (.getfield 232, 3) := dk_180 0 232 (dk_at dksX1_size_0 3 rfl rfl)
theorem dX1_size_6 : decode cX1_size 6 = .ok (.astore_n 3, 1) := dk_78 (dk_at dksX1_size_0 6 rfl rfl)
theorem dX1_size_7 : decode cX1_size 7 = .ok (.aload_n 3, 1) := dk_45 (dk_at dksX1_size_0 7 rfl rfl)
theorem dX1_size_8 : decode cX1_size 8 = .ok (.arraylength, 1) := dk_190 (dk_at dksX1_size_0 8 rfl rfl)
theorem dX1_size_9 : decode cX1_size 9 = .ok (.istore 4, 2) := dk_54 4 (dk_at dksX1_size_0 9 rfl rfl)
theorem dX1_size_11 : decode cX1_size 11 = .ok (.iconst 0, 1) := dk_3 (dk_at dksX1_size_0 11 rfl rfl)
theorem dX1_size_12 : decode cX1_size 12 = .ok (.istore 5, 2) := dk_54 5 (dk_at dksX1_size_0 12 rfl rfl)
theorem dX1_size_14 : decode cX1_size 14 = .ok (.iload 5, 2) := dk_21 5 (dk_at dksX1_size_0 14 rfl rfl)
theorem dX1_size_16 : decode cX1_size 16 = .ok (.iload 4, 2) := dk_21 4 (dk_at dksX1_size_0 16 rfl rfl)
theorem dX1_size_18 : decode cX1_size 18 = .ok (.if_icmp .ge 23, 3) := dk_162 0 23 (dk_at dksX1_size_0 18 rfl rfl)
theorem dX1_size_21 : decode cX1_size 21 = .ok (.aload_n 3, 1) := dk_45 (dk_at dksX1_size_0 21 rfl rfl)
theorem dX1_size_22 : decode cX1_size 22 = .ok (.iload 5, 2) := dk_21 5 (dk_at dksX1_size_0 22 rfl rfl)
theorem dX1_size_24 : decode cX1_size 24 = .ok (.aaload, 1) := dk_50 (dk_at dksX1_size_1 0 rfl rfl)
theorem dX1_size_25 : decode cX1_size 25 = .ok (.astore 6, 2) := dk_58 6 (dk_at dksX1_size_1 1 rfl rfl)
theorem dX1_size_27 : decode cX1_size 27 = .ok (.iload_n 2, 1) := dk_28 (dk_at dksX1_size_1 3 rfl rfl)
theorem dX1_size_28 : decode cX1_size 28 = .ok (.aload 6, 2) := dk_25 6 (dk_at dksX1_size_1 4 rfl rfl)
theorem dX1_size_30 : decode cX1_size 30 = .ok (.getfield 62, 3) := dk_180 0 62 (dk_at dksX1_size_1 6 rfl rfl)
theorem dX1_size_33 : decode cX1_size 33 = .ok (.iadd, 1) := dk_96 (dk_at dksX1_size_1 9 rfl rfl)
theorem dX1_size_34 : decode cX1_size 34 = .ok (.istore_n 2, 1) := dk_61 (dk_at dksX1_size_1 10 rfl rfl)
theorem dX1_size_35 : decode cX1_size 35 = .ok (.iinc 5 1, 3) := dk_132 5 1 (dk_at dksX1_size_1 11 rfl rfl)
theorem dX1_size_38 : decode cX1_size 38 = .ok (.goto (-24), 3) := dk_167 255 232 (dk_at dksX1_size_1 14 rfl rfl)
theorem dX1_size_41 : decode cX1_size 41 = .ok (.iload_n 1, 1) := dk_27 (dk_at dksX1_size_1 17 rfl rfl)
theorem dX1_size_42 : decode cX1_size 42 = .ok (.ifCond .ne 10, 3) := dk_154 0 10 (dk_at dksX1_size_1 18 rfl rfl)
theorem dX1_size_45 : decode cX1_size 45 = .ok (.aload_n 0, 1) := dk_42 (dk_at dksX1_size_1 21 rfl rfl)
theorem dX1_size_46 : decode cX1_size 46 = .ok (.getfield 264, 3) := dk_180 1 8 (dk_at dksX1_size_2 0 rfl rfl)
theorem dX1_size_49 : decode cX1_size 49 = .ok (.goto 25, 3) := dk_167 0 25 (dk_at dksX1_size_2 3 rfl rfl)
theorem dX1_size_52 : decode cX1_size 52 = .ok (.iload_n 1, 1) := dk_27 (dk_at dksX1_size_2 6 rfl rfl)
theorem dX1_size_53 : decode cX1_size 53 = .ok (.iconst 1, 1) := dk_4 (dk_at dksX1_size_2 7 rfl rfl)
theorem dX1_size_54 : decode cX1_size 54 = .ok (.if_icmp .ne 10, 3) := dk_160 0 10 (dk_at dksX1_size_2 8 rfl rfl)
theorem dX1_size_57 : decode cX1_size 57 = .ok (.aload_n 0, 1) := dk_42 (dk_at dksX1_size_2 11 rfl rfl)
theorem dX1_size_58 : decode cX1_size 58 = .ok (.getfield 312, 3) := dk_180 1 56 (dk_at dksX1_size_2 12 rfl rfl)
theorem dX1_size_61 : decode cX1_size 61 = .ok (.goto 13, 3) := dk_167 0 13 (dk_at dksX1_size_2 15 rfl rfl)
theorem dX1_size_64 : decode cX1_size 64 = .ok (.iload_n 1, 1) := dk_27 (dk_at dksX1_size_2 18 rfl rfl)
theorem dX1_size_65 : decode cX1_size 65 = .ok (.iconst 2, 1) := dk_5 (dk_at dksX1_size_2 19 rfl rfl)
theorem dX1_size_66 : decode cX1_size 66 = .ok (.if_icmp .ne 7, 3) := dk_160 0 7 (dk_at dksX1_size_2 20 rfl rfl)
theorem dX1_size_69 : decode cX1_size 69 = .ok (.iload_n 2, 1) := dk_28 (dk_at dksX1_size_2 23 rfl rfl)
theorem dX1_size_70 : decode cX1_size 70 = .ok (.goto 4, 3) := dk_167 0 4 (dk_at dksX1_size_3 0 rfl rfl)
theorem dX1_size_73 : decode cX1_size 73 = .ok (.iconst (-1), 1) := dk_2 (dk_at dksX1_size_3 3 rfl rfl)
theorem dX1_size_74 : decode cX1_size 74 = .ok (.ireturn, 1) := dk_172 (dk_at dksX1_size_3 4 rfl rfl)
abbrev cX1_trouble : ByteArray := prog_1_method_93_code
def yX1_trouble : MethodName := ⟨RX1, "trouble", "()I"⟩
theorem dX1_trouble_0 : decode cX1_trouble 0 = .ok (.aload_n 0, 1) := by decide +kernel
theorem dX1_trouble_1 : decode cX1_trouble 1 = .ok (.getfield 250, 3) := by decide +kernel
theorem dX1_trouble_4 : decode cX1_trouble 4 = .ok (.ireturn, 1) := by decide +kernel
abbrev cX1_constant : ByteArray := prog_1_method_91_code
def yX1_constant : MethodName := ⟨RX1, "constant", "(I)I"⟩
def dkwX1_constant_2 : List UInt8 := [28, 27, 160, 0, 5, 29, 172, 132, 2, 1, 132, 3, 1, 167, 255, 200, 187, 1, 174, 89, 183, 1, 176, 191]
abbrev dktX1_constant_2 : List UInt8 := dkwX1_constant_2 ++ []
def dkwX1_constant_1 : List UInt8 := [180, 0, 62, 4, 160, 0, 30, 42, 180, 0, 232, 29, 50, 180, 0, 69, 3, 46, 153, 0, 6, 167, 0, 13]
abbrev dktX1_constant_1 : List UInt8 := dkwX1_constant_1 ++ dktX1_constant_2
def dkwX1_constant_0 : List UInt8 := [3, 61, 3, 62, 42, 180, 1, 0, 153, 0, 55, 29, 16, 8, 162, 0, 49, 42, 180, 0, 232, 29, 50]
abbrev dktX1_constant_0 : List UInt8 := dkwX1_constant_0 ++ dktX1_constant_1
theorem dksX1_constant_0 : cX1_constant.data.toList.drop 0 = dktX1_constant_0 := by decide +kernel
theorem dksX1_constant_1 : cX1_constant.data.toList.drop 23 = dktX1_constant_1 := dk_seg dksX1_constant_0 23 rfl rfl
theorem dksX1_constant_2 : cX1_constant.data.toList.drop 47 = dktX1_constant_2 := dk_seg dksX1_constant_1 24 rfl rfl
theorem dX1_constant_0 : decode cX1_constant 0 = .ok (.iconst 0, 1) := dk_3 (dk_at dksX1_constant_0 0 rfl rfl)
theorem dX1_constant_1 : decode cX1_constant 1 = .ok (.istore_n 2, 1) := dk_61 (dk_at dksX1_constant_0 1 rfl rfl)
theorem dX1_constant_2 : decode cX1_constant 2 = .ok (.iconst 0, 1) := dk_3 (dk_at dksX1_constant_0 2 rfl rfl)
theorem dX1_constant_3 : decode cX1_constant 3 = .ok (.istore_n 3, 1) := dk_62 (dk_at dksX1_constant_0 3 rfl rfl)
theorem dX1_constant_4 : decode cX1_constant 4 = .ok (.aload_n 0, 1) := dk_42 (dk_at dksX1_constant_0 4 rfl rfl)
theorem dX1_constant_5 : decode cX1_constant 5 = .ok (.getfield 256, 3) := dk_180 1 0 (dk_at dksX1_constant_0 5 rfl rfl)
theorem dX1_constant_8 : decode cX1_constant 8 = .ok (.ifCond .eq 55, 3) := dk_153 0 55 (dk_at dksX1_constant_0 8 rfl rfl)
theorem dX1_constant_11 : decode cX1_constant 11 = .ok (.iload_n 3, 1) := dk_29 (dk_at dksX1_constant_0 11 rfl rfl)
theorem dX1_constant_12 : decode cX1_constant 12 = .ok (.bipush 8, 2) := dk_16 8 (dk_at dksX1_constant_0 12 rfl rfl)
theorem dX1_constant_14 : decode cX1_constant 14 = .ok (.if_icmp .ge 49, 3) := dk_162 0 49 (dk_at dksX1_constant_0 14 rfl rfl)
theorem dX1_constant_17 : decode cX1_constant 17 = .ok (.aload_n 0, 1) := dk_42 (dk_at dksX1_constant_0 17 rfl rfl)
theorem dX1_constant_18 : decode cX1_constant 18 = .ok (.getfield 232, 3) := dk_180 0 232 (dk_at dksX1_constant_0 18 rfl rfl)
theorem dX1_constant_21 : decode cX1_constant 21 = .ok (.iload_n 3, 1) := dk_29 (dk_at dksX1_constant_0 21 rfl rfl)
theorem dX1_constant_22 : decode cX1_constant 22 = .ok (.aaload, 1) := dk_50 (dk_at dksX1_constant_0 22 rfl rfl)
theorem dX1_constant_23 : decode cX1_constant 23 = .ok (.getfield 62, 3) := dk_180 0 62 (dk_at dksX1_constant_1 0 rfl rfl)
theorem dX1_constant_26 : decode cX1_constant 26 = .ok (.iconst 1, 1) := dk_4 (dk_at dksX1_constant_1 3 rfl rfl)
theorem dX1_constant_27 : decode cX1_constant 27 = .ok (.if_icmp .ne 30, 3) := dk_160 0 30 (dk_at dksX1_constant_1 4 rfl rfl)
theorem dX1_constant_30 : decode cX1_constant 30 = .ok (.aload_n 0, 1) := dk_42 (dk_at dksX1_constant_1 7 rfl rfl)
theorem dX1_constant_31 : decode cX1_constant 31 = .ok (.getfield 232, 3) := dk_180 0 232 (dk_at dksX1_constant_1 8 rfl rfl)
theorem dX1_constant_34 : decode cX1_constant 34 = .ok (.iload_n 3, 1) := dk_29 (dk_at dksX1_constant_1 11 rfl rfl)
theorem dX1_constant_35 : decode cX1_constant 35 = .ok (.aaload, 1) := dk_50 (dk_at dksX1_constant_1 12 rfl rfl)
theorem dX1_constant_36 : decode cX1_constant 36 = .ok (.getfield 69, 3) := dk_180 0 69 (dk_at dksX1_constant_1 13 rfl rfl)
theorem dX1_constant_39 : decode cX1_constant 39 = .ok (.iconst 0, 1) := dk_3 (dk_at dksX1_constant_1 16 rfl rfl)
theorem dX1_constant_40 : decode cX1_constant 40 = .ok (.iaload, 1) := dk_46 (dk_at dksX1_constant_1 17 rfl rfl)
theorem dX1_constant_41 : decode cX1_constant 41 = .ok (.ifCond .eq 6, 3) := dk_153 0 6 (dk_at dksX1_constant_1 18 rfl rfl)
theorem dX1_constant_44 : decode cX1_constant 44 = .ok (.goto 13, 3) := dk_167 0 13 (dk_at dksX1_constant_1 21 rfl rfl)
theorem dX1_constant_47 : decode cX1_constant 47 = .ok (.iload_n 2, 1) := dk_28 (dk_at dksX1_constant_2 0 rfl rfl)
theorem dX1_constant_48 : decode cX1_constant 48 = .ok (.iload_n 1, 1) := dk_27 (dk_at dksX1_constant_2 1 rfl rfl)
theorem dX1_constant_49 : decode cX1_constant 49 = .ok (.if_icmp .ne 5, 3) := dk_160 0 5 (dk_at dksX1_constant_2 2 rfl rfl)
theorem dX1_constant_52 : decode cX1_constant 52 = .ok (.iload_n 3, 1) := dk_29 (dk_at dksX1_constant_2 5 rfl rfl)
theorem dX1_constant_53 : decode cX1_constant 53 = .ok (.ireturn, 1) := dk_172 (dk_at dksX1_constant_2 6 rfl rfl)
theorem dX1_constant_54 : decode cX1_constant 54 = .ok (.iinc 2 1, 3) := dk_132 2 1 (dk_at dksX1_constant_2 7 rfl rfl)
theorem dX1_constant_57 : decode cX1_constant 57 = .ok (.iinc 3 1, 3) := dk_132 3 1 (dk_at dksX1_constant_2 10 rfl rfl)
theorem dX1_constant_60 : decode cX1_constant 60 = .ok (.goto (-56), 3) := dk_167 255 200 (dk_at dksX1_constant_2 13 rfl rfl)
theorem dX1_constant_63 : decode cX1_constant 63 = .ok (.new 430, 3) := dk_187 1 174 (dk_at dksX1_constant_2 16 rfl rfl)
theorem dX1_constant_66 : decode cX1_constant 66 = .ok (.dup, 1) := dk_89 (dk_at dksX1_constant_2 19 rfl rfl)
theorem dX1_constant_67 : decode cX1_constant 67 = .ok (.invokespecial 432, 3) := dk_183 1 176 (dk_at dksX1_constant_2 20 rfl rfl)
theorem dX1_constant_70 : decode cX1_constant 70 = .ok (.athrow, 1) := dk_191 (dk_at dksX1_constant_2 23 rfl rfl)
theorem q118 : (Jvm.Cond.initialized "TermDesk") ∈ lw_all := lw_g (lw_at lw_m1 1 rfl) rfl
theorem q140 : (Jvm.Cond.instantiable "TermDesk" (26 : Nat)) ∈ lw_all := lw_g (lw_at lw_m1 23 rfl) rfl
theorem q142 : (Jvm.Cond.instanceMethod ({ cls := "TermDesk", name := "<init>", desc := "()V" } : Jvm.MethodName)) ∈ lw_all := lw_g (lw_at lw_m1 25 rfl) rfl
theorem q143 : (Jvm.Cond.code ({ cls := "TermDesk", name := "<init>", desc := "()V" } : Jvm.MethodName) prog_1_method_32_code (1 : Nat) (Option.none : Option Jvm.ClassFile.FieldType)) ∈ lw_all := lw_g (lw_at lw_m1 26 rfl) rfl
theorem q144 : (Jvm.Cond.methodLink "TermDesk" (207 : Nat) ({ cls := "java/lang/Object", name := "<init>", desc := "()V" } : Jvm.MethodName)) ∈ lw_all := lw_g (lw_at lw_m1 27 rfl) rfl
theorem q147 : (Jvm.Cond.classLink "TermDesk" (57 : Nat) "TermDesk$Row") ∈ lw_all := lw_g (lw_at lw_m1 30 rfl) rfl
theorem q149 : (Jvm.Cond.methodLink "TermDesk" (210 : Nat) ({ cls := "TermDesk$Row", name := "<init>", desc := "()V" } : Jvm.MethodName)) ∈ lw_all := lw_g (lw_at lw_m1 32 rfl) rfl
theorem q162 : (Jvm.Cond.fieldLinkNest "TermDesk" (391 : Nat) "TermDesk$Row" "many" "I" "TermDesk") ∈ lw_tbl := lw_at lw_m1 45 rfl
theorem q171 : (Jvm.Cond.classLink "TermDesk" (211 : Nat) "TermDesk$Division") ∈ lw_all := lw_g (lw_at lw_m1 54 rfl) rfl
theorem q173 : (Jvm.Cond.methodLink "TermDesk" (213 : Nat) ({ cls := "TermDesk$Division", name := "<init>", desc := "(LTermDesk;)V" } : Jvm.MethodName)) ∈ lw_all := lw_g (lw_at lw_m1 56 rfl) rfl
theorem q181 : (Jvm.Cond.fieldLinkNest "TermDesk" (387 : Nat) "TermDesk$Division" "quotients" "[LTermDesk$Row;" "TermDesk") ∈ lw_tbl := lw_at lw_m1 64 rfl
theorem q183 : (Jvm.Cond.fieldLinkNest "TermDesk" (395 : Nat) "TermDesk$Division" "rest" "LTermDesk$Row;" "TermDesk") ∈ lw_tbl := lw_at lw_m1 66 rfl
theorem q188 : (Jvm.Cond.fieldLinkNest "TermDesk" (392 : Nat) "TermDesk$Division" "steps" "I" "TermDesk") ∈ lw_tbl := lw_at lw_m1 71 rfl
theorem q190 : (Jvm.Cond.fieldLinkNest "TermDesk" (398 : Nat) "TermDesk$Division" "most" "I" "TermDesk") ∈ lw_tbl := lw_at lw_m1 73 rfl
theorem q192 : (Jvm.Cond.fieldLinkNest "TermDesk" (373 : Nat) "TermDesk$Division" "isRoom" "Z" "TermDesk") ∈ lw_tbl := lw_at lw_m1 75 rfl
theorem q213 : (Jvm.Cond.classLink "TermDesk" (220 : Nat) "[[I") ∈ lw_all := lw_g (lw_at lw_m1 96 rfl) rfl
theorem q215 : (Jvm.Cond.classLink "TermDesk" (225 : Nat) "TermDesk$Scanner") ∈ lw_all := lw_g (lw_at lw_m1 98 rfl) rfl
theorem q217 : (Jvm.Cond.methodLinkNest "TermDesk" (227 : Nat) ({ cls := "TermDesk$Scanner", name := "<init>", desc := "(LTermDesk;)V" } : Jvm.MethodName) "TermDesk") ∈ lw_tbl := lw_at lw_m1 100 rfl
theorem q274 : (Jvm.Cond.fieldLink "TermDesk" (286 : Nat) "TermDesk$Refused" "fault" "I") ∈ lw_all := lw_g (lw_at lw_m1 157 rfl) rfl
theorem q276 : (Jvm.Cond.fieldLink "TermDesk" (287 : Nat) "TermDesk$Refused" "place" "I") ∈ lw_all := lw_g (lw_at lw_m1 159 rfl) rfl
theorem q301 : (Jvm.Cond.fieldLinkNest "TermDesk" (299 : Nat) "TermDesk$Scanner" "unknowns" "[I" "TermDesk") ∈ lw_tbl := lw_at lw_m1 184 rfl
theorem q308 : (Jvm.Cond.fieldLinkNest "TermDesk" (290 : Nat) "TermDesk$Scanner" "itsPrime" "I" "TermDesk") ∈ lw_tbl := lw_at lw_m1 191 rfl
theorem q310 : (Jvm.Cond.fieldLinkNest "TermDesk" (296 : Nat) "TermDesk$Scanner" "itsHow" "I" "TermDesk") ∈ lw_tbl := lw_at lw_m1 193 rfl
theorem q312 : (Jvm.Cond.fieldLinkNest "TermDesk" (306 : Nat) "TermDesk$Scanner" "polys" "I" "TermDesk") ∈ lw_tbl := lw_at lw_m1 195 rfl
theorem q352 : (Jvm.Cond.classLink "TermDesk" (47 : Nat) "TermDesk$Poly") ∈ lw_all := lw_g (lw_at lw_m1 235 rfl) rfl
theorem q354 : (Jvm.Cond.classLink "TermDesk" (236 : Nat) "[LTermDesk$Poly;") ∈ lw_all := lw_g (lw_at lw_m1 237 rfl) rfl
theorem q357 : (Jvm.Cond.methodLink "TermDesk" (117 : Nat) ({ cls := "TermDesk$Poly", name := "<init>", desc := "()V" } : Jvm.MethodName)) ∈ lw_all := lw_g (lw_at lw_m2 0 rfl) rfl
theorem q366 : (Jvm.Cond.fieldLink "TermDesk" (69 : Nat) "TermDesk$Poly" "at" "[I") ∈ lw_all := lw_g (lw_at lw_m2 9 rfl) rfl
theorem q369 : (Jvm.Cond.fieldLink "TermDesk" (76 : Nat) "TermDesk$Poly" "by" "[I") ∈ lw_all := lw_g (lw_at lw_m2 12 rfl) rfl
theorem q372 : (Jvm.Cond.fieldLink "TermDesk" (62 : Nat) "TermDesk$Poly" "many" "I") ∈ lw_all := lw_g (lw_at lw_m2 15 rfl) rfl
theorem q380 : (Jvm.Cond.methodLink "TermDesk" (247 : Nat) ({ cls := "java/util/Arrays", name := "fill", desc := "([Ljava/lang/Object;Ljava/lang/Object;)V" } : Jvm.MethodName)) ∈ lw_all := lw_g (lw_at lw_m2 23 rfl) rfl
theorem q384 : (Jvm.Cond.fieldLink "TermDesk" (23 : Nat) "TermDesk" "prime" "I") ∈ lw_all := lw_g (lw_at lw_m2 27 rfl) rfl
theorem q385 : (Jvm.Cond.fieldLink "TermDesk" (27 : Nat) "TermDesk" "how" "I") ∈ lw_all := lw_g (lw_at lw_m2 28 rfl) rfl
theorem q386 : (Jvm.Cond.fieldLink "TermDesk" (30 : Nat) "TermDesk" "first" "I") ∈ lw_all := lw_g (lw_at lw_m2 29 rfl) rfl
theorem q387 : (Jvm.Cond.fieldLink "TermDesk" (33 : Nat) "TermDesk" "second" "I") ∈ lw_all := lw_g (lw_at lw_m2 30 rfl) rfl
theorem q388 : (Jvm.Cond.fieldLink "TermDesk" (39 : Nat) "TermDesk" "order" "LTermDesk$Order;") ∈ lw_all := lw_g (lw_at lw_m2 31 rfl) rfl
theorem q390 : (Jvm.Cond.fieldLink "TermDesk" (43 : Nat) "TermDesk" "inverse" "[I") ∈ lw_all := lw_g (lw_at lw_m2 33 rfl) rfl
theorem q391 : (Jvm.Cond.fieldLink "TermDesk" (13 : Nat) "TermDesk" "all" "[I") ∈ lw_all := lw_g (lw_at lw_m2 34 rfl) rfl
theorem q392 : (Jvm.Cond.fieldLink "TermDesk" (83 : Nat) "TermDesk" "out" "LTermDesk$Row;") ∈ lw_all := lw_g (lw_at lw_m2 35 rfl) rfl
theorem q393 : (Jvm.Cond.fieldLink "TermDesk" (216 : Nat) "TermDesk" "division" "LTermDesk$Division;") ∈ lw_all := lw_g (lw_at lw_m2 36 rfl) rfl
theorem q394 : (Jvm.Cond.fieldLink "TermDesk" (185 : Nat) "TermDesk" "one" "[[I") ∈ lw_all := lw_g (lw_at lw_m2 37 rfl) rfl
theorem q395 : (Jvm.Cond.fieldLink "TermDesk" (193 : Nat) "TermDesk" "other" "[[I") ∈ lw_all := lw_g (lw_at lw_m2 38 rfl) rfl
theorem q396 : (Jvm.Cond.fieldLink "TermDesk" (150 : Nat) "TermDesk" "first0" "[I") ∈ lw_all := lw_g (lw_at lw_m2 39 rfl) rfl
theorem q397 : (Jvm.Cond.fieldLink "TermDesk" (153 : Nat) "TermDesk" "second0" "[I") ∈ lw_all := lw_g (lw_at lw_m2 40 rfl) rfl
theorem q398 : (Jvm.Cond.fieldLink "TermDesk" (141 : Nat) "TermDesk" "between" "[I") ∈ lw_all := lw_g (lw_at lw_m2 41 rfl) rfl
theorem q399 : (Jvm.Cond.fieldLink "TermDesk" (175 : Nat) "TermDesk" "nothing" "[I") ∈ lw_all := lw_g (lw_at lw_m2 42 rfl) rfl
theorem q401 : (Jvm.Cond.fieldLink "TermDesk" (221 : Nat) "TermDesk" "tape" "[B") ∈ lw_all := lw_g (lw_at lw_m2 44 rfl) rfl
theorem q402 : (Jvm.Cond.fieldLink "TermDesk" (264 : Nat) "TermDesk" "taped" "I") ∈ lw_all := lw_g (lw_at lw_m2 45 rfl) rfl
theorem q403 : (Jvm.Cond.fieldLink "TermDesk" (228 : Nat) "TermDesk" "scanner" "LTermDesk$Scanner;") ∈ lw_all := lw_g (lw_at lw_m2 46 rfl) rfl
theorem q405 : (Jvm.Cond.fieldLink "TermDesk" (232 : Nat) "TermDesk" "registers" "[LTermDesk$Poly;") ∈ lw_all := lw_g (lw_at lw_m2 48 rfl) rfl
theorem q406 : (Jvm.Cond.fieldLink "TermDesk" (237 : Nat) "TermDesk" "undone" "[[LTermDesk$Poly;") ∈ lw_all := lw_g (lw_at lw_m2 49 rfl) rfl
theorem q407 : (Jvm.Cond.fieldLink "TermDesk" (241 : Nat) "TermDesk" "orderWas" "[I") ∈ lw_all := lw_g (lw_at lw_m2 50 rfl) rfl
theorem q408 : (Jvm.Cond.fieldLink "TermDesk" (256 : Nat) "TermDesk" "isTold" "Z") ∈ lw_all := lw_g (lw_at lw_m2 51 rfl) rfl
theorem q409 : (Jvm.Cond.fieldLink "TermDesk" (312 : Nat) "TermDesk" "undoMany" "I") ∈ lw_all := lw_g (lw_at lw_m2 52 rfl) rfl
theorem q410 : (Jvm.Cond.fieldLink "TermDesk" (250 : Nat) "TermDesk" "trouble" "I") ∈ lw_all := lw_g (lw_at lw_m2 53 rfl) rfl
theorem q411 : (Jvm.Cond.fieldLink "TermDesk" (278 : Nat) "TermDesk" "fault" "I") ∈ lw_all := lw_g (lw_at lw_m2 54 rfl) rfl
theorem q412 : (Jvm.Cond.fieldLink "TermDesk" (244 : Nat) "TermDesk" "where" "I") ∈ lw_all := lw_g (lw_at lw_m2 55 rfl) rfl
theorem q413 : (Jvm.Cond.lays "TermDesk" "TermDesk" "prime" "I") ∈ lw_all := lw_g (lw_at lw_m2 56 rfl) rfl
theorem q414 : (Jvm.Cond.soleField "TermDesk" "prime") ∈ lw_all := lw_g (lw_at lw_m2 57 rfl) rfl
theorem q415 : (Jvm.Cond.lays "TermDesk" "TermDesk" "how" "I") ∈ lw_all := lw_g (lw_at lw_m2 58 rfl) rfl
theorem q416 : (Jvm.Cond.soleField "TermDesk" "how") ∈ lw_all := lw_g (lw_at lw_m2 59 rfl) rfl
theorem q417 : (Jvm.Cond.lays "TermDesk" "TermDesk" "first" "I") ∈ lw_all := lw_g (lw_at lw_m2 60 rfl) rfl
theorem q418 : (Jvm.Cond.soleField "TermDesk" "first") ∈ lw_all := lw_g (lw_at lw_m2 61 rfl) rfl
theorem q419 : (Jvm.Cond.lays "TermDesk" "TermDesk" "second" "I") ∈ lw_all := lw_g (lw_at lw_m2 62 rfl) rfl
theorem q420 : (Jvm.Cond.soleField "TermDesk" "second") ∈ lw_all := lw_g (lw_at lw_m2 63 rfl) rfl
theorem q421 : (Jvm.Cond.lays "TermDesk" "TermDesk" "order" "LTermDesk$Order;") ∈ lw_all := lw_g (lw_at lw_m2 64 rfl) rfl
theorem q422 : (Jvm.Cond.soleField "TermDesk" "order") ∈ lw_all := lw_g (lw_at lw_m2 65 rfl) rfl
theorem q423 : (Jvm.Cond.laysFinal "TermDesk" "TermDesk" "inverse" "[I") ∈ lw_all := lw_g (lw_at lw_m2 66 rfl) rfl
theorem q424 : (Jvm.Cond.soleField "TermDesk" "inverse") ∈ lw_all := lw_g (lw_at lw_m2 67 rfl) rfl
theorem q425 : (Jvm.Cond.laysFinal "TermDesk" "TermDesk" "all" "[I") ∈ lw_all := lw_g (lw_at lw_m2 68 rfl) rfl
theorem q426 : (Jvm.Cond.soleField "TermDesk" "all") ∈ lw_all := lw_g (lw_at lw_m2 69 rfl) rfl
theorem q427 : (Jvm.Cond.laysFinal "TermDesk" "TermDesk" "out" "LTermDesk$Row;") ∈ lw_all := lw_g (lw_at lw_m2 70 rfl) rfl
theorem q428 : (Jvm.Cond.soleField "TermDesk" "out") ∈ lw_all := lw_g (lw_at lw_m2 71 rfl) rfl
theorem q429 : (Jvm.Cond.laysFinal "TermDesk" "TermDesk" "division" "LTermDesk$Division;") ∈ lw_all := lw_g (lw_at lw_m2 72 rfl) rfl
theorem q430 : (Jvm.Cond.soleField "TermDesk" "division") ∈ lw_all := lw_g (lw_at lw_m2 73 rfl) rfl
theorem q431 : (Jvm.Cond.lays "TermDesk" "TermDesk" "one" "[[I") ∈ lw_all := lw_g (lw_at lw_m2 74 rfl) rfl
theorem q432 : (Jvm.Cond.soleField "TermDesk" "one") ∈ lw_all := lw_g (lw_at lw_m2 75 rfl) rfl
theorem q433 : (Jvm.Cond.lays "TermDesk" "TermDesk" "other" "[[I") ∈ lw_all := lw_g (lw_at lw_m2 76 rfl) rfl
theorem q434 : (Jvm.Cond.soleField "TermDesk" "other") ∈ lw_all := lw_g (lw_at lw_m2 77 rfl) rfl
theorem q435 : (Jvm.Cond.laysFinal "TermDesk" "TermDesk" "first0" "[I") ∈ lw_all := lw_g (lw_at lw_m2 78 rfl) rfl
theorem q436 : (Jvm.Cond.soleField "TermDesk" "first0") ∈ lw_all := lw_g (lw_at lw_m2 79 rfl) rfl
theorem q437 : (Jvm.Cond.laysFinal "TermDesk" "TermDesk" "second0" "[I") ∈ lw_all := lw_g (lw_at lw_m2 80 rfl) rfl
theorem q438 : (Jvm.Cond.soleField "TermDesk" "second0") ∈ lw_all := lw_g (lw_at lw_m2 81 rfl) rfl
theorem q439 : (Jvm.Cond.laysFinal "TermDesk" "TermDesk" "between" "[I") ∈ lw_all := lw_g (lw_at lw_m2 82 rfl) rfl
theorem q440 : (Jvm.Cond.soleField "TermDesk" "between") ∈ lw_all := lw_g (lw_at lw_m2 83 rfl) rfl
theorem q441 : (Jvm.Cond.laysFinal "TermDesk" "TermDesk" "nothing" "[I") ∈ lw_all := lw_g (lw_at lw_m2 84 rfl) rfl
theorem q442 : (Jvm.Cond.soleField "TermDesk" "nothing") ∈ lw_all := lw_g (lw_at lw_m2 85 rfl) rfl
theorem q443 : (Jvm.Cond.laysFinal "TermDesk" "TermDesk" "tape" "[B") ∈ lw_all := lw_g (lw_at lw_m2 86 rfl) rfl
theorem q444 : (Jvm.Cond.soleField "TermDesk" "tape") ∈ lw_all := lw_g (lw_at lw_m2 87 rfl) rfl
theorem q445 : (Jvm.Cond.lays "TermDesk" "TermDesk" "taped" "I") ∈ lw_all := lw_g (lw_at lw_m2 88 rfl) rfl
theorem q446 : (Jvm.Cond.soleField "TermDesk" "taped") ∈ lw_all := lw_g (lw_at lw_m2 89 rfl) rfl
theorem q447 : (Jvm.Cond.laysFinal "TermDesk" "TermDesk" "scanner" "LTermDesk$Scanner;") ∈ lw_all := lw_g (lw_at lw_m2 90 rfl) rfl
theorem q448 : (Jvm.Cond.soleField "TermDesk" "scanner") ∈ lw_all := lw_g (lw_at lw_m2 91 rfl) rfl
theorem q449 : (Jvm.Cond.lays "TermDesk" "TermDesk" "registers" "[LTermDesk$Poly;") ∈ lw_all := lw_g (lw_at lw_m2 92 rfl) rfl
theorem q450 : (Jvm.Cond.soleField "TermDesk" "registers") ∈ lw_all := lw_g (lw_at lw_m2 93 rfl) rfl
theorem q451 : (Jvm.Cond.laysFinal "TermDesk" "TermDesk" "undone" "[[LTermDesk$Poly;") ∈ lw_all := lw_g (lw_at lw_m2 94 rfl) rfl
theorem q452 : (Jvm.Cond.soleField "TermDesk" "undone") ∈ lw_all := lw_g (lw_at lw_m2 95 rfl) rfl
theorem q453 : (Jvm.Cond.laysFinal "TermDesk" "TermDesk" "orderWas" "[I") ∈ lw_all := lw_g (lw_at lw_m2 96 rfl) rfl
theorem q454 : (Jvm.Cond.soleField "TermDesk" "orderWas") ∈ lw_all := lw_g (lw_at lw_m2 97 rfl) rfl
theorem q455 : (Jvm.Cond.lays "TermDesk" "TermDesk" "isTold" "Z") ∈ lw_all := lw_g (lw_at lw_m2 98 rfl) rfl
theorem q456 : (Jvm.Cond.soleField "TermDesk" "isTold") ∈ lw_all := lw_g (lw_at lw_m2 99 rfl) rfl
theorem q457 : (Jvm.Cond.lays "TermDesk" "TermDesk" "undoMany" "I") ∈ lw_all := lw_g (lw_at lw_m2 100 rfl) rfl
theorem q458 : (Jvm.Cond.soleField "TermDesk" "undoMany") ∈ lw_all := lw_g (lw_at lw_m2 101 rfl) rfl
theorem q459 : (Jvm.Cond.lays "TermDesk" "TermDesk" "trouble" "I") ∈ lw_all := lw_g (lw_at lw_m2 102 rfl) rfl
theorem q460 : (Jvm.Cond.soleField "TermDesk" "trouble") ∈ lw_all := lw_g (lw_at lw_m2 103 rfl) rfl
theorem q461 : (Jvm.Cond.lays "TermDesk" "TermDesk" "fault" "I") ∈ lw_all := lw_g (lw_at lw_m2 104 rfl) rfl
theorem q462 : (Jvm.Cond.soleField "TermDesk" "fault") ∈ lw_all := lw_g (lw_at lw_m2 105 rfl) rfl
theorem q463 : (Jvm.Cond.lays "TermDesk" "TermDesk" "where" "I") ∈ lw_all := lw_g (lw_at lw_m2 106 rfl) rfl
theorem q464 : (Jvm.Cond.soleField "TermDesk" "where") ∈ lw_all := lw_g (lw_at lw_m2 107 rfl) rfl
theorem q465 : (Jvm.Cond.superclass "TermDesk" "java/lang/Object") ∈ lw_all := lw_g (lw_at lw_m2 108 rfl) rfl
theorem q467 : (Jvm.Cond.instanceMethod ({ cls := "TermDesk", name := "feed", desc := "(IIIII)I" } : Jvm.MethodName)) ∈ lw_all := lw_g (lw_at lw_m2 110 rfl) rfl
theorem q468 : (Jvm.Cond.selects "TermDesk" ({ cls := "TermDesk", name := "feed", desc := "(IIIII)I" } : Jvm.MethodName) ({ cls := "TermDesk", name := "feed", desc := "(IIIII)I" } : Jvm.MethodName)) ∈ lw_all := lw_g (lw_at lw_m2 111 rfl) rfl
theorem q469 : (Jvm.Cond.code ({ cls := "TermDesk", name := "feed", desc := "(IIIII)I" } : Jvm.MethodName) prog_1_method_38_code (6 : Nat) (Option.some Jvm.ClassFile.FieldType.int)) ∈ lw_all := lw_g (lw_at lw_m2 112 rfl) rfl
theorem q470 : (Jvm.Cond.methodLink "TermDesk" (267 : Nat) ({ cls := "TermDesk", name := "bytes", desc := "(I)V" } : Jvm.MethodName)) ∈ lw_all := lw_g (lw_at lw_m2 113 rfl) rfl
theorem q471 : (Jvm.Cond.privateMethod ({ cls := "TermDesk", name := "bytes", desc := "(I)V" } : Jvm.MethodName)) ∈ lw_tbl := lw_at lw_m2 114 rfl
theorem q472 : (Jvm.Cond.instanceMethod ({ cls := "TermDesk", name := "bytes", desc := "(I)V" } : Jvm.MethodName)) ∈ lw_all := lw_g (lw_at lw_m2 115 rfl) rfl
theorem q473 : (Jvm.Cond.code ({ cls := "TermDesk", name := "bytes", desc := "(I)V" } : Jvm.MethodName) prog_1_method_39_code (3 : Nat) (Option.none : Option Jvm.ClassFile.FieldType)) ∈ lw_all := lw_g (lw_at lw_m2 116 rfl) rfl
theorem q475 : (Jvm.Cond.instanceMethod ({ cls := "TermDesk", name := "desk", desc := "(I)I" } : Jvm.MethodName)) ∈ lw_all := lw_g (lw_at lw_m2 118 rfl) rfl
theorem q476 : (Jvm.Cond.selects "TermDesk" ({ cls := "TermDesk", name := "desk", desc := "(I)I" } : Jvm.MethodName) ({ cls := "TermDesk", name := "desk", desc := "(I)I" } : Jvm.MethodName)) ∈ lw_all := lw_g (lw_at lw_m2 119 rfl) rfl
theorem q477 : (Jvm.Cond.codeWith ({ cls := "TermDesk", name := "desk", desc := "(I)I" } : Jvm.MethodName) prog_1_method_40_code (3 : Nat) (Option.some Jvm.ClassFile.FieldType.int) [((32 : Nat), (40 : Nat), (43 : Nat), (284 : Nat))]) ∈ lw_all := lw_g (lw_at lw_m2 120 rfl) rfl
theorem q478 : (Jvm.Cond.classLink "TermDesk" (284 : Nat) "TermDesk$Refused") ∈ lw_all := lw_g (lw_at lw_m2 121 rfl) rfl
theorem q479 : (Jvm.Cond.methodLink "TermDesk" (253 : Nat) ({ cls := "TermDesk", name := "anew", desc := "()V" } : Jvm.MethodName)) ∈ lw_all := lw_g (lw_at lw_m2 122 rfl) rfl
theorem q480 : (Jvm.Cond.privateMethod ({ cls := "TermDesk", name := "anew", desc := "()V" } : Jvm.MethodName)) ∈ lw_tbl := lw_at lw_m2 123 rfl
theorem q481 : (Jvm.Cond.instanceMethod ({ cls := "TermDesk", name := "anew", desc := "()V" } : Jvm.MethodName)) ∈ lw_all := lw_g (lw_at lw_m2 124 rfl) rfl
theorem q482 : (Jvm.Cond.code ({ cls := "TermDesk", name := "anew", desc := "()V" } : Jvm.MethodName) prog_1_method_33_code (1 : Nat) (Option.none : Option Jvm.ClassFile.FieldType)) ∈ lw_all := lw_g (lw_at lw_m2 125 rfl) rfl
theorem q483 : (Jvm.Cond.methodLink "TermDesk" (271 : Nat) ({ cls := "TermDesk", name := "in", desc := "(III)Z" } : Jvm.MethodName)) ∈ lw_all := lw_g (lw_at lw_m2 126 rfl) rfl
theorem q484 : (Jvm.Cond.static ({ cls := "TermDesk", name := "in", desc := "(III)Z" } : Jvm.MethodName)) ∈ lw_all := lw_g (lw_at lw_m2 127 rfl) rfl
theorem q485 : (Jvm.Cond.code ({ cls := "TermDesk", name := "in", desc := "(III)Z" } : Jvm.MethodName) prog_1_method_1_code (3 : Nat) (Option.some Jvm.ClassFile.FieldType.boolean)) ∈ lw_all := lw_g (lw_at lw_m2 128 rfl) rfl
theorem q486 : (Jvm.Cond.methodLink "TermDesk" (275 : Nat) ({ cls := "TermDesk", name := "no", desc := "(I)I" } : Jvm.MethodName)) ∈ lw_all := lw_g (lw_at lw_m2 129 rfl) rfl
theorem q487 : (Jvm.Cond.privateMethod ({ cls := "TermDesk", name := "no", desc := "(I)I" } : Jvm.MethodName)) ∈ lw_tbl := lw_at lw_m2 130 rfl
theorem q488 : (Jvm.Cond.instanceMethod ({ cls := "TermDesk", name := "no", desc := "(I)I" } : Jvm.MethodName)) ∈ lw_all := lw_g (lw_at lw_m2 131 rfl) rfl
theorem q489 : (Jvm.Cond.code ({ cls := "TermDesk", name := "no", desc := "(I)I" } : Jvm.MethodName) prog_1_method_34_code (2 : Nat) (Option.some Jvm.ClassFile.FieldType.int)) ∈ lw_all := lw_g (lw_at lw_m2 132 rfl) rfl
theorem q490 : (Jvm.Cond.methodLink "TermDesk" (281 : Nat) ({ cls := "TermDesk$Scanner", name := "read", desc := "(I)V" } : Jvm.MethodName)) ∈ lw_all := lw_g (lw_at lw_m2 133 rfl) rfl
theorem q687 : (Jvm.Cond.laysStatic "TermDesk" "PRIME" "[I") ∈ lw_tbl := lw_at lw_m3 90 rfl
theorem q707 : (Jvm.Cond.methodLink "TermDesk" (293 : Nat) ({ cls := "TermDesk", name := "layInverses", desc := "()V" } : Jvm.MethodName)) ∈ lw_all := lw_g (lw_at lw_m3 110 rfl) rfl
theorem q708 : (Jvm.Cond.privateMethod ({ cls := "TermDesk", name := "layInverses", desc := "()V" } : Jvm.MethodName)) ∈ lw_tbl := lw_at lw_m3 111 rfl
theorem q709 : (Jvm.Cond.instanceMethod ({ cls := "TermDesk", name := "layInverses", desc := "()V" } : Jvm.MethodName)) ∈ lw_all := lw_g (lw_at lw_m3 112 rfl) rfl
theorem q710 : (Jvm.Cond.code ({ cls := "TermDesk", name := "layInverses", desc := "()V" } : Jvm.MethodName) prog_1_method_11_code (3 : Nat) (Option.none : Option Jvm.ClassFile.FieldType)) ∈ lw_all := lw_g (lw_at lw_m3 113 rfl) rfl
theorem q711 : (Jvm.Cond.methodLink "TermDesk" (302 : Nat) ({ cls := "TermDesk", name := "becomes", desc := "(III)V" } : Jvm.MethodName)) ∈ lw_all := lw_g (lw_at lw_m3 114 rfl) rfl
theorem q712 : (Jvm.Cond.privateMethod ({ cls := "TermDesk", name := "becomes", desc := "(III)V" } : Jvm.MethodName)) ∈ lw_tbl := lw_at lw_m3 115 rfl
theorem q713 : (Jvm.Cond.instanceMethod ({ cls := "TermDesk", name := "becomes", desc := "(III)V" } : Jvm.MethodName)) ∈ lw_all := lw_g (lw_at lw_m3 116 rfl) rfl
theorem q714 : (Jvm.Cond.code ({ cls := "TermDesk", name := "becomes", desc := "(III)V" } : Jvm.MethodName) prog_1_method_10_code (4 : Nat) (Option.none : Option Jvm.ClassFile.FieldType)) ∈ lw_all := lw_g (lw_at lw_m3 117 rfl) rfl
theorem q715 : (Jvm.Cond.methodLink "TermDesk" (36 : Nat) ({ cls := "TermDesk", name := "orderOf", desc := "(III)LTermDesk$Order;" } : Jvm.MethodName)) ∈ lw_all := lw_g (lw_at lw_m3 118 rfl) rfl
theorem q716 : (Jvm.Cond.static ({ cls := "TermDesk", name := "orderOf", desc := "(III)LTermDesk$Order;" } : Jvm.MethodName)) ∈ lw_all := lw_g (lw_at lw_m3 119 rfl) rfl
theorem q717 : (Jvm.Cond.code ({ cls := "TermDesk", name := "orderOf", desc := "(III)LTermDesk$Order;" } : Jvm.MethodName) prog_1_method_7_code (4 : Nat) (Option.some (Jvm.ClassFile.FieldType.object "TermDesk$Order"))) ∈ lw_all := lw_g (lw_at lw_m3 120 rfl) rfl
theorem q718 : (Jvm.Cond.static ({ cls := "TermDesk", name := "lambda$orderOf$0", desc := "(IIII)I" } : Jvm.MethodName)) ∈ lw_all := lw_g (lw_at lw_m3 121 rfl) rfl
theorem q719 : (Jvm.Cond.code ({ cls := "TermDesk", name := "lambda$orderOf$0", desc := "(IIII)I" } : Jvm.MethodName) prog_1_method_96_code (4 : Nat) (Option.some Jvm.ClassFile.FieldType.int)) ∈ lw_all := lw_g (lw_at lw_m3 122 rfl) rfl
theorem q720 : (Jvm.Cond.methodLink "TermDesk" (433 : Nat) ({ cls := "TermDesk", name := "lexKey", desc := "(IIII)I" } : Jvm.MethodName)) ∈ lw_all := lw_g (lw_at lw_m3 123 rfl) rfl
theorem q721 : (Jvm.Cond.static ({ cls := "TermDesk", name := "lexKey", desc := "(IIII)I" } : Jvm.MethodName)) ∈ lw_all := lw_g (lw_at lw_m3 124 rfl) rfl
theorem q722 : (Jvm.Cond.code ({ cls := "TermDesk", name := "lexKey", desc := "(IIII)I" } : Jvm.MethodName) prog_1_method_6_code (4 : Nat) (Option.some Jvm.ClassFile.FieldType.int)) ∈ lw_all := lw_g (lw_at lw_m3 125 rfl) rfl
theorem q723 : (Jvm.Cond.methodLink "TermDesk" (3 : Nat) ({ cls := "TermDesk", name := "exponent", desc := "(II)I" } : Jvm.MethodName)) ∈ lw_all := lw_g (lw_at lw_m3 126 rfl) rfl
theorem q724 : (Jvm.Cond.static ({ cls := "TermDesk", name := "exponent", desc := "(II)I" } : Jvm.MethodName)) ∈ lw_all := lw_g (lw_at lw_m3 127 rfl) rfl
theorem q725 : (Jvm.Cond.code ({ cls := "TermDesk", name := "exponent", desc := "(II)I" } : Jvm.MethodName) prog_1_method_3_code (2 : Nat) (Option.some Jvm.ClassFile.FieldType.int)) ∈ lw_all := lw_g (lw_at lw_m3 128 rfl) rfl
theorem q726 : (Jvm.Cond.static ({ cls := "TermDesk", name := "lambda$orderOf$1", desc := "(IIII)I" } : Jvm.MethodName)) ∈ lw_all := lw_g (lw_at lw_m3 129 rfl) rfl
theorem q727 : (Jvm.Cond.code ({ cls := "TermDesk", name := "lambda$orderOf$1", desc := "(IIII)I" } : Jvm.MethodName) prog_1_method_95_code (4 : Nat) (Option.some Jvm.ClassFile.FieldType.int)) ∈ lw_all := lw_g (lw_at lw_m3 130 rfl) rfl
theorem q728 : (Jvm.Cond.methodLink "TermDesk" (329 : Nat) ({ cls := "TermDesk", name := "sum", desc := "(I)I" } : Jvm.MethodName)) ∈ lw_all := lw_g (lw_at lw_m3 131 rfl) rfl
theorem q729 : (Jvm.Cond.static ({ cls := "TermDesk", name := "sum", desc := "(I)I" } : Jvm.MethodName)) ∈ lw_all := lw_g (lw_at lw_m3 132 rfl) rfl
theorem q730 : (Jvm.Cond.code ({ cls := "TermDesk", name := "sum", desc := "(I)I" } : Jvm.MethodName) prog_1_method_4_code (1 : Nat) (Option.some Jvm.ClassFile.FieldType.int)) ∈ lw_all := lw_g (lw_at lw_m3 133 rfl) rfl
theorem q731 : (Jvm.Cond.static ({ cls := "TermDesk", name := "lambda$orderOf$2", desc := "(IIII)I" } : Jvm.MethodName)) ∈ lw_all := lw_g (lw_at lw_m3 134 rfl) rfl
theorem q732 : (Jvm.Cond.code ({ cls := "TermDesk", name := "lambda$orderOf$2", desc := "(IIII)I" } : Jvm.MethodName) prog_1_method_94_code (4 : Nat) (Option.some Jvm.ClassFile.FieldType.int)) ∈ lw_all := lw_g (lw_at lw_m3 135 rfl) rfl
theorem q733 : (Jvm.Cond.methodLinkNest "TermDesk" (309 : Nat) ({ cls := "TermDesk$Scanner", name := "poly", desc := "(I)LTermDesk$Poly;" } : Jvm.MethodName) "TermDesk") ∈ lw_tbl := lw_at lw_m3 136 rfl
theorem q738 : (Jvm.Cond.privateMethod ({ cls := "TermDesk", name := "blank", desc := "()[I" } : Jvm.MethodName)) ∈ lw_tbl := lw_at lw_m3 141 rfl
theorem q739 : (Jvm.Cond.instanceMethod ({ cls := "TermDesk", name := "blank", desc := "()[I" } : Jvm.MethodName)) ∈ lw_all := lw_g (lw_at lw_m3 142 rfl) rfl
theorem q740 : (Jvm.Cond.code ({ cls := "TermDesk", name := "blank", desc := "()[I" } : Jvm.MethodName) prog_1_method_8_code (1 : Nat) (Option.some (Jvm.ClassFile.FieldType.array Jvm.ClassFile.FieldType.int))) ∈ lw_all := lw_g (lw_at lw_m3 143 rfl) rfl
theorem q741 : (Jvm.Cond.methodLink "TermDesk" (17 : Nat) ({ cls := "java/util/Arrays", name := "fill", desc := "([II)V" } : Jvm.MethodName)) ∈ lw_all := lw_g (lw_at lw_m3 144 rfl) rfl
theorem q745 : (Jvm.Cond.privateMethod ({ cls := "TermDesk", name := "reduced", desc := "(I)I" } : Jvm.MethodName)) ∈ lw_tbl := lw_at lw_m3 148 rfl
theorem q746 : (Jvm.Cond.instanceMethod ({ cls := "TermDesk", name := "reduced", desc := "(I)I" } : Jvm.MethodName)) ∈ lw_all := lw_g (lw_at lw_m3 149 rfl) rfl
theorem q747 : (Jvm.Cond.code ({ cls := "TermDesk", name := "reduced", desc := "(I)I" } : Jvm.MethodName) prog_1_method_9_code (2 : Nat) (Option.some Jvm.ClassFile.FieldType.int)) ∈ lw_all := lw_g (lw_at lw_m3 150 rfl) rfl
theorem q749 : (Jvm.Cond.privateMethod ({ cls := "TermDesk", name := "sorted", desc := "([I)LTermDesk$Poly;" } : Jvm.MethodName)) ∈ lw_tbl := lw_at lw_m3 152 rfl
theorem q750 : (Jvm.Cond.instanceMethod ({ cls := "TermDesk", name := "sorted", desc := "([I)LTermDesk$Poly;" } : Jvm.MethodName)) ∈ lw_all := lw_g (lw_at lw_m3 153 rfl) rfl
theorem q751 : (Jvm.Cond.code ({ cls := "TermDesk", name := "sorted", desc := "([I)LTermDesk$Poly;" } : Jvm.MethodName) prog_1_method_16_code (8 : Nat) (Option.some (Jvm.ClassFile.FieldType.object "TermDesk$Poly"))) ∈ lw_all := lw_g (lw_at lw_m3 154 rfl) rfl
theorem q752 : (Jvm.Cond.interfaceEntry "TermDesk" (65 : Nat)) ∈ lw_tbl := lw_at lw_m3 155 rfl
theorem q753 : (Jvm.Cond.methodLink "TermDesk" (65 : Nat) ({ cls := "TermDesk$Order", name := "key", desc := "(I)I" } : Jvm.MethodName)) ∈ lw_all := lw_g (lw_at lw_m3 156 rfl) rfl
theorem q756 : (Jvm.Cond.methodLink "TermDesk" (110 : Nat) ({ cls := "TermDesk$Poly", name := "<init>", desc := "(I[I[I)V" } : Jvm.MethodName)) ∈ lw_all := lw_g (lw_at lw_m3 159 rfl) rfl
theorem q758 : (Jvm.Cond.instanceMethod ({ cls := "TermDesk", name := "fault", desc := "()I" } : Jvm.MethodName)) ∈ lw_all := lw_g (lw_at lw_m3 161 rfl) rfl
theorem q759 : (Jvm.Cond.selects "TermDesk" ({ cls := "TermDesk", name := "fault", desc := "()I" } : Jvm.MethodName) ({ cls := "TermDesk", name := "fault", desc := "()I" } : Jvm.MethodName)) ∈ lw_all := lw_g (lw_at lw_m3 162 rfl) rfl
theorem q760 : (Jvm.Cond.code ({ cls := "TermDesk", name := "fault", desc := "()I" } : Jvm.MethodName) prog_1_method_41_code (1 : Nat) (Option.some Jvm.ClassFile.FieldType.int)) ∈ lw_all := lw_g (lw_at lw_m3 163 rfl) rfl
theorem q762 : (Jvm.Cond.instanceMethod ({ cls := "TermDesk", name := "where", desc := "()I" } : Jvm.MethodName)) ∈ lw_all := lw_g (lw_at lw_m3 165 rfl) rfl
theorem q763 : (Jvm.Cond.selects "TermDesk" ({ cls := "TermDesk", name := "where", desc := "()I" } : Jvm.MethodName) ({ cls := "TermDesk", name := "where", desc := "()I" } : Jvm.MethodName)) ∈ lw_all := lw_g (lw_at lw_m3 166 rfl) rfl
theorem q764 : (Jvm.Cond.code ({ cls := "TermDesk", name := "where", desc := "()I" } : Jvm.MethodName) prog_1_method_42_code (1 : Nat) (Option.some Jvm.ClassFile.FieldType.int)) ∈ lw_all := lw_g (lw_at lw_m3 167 rfl) rfl
theorem q766 : (Jvm.Cond.instanceMethod ({ cls := "TermDesk", name := "about", desc := "(I)I" } : Jvm.MethodName)) ∈ lw_all := lw_g (lw_at lw_m3 169 rfl) rfl
theorem q767 : (Jvm.Cond.selects "TermDesk" ({ cls := "TermDesk", name := "about", desc := "(I)I" } : Jvm.MethodName) ({ cls := "TermDesk", name := "about", desc := "(I)I" } : Jvm.MethodName)) ∈ lw_all := lw_g (lw_at lw_m3 170 rfl) rfl
theorem q768 : (Jvm.Cond.code ({ cls := "TermDesk", name := "about", desc := "(I)I" } : Jvm.MethodName) prog_1_method_48_code (2 : Nat) (Option.some Jvm.ClassFile.FieldType.int)) ∈ lw_all := lw_g (lw_at lw_m3 171 rfl) rfl
theorem q769 : (Jvm.Cond.methodLink "TermDesk" (315 : Nat) ({ cls := "TermDesk", name := "why", desc := "(Z)I" } : Jvm.MethodName)) ∈ lw_all := lw_g (lw_at lw_m3 172 rfl) rfl
theorem q770 : (Jvm.Cond.privateMethod ({ cls := "TermDesk", name := "why", desc := "(Z)I" } : Jvm.MethodName)) ∈ lw_tbl := lw_at lw_m3 173 rfl
theorem q771 : (Jvm.Cond.instanceMethod ({ cls := "TermDesk", name := "why", desc := "(Z)I" } : Jvm.MethodName)) ∈ lw_all := lw_g (lw_at lw_m3 174 rfl) rfl
theorem q772 : (Jvm.Cond.code ({ cls := "TermDesk", name := "why", desc := "(Z)I" } : Jvm.MethodName) prog_1_method_37_code (2 : Nat) (Option.some Jvm.ClassFile.FieldType.int)) ∈ lw_all := lw_g (lw_at lw_m3 175 rfl) rfl
theorem q773 : (Jvm.Cond.methodLink "TermDesk" (260 : Nat) ({ cls := "TermDesk", name := "why", desc := "(ZZ)I" } : Jvm.MethodName)) ∈ lw_all := lw_g (lw_at lw_m3 176 rfl) rfl
theorem q774 : (Jvm.Cond.privateMethod ({ cls := "TermDesk", name := "why", desc := "(ZZ)I" } : Jvm.MethodName)) ∈ lw_tbl := lw_at lw_m3 177 rfl
theorem q775 : (Jvm.Cond.instanceMethod ({ cls := "TermDesk", name := "why", desc := "(ZZ)I" } : Jvm.MethodName)) ∈ lw_all := lw_g (lw_at lw_m3 178 rfl) rfl
theorem q776 : (Jvm.Cond.code ({ cls := "TermDesk", name := "why", desc := "(ZZ)I" } : Jvm.MethodName) prog_1_method_36_code (3 : Nat) (Option.some Jvm.ClassFile.FieldType.int)) ∈ lw_all := lw_g (lw_at lw_m3 179 rfl) rfl
theorem q777 : (Jvm.Cond.methodLink "TermDesk" (318 : Nat) ({ cls := "TermDesk", name := "isRefused", desc := "(I)Z" } : Jvm.MethodName)) ∈ lw_all := lw_g (lw_at lw_m3 180 rfl) rfl
theorem q778 : (Jvm.Cond.privateMethod ({ cls := "TermDesk", name := "isRefused", desc := "(I)Z" } : Jvm.MethodName)) ∈ lw_tbl := lw_at lw_m3 181 rfl
theorem q779 : (Jvm.Cond.instanceMethod ({ cls := "TermDesk", name := "isRefused", desc := "(I)Z" } : Jvm.MethodName)) ∈ lw_all := lw_g (lw_at lw_m3 182 rfl) rfl
theorem q780 : (Jvm.Cond.code ({ cls := "TermDesk", name := "isRefused", desc := "(I)Z" } : Jvm.MethodName) prog_1_method_35_code (2 : Nat) (Option.some Jvm.ClassFile.FieldType.boolean)) ∈ lw_all := lw_g (lw_at lw_m3 183 rfl) rfl
theorem q781 : (Jvm.Cond.methodLink "TermDesk" (322 : Nat) ({ cls := "TermDesk", name := "filled", desc := "()I" } : Jvm.MethodName)) ∈ lw_all := lw_g (lw_at lw_m3 184 rfl) rfl
theorem q782 : (Jvm.Cond.privateMethod ({ cls := "TermDesk", name := "filled", desc := "()I" } : Jvm.MethodName)) ∈ lw_tbl := lw_at lw_m3 185 rfl
theorem q783 : (Jvm.Cond.instanceMethod ({ cls := "TermDesk", name := "filled", desc := "()I" } : Jvm.MethodName)) ∈ lw_all := lw_g (lw_at lw_m3 186 rfl) rfl
theorem q784 : (Jvm.Cond.code ({ cls := "TermDesk", name := "filled", desc := "()I" } : Jvm.MethodName) prog_1_method_47_code (6 : Nat) (Option.some Jvm.ClassFile.FieldType.int)) ∈ lw_all := lw_g (lw_at lw_m3 187 rfl) rfl
theorem q785 : (Jvm.Cond.methodLink "TermDesk" (46 : Nat) ({ cls := "TermDesk$Poly", name := "isZero", desc := "()Z" } : Jvm.MethodName)) ∈ lw_all := lw_g (lw_at lw_m3 188 rfl) rfl
theorem q790 : (Jvm.Cond.instanceMethod ({ cls := "TermDesk", name := "terms", desc := "(I)I" } : Jvm.MethodName)) ∈ lw_all := lw_g (lw_at lw_m3 193 rfl) rfl
theorem q791 : (Jvm.Cond.selects "TermDesk" ({ cls := "TermDesk", name := "terms", desc := "(I)I" } : Jvm.MethodName) ({ cls := "TermDesk", name := "terms", desc := "(I)I" } : Jvm.MethodName)) ∈ lw_all := lw_g (lw_at lw_m3 194 rfl) rfl
theorem q792 : (Jvm.Cond.code ({ cls := "TermDesk", name := "terms", desc := "(I)I" } : Jvm.MethodName) prog_1_method_49_code (2 : Nat) (Option.some Jvm.ClassFile.FieldType.int)) ∈ lw_all := lw_g (lw_at lw_m3 195 rfl) rfl
theorem q793 : (Jvm.Cond.methodLink "TermDesk" (325 : Nat) ({ cls := "TermDesk", name := "is", desc := "([I)Z" } : Jvm.MethodName)) ∈ lw_all := lw_g (lw_at lw_m3 196 rfl) rfl
theorem q794 : (Jvm.Cond.static ({ cls := "TermDesk", name := "is", desc := "([I)Z" } : Jvm.MethodName)) ∈ lw_all := lw_g (lw_at lw_m3 197 rfl) rfl
theorem q795 : (Jvm.Cond.code ({ cls := "TermDesk", name := "is", desc := "([I)Z" } : Jvm.MethodName) prog_1_method_43_code (5 : Nat) (Option.some Jvm.ClassFile.FieldType.boolean)) ∈ lw_all := lw_g (lw_at lw_m3 198 rfl) rfl
theorem q797 : (Jvm.Cond.instanceMethod ({ cls := "TermDesk", name := "term", desc := "(III)I" } : Jvm.MethodName)) ∈ lw_all := lw_g (lw_at lw_m3 200 rfl) rfl
theorem q798 : (Jvm.Cond.selects "TermDesk" ({ cls := "TermDesk", name := "term", desc := "(III)I" } : Jvm.MethodName) ({ cls := "TermDesk", name := "term", desc := "(III)I" } : Jvm.MethodName)) ∈ lw_all := lw_g (lw_at lw_m3 201 rfl) rfl
theorem q799 : (Jvm.Cond.code ({ cls := "TermDesk", name := "term", desc := "(III)I" } : Jvm.MethodName) prog_1_method_50_code (5 : Nat) (Option.some Jvm.ClassFile.FieldType.int)) ∈ lw_all := lw_g (lw_at lw_m3 202 rfl) rfl
theorem q801 : (Jvm.Cond.instanceMethod ({ cls := "TermDesk", name := "degree", desc := "(I)I" } : Jvm.MethodName)) ∈ lw_all := lw_g (lw_at lw_m3 204 rfl) rfl
theorem q802 : (Jvm.Cond.selects "TermDesk" ({ cls := "TermDesk", name := "degree", desc := "(I)I" } : Jvm.MethodName) ({ cls := "TermDesk", name := "degree", desc := "(I)I" } : Jvm.MethodName)) ∈ lw_all := lw_g (lw_at lw_m3 205 rfl) rfl
theorem q803 : (Jvm.Cond.code ({ cls := "TermDesk", name := "degree", desc := "(I)I" } : Jvm.MethodName) prog_1_method_51_code (2 : Nat) (Option.some Jvm.ClassFile.FieldType.int)) ∈ lw_all := lw_g (lw_at lw_m3 206 rfl) rfl
theorem q804 : (Jvm.Cond.methodLink "TermDesk" (331 : Nat) ({ cls := "TermDesk$Poly", name := "degree", desc := "()I" } : Jvm.MethodName)) ∈ lw_all := lw_g (lw_at lw_m3 207 rfl) rfl
theorem q813 : (Jvm.Cond.instanceMethod ({ cls := "TermDesk", name := "degreeIn", desc := "(II)I" } : Jvm.MethodName)) ∈ lw_all := lw_g (lw_at lw_m3 216 rfl) rfl
theorem q814 : (Jvm.Cond.selects "TermDesk" ({ cls := "TermDesk", name := "degreeIn", desc := "(II)I" } : Jvm.MethodName) ({ cls := "TermDesk", name := "degreeIn", desc := "(II)I" } : Jvm.MethodName)) ∈ lw_all := lw_g (lw_at lw_m3 217 rfl) rfl
theorem q815 : (Jvm.Cond.code ({ cls := "TermDesk", name := "degreeIn", desc := "(II)I" } : Jvm.MethodName) prog_1_method_52_code (3 : Nat) (Option.some Jvm.ClassFile.FieldType.int)) ∈ lw_all := lw_g (lw_at lw_m3 218 rfl) rfl
theorem q816 : (Jvm.Cond.methodLink "TermDesk" (334 : Nat) ({ cls := "TermDesk", name := "isUnknown", desc := "(I)Z" } : Jvm.MethodName)) ∈ lw_all := lw_g (lw_at lw_m3 219 rfl) rfl
theorem q817 : (Jvm.Cond.static ({ cls := "TermDesk", name := "isUnknown", desc := "(I)Z" } : Jvm.MethodName)) ∈ lw_all := lw_g (lw_at lw_m3 220 rfl) rfl
theorem q818 : (Jvm.Cond.code ({ cls := "TermDesk", name := "isUnknown", desc := "(I)Z" } : Jvm.MethodName) prog_1_method_44_code (1 : Nat) (Option.some Jvm.ClassFile.FieldType.boolean)) ∈ lw_all := lw_g (lw_at lw_m3 221 rfl) rfl
theorem q819 : (Jvm.Cond.methodLink "TermDesk" (52 : Nat) ({ cls := "TermDesk$Poly", name := "most", desc := "(I)I" } : Jvm.MethodName)) ∈ lw_all := lw_g (lw_at lw_m3 222 rfl) rfl
theorem q825 : (Jvm.Cond.instanceMethod ({ cls := "TermDesk", name := "coefficient", desc := "(IIII)I" } : Jvm.MethodName)) ∈ lw_all := lw_g (lw_at lw_m3 228 rfl) rfl
theorem q826 : (Jvm.Cond.selects "TermDesk" ({ cls := "TermDesk", name := "coefficient", desc := "(IIII)I" } : Jvm.MethodName) ({ cls := "TermDesk", name := "coefficient", desc := "(IIII)I" } : Jvm.MethodName)) ∈ lw_all := lw_g (lw_at lw_m3 229 rfl) rfl
theorem q827 : (Jvm.Cond.code ({ cls := "TermDesk", name := "coefficient", desc := "(IIII)I" } : Jvm.MethodName) prog_1_method_53_code (5 : Nat) (Option.some Jvm.ClassFile.FieldType.int)) ∈ lw_all := lw_g (lw_at lw_m3 230 rfl) rfl
theorem q828 : (Jvm.Cond.methodLink "TermDesk" (337 : Nat) ({ cls := "TermDesk", name := "areExponents", desc := "([I)Z" } : Jvm.MethodName)) ∈ lw_all := lw_g (lw_at lw_m3 231 rfl) rfl
theorem q829 : (Jvm.Cond.static ({ cls := "TermDesk", name := "areExponents", desc := "([I)Z" } : Jvm.MethodName)) ∈ lw_all := lw_g (lw_at lw_m3 232 rfl) rfl
theorem q830 : (Jvm.Cond.code ({ cls := "TermDesk", name := "areExponents", desc := "([I)Z" } : Jvm.MethodName) prog_1_method_45_code (5 : Nat) (Option.some Jvm.ClassFile.FieldType.boolean)) ∈ lw_all := lw_g (lw_at lw_m3 233 rfl) rfl
theorem q831 : (Jvm.Cond.methodLink "TermDesk" (340 : Nat) ({ cls := "TermDesk", name := "spread", desc := "(LTermDesk$Poly;)[I" } : Jvm.MethodName)) ∈ lw_all := lw_g (lw_at lw_m3 234 rfl) rfl
theorem q832 : (Jvm.Cond.privateMethod ({ cls := "TermDesk", name := "spread", desc := "(LTermDesk$Poly;)[I" } : Jvm.MethodName)) ∈ lw_tbl := lw_at lw_m3 235 rfl
theorem q833 : (Jvm.Cond.instanceMethod ({ cls := "TermDesk", name := "spread", desc := "(LTermDesk$Poly;)[I" } : Jvm.MethodName)) ∈ lw_all := lw_g (lw_at lw_m3 236 rfl) rfl
theorem q834 : (Jvm.Cond.code ({ cls := "TermDesk", name := "spread", desc := "(LTermDesk$Poly;)[I" } : Jvm.MethodName) prog_1_method_17_code (4 : Nat) (Option.some (Jvm.ClassFile.FieldType.array Jvm.ClassFile.FieldType.int))) ∈ lw_all := lw_g (lw_at lw_m3 237 rfl) rfl
theorem q835 : (Jvm.Cond.methodLink "TermDesk" (113 : Nat) ({ cls := "TermDesk", name := "blank", desc := "()[I" } : Jvm.MethodName)) ∈ lw_all := lw_g (lw_at lw_m3 238 rfl) rfl
theorem q836 : (Jvm.Cond.methodLink "TermDesk" (199 : Nat) ({ cls := "TermDesk", name := "packed", desc := "(III)I" } : Jvm.MethodName)) ∈ lw_all := lw_g (lw_at lw_m3 239 rfl) rfl
theorem q837 : (Jvm.Cond.static ({ cls := "TermDesk", name := "packed", desc := "(III)I" } : Jvm.MethodName)) ∈ lw_all := lw_g (lw_at lw_m4 0 rfl) rfl
theorem q838 : (Jvm.Cond.code ({ cls := "TermDesk", name := "packed", desc := "(III)I" } : Jvm.MethodName) prog_1_method_2_code (3 : Nat) (Option.some Jvm.ClassFile.FieldType.int)) ∈ lw_all := lw_g (lw_at lw_m4 1 rfl) rfl
theorem q840 : (Jvm.Cond.instanceMethod ({ cls := "TermDesk", name := "value", desc := "(IIII)I" } : Jvm.MethodName)) ∈ lw_all := lw_g (lw_at lw_m4 3 rfl) rfl
theorem q841 : (Jvm.Cond.selects "TermDesk" ({ cls := "TermDesk", name := "value", desc := "(IIII)I" } : Jvm.MethodName) ({ cls := "TermDesk", name := "value", desc := "(IIII)I" } : Jvm.MethodName)) ∈ lw_all := lw_g (lw_at lw_m4 4 rfl) rfl
theorem q842 : (Jvm.Cond.code ({ cls := "TermDesk", name := "value", desc := "(IIII)I" } : Jvm.MethodName) prog_1_method_56_code (5 : Nat) (Option.some Jvm.ClassFile.FieldType.int)) ∈ lw_all := lw_g (lw_at lw_m4 5 rfl) rfl
theorem q843 : (Jvm.Cond.methodLink "TermDesk" (347 : Nat) ({ cls := "TermDesk", name := "areValues", desc := "([I)Z" } : Jvm.MethodName)) ∈ lw_all := lw_g (lw_at lw_m4 6 rfl) rfl
theorem q844 : (Jvm.Cond.privateMethod ({ cls := "TermDesk", name := "areValues", desc := "([I)Z" } : Jvm.MethodName)) ∈ lw_tbl := lw_at lw_m4 7 rfl
theorem q845 : (Jvm.Cond.instanceMethod ({ cls := "TermDesk", name := "areValues", desc := "([I)Z" } : Jvm.MethodName)) ∈ lw_all := lw_g (lw_at lw_m4 8 rfl) rfl
theorem q846 : (Jvm.Cond.code ({ cls := "TermDesk", name := "areValues", desc := "([I)Z" } : Jvm.MethodName) prog_1_method_46_code (6 : Nat) (Option.some Jvm.ClassFile.FieldType.boolean)) ∈ lw_all := lw_g (lw_at lw_m4 9 rfl) rfl
theorem q847 : (Jvm.Cond.methodLink "TermDesk" (350 : Nat) ({ cls := "TermDesk", name := "valueOf", desc := "(LTermDesk$Poly;III)I" } : Jvm.MethodName)) ∈ lw_all := lw_g (lw_at lw_m4 10 rfl) rfl
theorem q848 : (Jvm.Cond.privateMethod ({ cls := "TermDesk", name := "valueOf", desc := "(LTermDesk$Poly;III)I" } : Jvm.MethodName)) ∈ lw_tbl := lw_at lw_m4 11 rfl
theorem q849 : (Jvm.Cond.instanceMethod ({ cls := "TermDesk", name := "valueOf", desc := "(LTermDesk$Poly;III)I" } : Jvm.MethodName)) ∈ lw_all := lw_g (lw_at lw_m4 12 rfl) rfl
theorem q850 : (Jvm.Cond.code ({ cls := "TermDesk", name := "valueOf", desc := "(LTermDesk$Poly;III)I" } : Jvm.MethodName) prog_1_method_55_code (7 : Nat) (Option.some Jvm.ClassFile.FieldType.int)) ∈ lw_all := lw_g (lw_at lw_m4 13 rfl) rfl
theorem q851 : (Jvm.Cond.methodLink "TermDesk" (344 : Nat) ({ cls := "TermDesk", name := "power", desc := "(II)I" } : Jvm.MethodName)) ∈ lw_all := lw_g (lw_at lw_m4 14 rfl) rfl
theorem q852 : (Jvm.Cond.privateMethod ({ cls := "TermDesk", name := "power", desc := "(II)I" } : Jvm.MethodName)) ∈ lw_tbl := lw_at lw_m4 15 rfl
theorem q853 : (Jvm.Cond.instanceMethod ({ cls := "TermDesk", name := "power", desc := "(II)I" } : Jvm.MethodName)) ∈ lw_all := lw_g (lw_at lw_m4 16 rfl) rfl
theorem q854 : (Jvm.Cond.code ({ cls := "TermDesk", name := "power", desc := "(II)I" } : Jvm.MethodName) prog_1_method_54_code (5 : Nat) (Option.some Jvm.ClassFile.FieldType.int)) ∈ lw_all := lw_g (lw_at lw_m4 17 rfl) rfl
theorem q856 : (Jvm.Cond.instanceMethod ({ cls := "TermDesk", name := "roots", desc := "(I)I" } : Jvm.MethodName)) ∈ lw_all := lw_g (lw_at lw_m4 19 rfl) rfl
theorem q857 : (Jvm.Cond.selects "TermDesk" ({ cls := "TermDesk", name := "roots", desc := "(I)I" } : Jvm.MethodName) ({ cls := "TermDesk", name := "roots", desc := "(I)I" } : Jvm.MethodName)) ∈ lw_all := lw_g (lw_at lw_m4 20 rfl) rfl
theorem q858 : (Jvm.Cond.code ({ cls := "TermDesk", name := "roots", desc := "(I)I" } : Jvm.MethodName) prog_1_method_57_code (8 : Nat) (Option.some Jvm.ClassFile.FieldType.int)) ∈ lw_all := lw_g (lw_at lw_m4 21 rfl) rfl
theorem q860 : (Jvm.Cond.instanceMethod ({ cls := "TermDesk", name := "same", desc := "(II)I" } : Jvm.MethodName)) ∈ lw_all := lw_g (lw_at lw_m4 23 rfl) rfl
theorem q861 : (Jvm.Cond.selects "TermDesk" ({ cls := "TermDesk", name := "same", desc := "(II)I" } : Jvm.MethodName) ({ cls := "TermDesk", name := "same", desc := "(II)I" } : Jvm.MethodName)) ∈ lw_all := lw_g (lw_at lw_m4 24 rfl) rfl
theorem q862 : (Jvm.Cond.code ({ cls := "TermDesk", name := "same", desc := "(II)I" } : Jvm.MethodName) prog_1_method_58_code (3 : Nat) (Option.some Jvm.ClassFile.FieldType.int)) ∈ lw_all := lw_g (lw_at lw_m4 25 rfl) rfl
theorem q863 : (Jvm.Cond.methodLink "TermDesk" (354 : Nat) ({ cls := "TermDesk$Poly", name := "isLike", desc := "(LTermDesk$Poly;)Z" } : Jvm.MethodName)) ∈ lw_all := lw_g (lw_at lw_m4 26 rfl) rfl
theorem q868 : (Jvm.Cond.instanceMethod ({ cls := "TermDesk", name := "ahead", desc := "(IIIIII)I" } : Jvm.MethodName)) ∈ lw_all := lw_g (lw_at lw_m4 31 rfl) rfl
theorem q869 : (Jvm.Cond.selects "TermDesk" ({ cls := "TermDesk", name := "ahead", desc := "(IIIIII)I" } : Jvm.MethodName) ({ cls := "TermDesk", name := "ahead", desc := "(IIIIII)I" } : Jvm.MethodName)) ∈ lw_all := lw_g (lw_at lw_m4 32 rfl) rfl
theorem q870 : (Jvm.Cond.code ({ cls := "TermDesk", name := "ahead", desc := "(IIIIII)I" } : Jvm.MethodName) prog_1_method_59_code (7 : Nat) (Option.some Jvm.ClassFile.FieldType.int)) ∈ lw_all := lw_g (lw_at lw_m4 33 rfl) rfl
theorem q871 : (Jvm.Cond.methodLink "TermDesk" (358 : Nat) ({ cls := "java/lang/Integer", name := "compare", desc := "(II)I" } : Jvm.MethodName)) ∈ lw_all := lw_g (lw_at lw_m4 34 rfl) rfl
theorem q875 : (Jvm.Cond.instanceMethod ({ cls := "TermDesk", name := "leadBy", desc := "(IIII)I" } : Jvm.MethodName)) ∈ lw_all := lw_g (lw_at lw_m4 38 rfl) rfl
theorem q876 : (Jvm.Cond.selects "TermDesk" ({ cls := "TermDesk", name := "leadBy", desc := "(IIII)I" } : Jvm.MethodName) ({ cls := "TermDesk", name := "leadBy", desc := "(IIII)I" } : Jvm.MethodName)) ∈ lw_all := lw_g (lw_at lw_m4 39 rfl) rfl
theorem q877 : (Jvm.Cond.code ({ cls := "TermDesk", name := "leadBy", desc := "(IIII)I" } : Jvm.MethodName) prog_1_method_61_code (8 : Nat) (Option.some Jvm.ClassFile.FieldType.int)) ∈ lw_all := lw_g (lw_at lw_m4 40 rfl) rfl
theorem q878 : (Jvm.Cond.methodLink "TermDesk" (363 : Nat) ({ cls := "TermDesk", name := "isOrder", desc := "(III)Z" } : Jvm.MethodName)) ∈ lw_all := lw_g (lw_at lw_m4 41 rfl) rfl
theorem q879 : (Jvm.Cond.static ({ cls := "TermDesk", name := "isOrder", desc := "(III)Z" } : Jvm.MethodName)) ∈ lw_all := lw_g (lw_at lw_m4 42 rfl) rfl
theorem q880 : (Jvm.Cond.code ({ cls := "TermDesk", name := "isOrder", desc := "(III)Z" } : Jvm.MethodName) prog_1_method_60_code (3 : Nat) (Option.some Jvm.ClassFile.FieldType.boolean)) ∈ lw_all := lw_g (lw_at lw_m4 43 rfl) rfl
theorem q882 : (Jvm.Cond.instanceMethod ({ cls := "TermDesk", name := "divided", desc := "(III)I" } : Jvm.MethodName)) ∈ lw_all := lw_g (lw_at lw_m4 45 rfl) rfl
theorem q883 : (Jvm.Cond.selects "TermDesk" ({ cls := "TermDesk", name := "divided", desc := "(III)I" } : Jvm.MethodName) ({ cls := "TermDesk", name := "divided", desc := "(III)I" } : Jvm.MethodName)) ∈ lw_all := lw_g (lw_at lw_m4 46 rfl) rfl
theorem q884 : (Jvm.Cond.code ({ cls := "TermDesk", name := "divided", desc := "(III)I" } : Jvm.MethodName) prog_1_method_66_code (9 : Nat) (Option.some Jvm.ClassFile.FieldType.int)) ∈ lw_all := lw_g (lw_at lw_m4 47 rfl) rfl
theorem q885 : (Jvm.Cond.methodLink "TermDesk" (383 : Nat) ({ cls := "TermDesk", name := "divisionWhy", desc := "(ZZII)I" } : Jvm.MethodName)) ∈ lw_all := lw_g (lw_at lw_m4 48 rfl) rfl
theorem q886 : (Jvm.Cond.privateMethod ({ cls := "TermDesk", name := "divisionWhy", desc := "(ZZII)I" } : Jvm.MethodName)) ∈ lw_tbl := lw_at lw_m4 49 rfl
theorem q887 : (Jvm.Cond.instanceMethod ({ cls := "TermDesk", name := "divisionWhy", desc := "(ZZII)I" } : Jvm.MethodName)) ∈ lw_all := lw_g (lw_at lw_m4 50 rfl) rfl
theorem q888 : (Jvm.Cond.code ({ cls := "TermDesk", name := "divisionWhy", desc := "(ZZII)I" } : Jvm.MethodName) prog_1_method_65_code (6 : Nat) (Option.some Jvm.ClassFile.FieldType.int)) ∈ lw_all := lw_g (lw_at lw_m4 51 rfl) rfl
theorem q889 : (Jvm.Cond.methodLink "TermDesk" (376 : Nat) ({ cls := "TermDesk", name := "isSet", desc := "(I)Z" } : Jvm.MethodName)) ∈ lw_all := lw_g (lw_at lw_m4 52 rfl) rfl
theorem q890 : (Jvm.Cond.static ({ cls := "TermDesk", name := "isSet", desc := "(I)Z" } : Jvm.MethodName)) ∈ lw_all := lw_g (lw_at lw_m4 53 rfl) rfl
theorem q891 : (Jvm.Cond.code ({ cls := "TermDesk", name := "isSet", desc := "(I)Z" } : Jvm.MethodName) prog_1_method_62_code (1 : Nat) (Option.some Jvm.ClassFile.FieldType.boolean)) ∈ lw_all := lw_g (lw_at lw_m4 54 rfl) rfl
theorem q892 : (Jvm.Cond.methodLink "TermDesk" (379 : Nat) ({ cls := "TermDesk", name := "divides", desc := "(LTermDesk$Poly;I)I" } : Jvm.MethodName)) ∈ lw_all := lw_g (lw_at lw_m4 55 rfl) rfl
theorem q893 : (Jvm.Cond.privateMethod ({ cls := "TermDesk", name := "divides", desc := "(LTermDesk$Poly;I)I" } : Jvm.MethodName)) ∈ lw_tbl := lw_at lw_m4 56 rfl
theorem q894 : (Jvm.Cond.instanceMethod ({ cls := "TermDesk", name := "divides", desc := "(LTermDesk$Poly;I)I" } : Jvm.MethodName)) ∈ lw_all := lw_g (lw_at lw_m4 57 rfl) rfl
theorem q895 : (Jvm.Cond.code ({ cls := "TermDesk", name := "divides", desc := "(LTermDesk$Poly;I)I" } : Jvm.MethodName) prog_1_method_64_code (3 : Nat) (Option.some Jvm.ClassFile.FieldType.int)) ∈ lw_all := lw_g (lw_at lw_m4 58 rfl) rfl
theorem q896 : (Jvm.Cond.methodLink "TermDesk" (366 : Nat) ({ cls := "TermDesk", name := "hasZero", desc := "(I)Z" } : Jvm.MethodName)) ∈ lw_all := lw_g (lw_at lw_m4 59 rfl) rfl
theorem q897 : (Jvm.Cond.privateMethod ({ cls := "TermDesk", name := "hasZero", desc := "(I)Z" } : Jvm.MethodName)) ∈ lw_tbl := lw_at lw_m4 60 rfl
theorem q898 : (Jvm.Cond.instanceMethod ({ cls := "TermDesk", name := "hasZero", desc := "(I)Z" } : Jvm.MethodName)) ∈ lw_all := lw_g (lw_at lw_m4 61 rfl) rfl
theorem q899 : (Jvm.Cond.code ({ cls := "TermDesk", name := "hasZero", desc := "(I)Z" } : Jvm.MethodName) prog_1_method_63_code (3 : Nat) (Option.some Jvm.ClassFile.FieldType.boolean)) ∈ lw_all := lw_g (lw_at lw_m4 62 rfl) rfl
theorem q900 : (Jvm.Cond.methodLink "TermDesk" (369 : Nat) ({ cls := "TermDesk$Division", name := "done", desc := "(LTermDesk$Poly;I)LTermDesk$Division;" } : Jvm.MethodName)) ∈ lw_all := lw_g (lw_at lw_m4 63 rfl) rfl
theorem q921 : (Jvm.Cond.static ({ cls := "TermDesk", name := "goesInto", desc := "(II)Z" } : Jvm.MethodName)) ∈ lw_all := lw_g (lw_at lw_m4 84 rfl) rfl
theorem q922 : (Jvm.Cond.code ({ cls := "TermDesk", name := "goesInto", desc := "(II)Z" } : Jvm.MethodName) prog_1_method_5_code (3 : Nat) (Option.some Jvm.ClassFile.FieldType.boolean)) ∈ lw_all := lw_g (lw_at lw_m4 85 rfl) rfl
theorem q931 : (Jvm.Cond.static ({ cls := "TermDesk", name := "goes", desc := "(LTermDesk$Poly;I)Z" } : Jvm.MethodName)) ∈ lw_all := lw_g (lw_at lw_m4 94 rfl) rfl
theorem q932 : (Jvm.Cond.code ({ cls := "TermDesk", name := "goes", desc := "(LTermDesk$Poly;I)Z" } : Jvm.MethodName) prog_1_method_12_code (3 : Nat) (Option.some Jvm.ClassFile.FieldType.boolean)) ∈ lw_all := lw_g (lw_at lw_m4 95 rfl) rfl
theorem q934 : (Jvm.Cond.privateMethod ({ cls := "TermDesk", name := "merges", desc := "(LTermDesk$Row;[I[IILTermDesk$Poly;II)LTermDesk$Row;" } : Jvm.MethodName)) ∈ lw_tbl := lw_at lw_m4 97 rfl
theorem q935 : (Jvm.Cond.instanceMethod ({ cls := "TermDesk", name := "merges", desc := "(LTermDesk$Row;[I[IILTermDesk$Poly;II)LTermDesk$Row;" } : Jvm.MethodName)) ∈ lw_all := lw_g (lw_at lw_m4 98 rfl) rfl
theorem q936 : (Jvm.Cond.code ({ cls := "TermDesk", name := "merges", desc := "(LTermDesk$Row;[I[IILTermDesk$Poly;II)LTermDesk$Row;" } : Jvm.MethodName) prog_1_method_13_code (12 : Nat) (Option.some (Jvm.ClassFile.FieldType.object "TermDesk$Row"))) ∈ lw_all := lw_g (lw_at lw_m4 99 rfl) rfl
theorem q937 : (Jvm.Cond.methodLink "TermDesk" (56 : Nat) ({ cls := "TermDesk$Row", name := "begins", desc := "()LTermDesk$Row;" } : Jvm.MethodName)) ∈ lw_all := lw_g (lw_at lw_m4 100 rfl) rfl
theorem q938 : (Jvm.Cond.methodLink "TermDesk" (72 : Nat) ({ cls := "TermDesk$Row", name := "add", desc := "(II)V" } : Jvm.MethodName)) ∈ lw_all := lw_g (lw_at lw_m4 101 rfl) rfl
theorem q941 : (Jvm.Cond.instanceMethod ({ cls := "TermDesk", name := "divides", desc := "(II)I" } : Jvm.MethodName)) ∈ lw_all := lw_g (lw_at lw_m4 104 rfl) rfl
theorem q942 : (Jvm.Cond.selects "TermDesk" ({ cls := "TermDesk", name := "divides", desc := "(II)I" } : Jvm.MethodName) ({ cls := "TermDesk", name := "divides", desc := "(II)I" } : Jvm.MethodName)) ∈ lw_all := lw_g (lw_at lw_m4 105 rfl) rfl
theorem q943 : (Jvm.Cond.code ({ cls := "TermDesk", name := "divides", desc := "(II)I" } : Jvm.MethodName) prog_1_method_67_code (3 : Nat) (Option.some Jvm.ClassFile.FieldType.int)) ∈ lw_all := lw_g (lw_at lw_m4 106 rfl) rfl
theorem q945 : (Jvm.Cond.instanceMethod ({ cls := "TermDesk", name := "missing", desc := "(I)I" } : Jvm.MethodName)) ∈ lw_all := lw_g (lw_at lw_m4 108 rfl) rfl
theorem q946 : (Jvm.Cond.selects "TermDesk" ({ cls := "TermDesk", name := "missing", desc := "(I)I" } : Jvm.MethodName) ({ cls := "TermDesk", name := "missing", desc := "(I)I" } : Jvm.MethodName)) ∈ lw_all := lw_g (lw_at lw_m4 109 rfl) rfl
theorem q947 : (Jvm.Cond.code ({ cls := "TermDesk", name := "missing", desc := "(I)I" } : Jvm.MethodName) prog_1_method_69_code (7 : Nat) (Option.some Jvm.ClassFile.FieldType.int)) ∈ lw_all := lw_g (lw_at lw_m4 110 rfl) rfl
theorem q948 : (Jvm.Cond.methodLink "TermDesk" (404 : Nat) ({ cls := "TermDesk", name := "leaves", desc := "(III)I" } : Jvm.MethodName)) ∈ lw_all := lw_g (lw_at lw_m4 111 rfl) rfl
theorem q949 : (Jvm.Cond.privateMethod ({ cls := "TermDesk", name := "leaves", desc := "(III)I" } : Jvm.MethodName)) ∈ lw_tbl := lw_at lw_m4 112 rfl
theorem q950 : (Jvm.Cond.instanceMethod ({ cls := "TermDesk", name := "leaves", desc := "(III)I" } : Jvm.MethodName)) ∈ lw_all := lw_g (lw_at lw_m4 113 rfl) rfl
theorem q951 : (Jvm.Cond.code ({ cls := "TermDesk", name := "leaves", desc := "(III)I" } : Jvm.MethodName) prog_1_method_68_code (6 : Nat) (Option.some Jvm.ClassFile.FieldType.int)) ∈ lw_all := lw_g (lw_at lw_m4 114 rfl) rfl
theorem q952 : (Jvm.Cond.methodLink "TermDesk" (400 : Nat) ({ cls := "TermDesk", name := "pair", desc := "(LTermDesk$Poly;LTermDesk$Poly;)LTermDesk$Poly;" } : Jvm.MethodName)) ∈ lw_all := lw_g (lw_at lw_m4 115 rfl) rfl
theorem q953 : (Jvm.Cond.privateMethod ({ cls := "TermDesk", name := "pair", desc := "(LTermDesk$Poly;LTermDesk$Poly;)LTermDesk$Poly;" } : Jvm.MethodName)) ∈ lw_tbl := lw_at lw_m4 116 rfl
theorem q954 : (Jvm.Cond.instanceMethod ({ cls := "TermDesk", name := "pair", desc := "(LTermDesk$Poly;LTermDesk$Poly;)LTermDesk$Poly;" } : Jvm.MethodName)) ∈ lw_all := lw_g (lw_at lw_m4 117 rfl) rfl
theorem q955 : (Jvm.Cond.code ({ cls := "TermDesk", name := "pair", desc := "(LTermDesk$Poly;LTermDesk$Poly;)LTermDesk$Poly;" } : Jvm.MethodName) prog_1_method_20_code (8 : Nat) (Option.some (Jvm.ClassFile.FieldType.object "TermDesk$Poly"))) ∈ lw_all := lw_g (lw_at lw_m4 118 rfl) rfl
theorem q956 : (Jvm.Cond.methodLink "TermDesk" (126 : Nat) ({ cls := "java/lang/Math", name := "max", desc := "(II)I" } : Jvm.MethodName)) ∈ lw_all := lw_g (lw_at lw_m4 119 rfl) rfl
theorem q957 : (Jvm.Cond.methodLink "TermDesk" (131 : Nat) ({ cls := "TermDesk", name := "monic", desc := "(LTermDesk$Poly;)LTermDesk$Poly;" } : Jvm.MethodName)) ∈ lw_all := lw_g (lw_at lw_m4 120 rfl) rfl
theorem q958 : (Jvm.Cond.privateMethod ({ cls := "TermDesk", name := "monic", desc := "(LTermDesk$Poly;)LTermDesk$Poly;" } : Jvm.MethodName)) ∈ lw_tbl := lw_at lw_m4 121 rfl
theorem q959 : (Jvm.Cond.instanceMethod ({ cls := "TermDesk", name := "monic", desc := "(LTermDesk$Poly;)LTermDesk$Poly;" } : Jvm.MethodName)) ∈ lw_all := lw_g (lw_at lw_m4 122 rfl) rfl
theorem q960 : (Jvm.Cond.code ({ cls := "TermDesk", name := "monic", desc := "(LTermDesk$Poly;)LTermDesk$Poly;" } : Jvm.MethodName) prog_1_method_19_code (2 : Nat) (Option.some (Jvm.ClassFile.FieldType.object "TermDesk$Poly"))) ∈ lw_all := lw_g (lw_at lw_m4 123 rfl) rfl
theorem q961 : (Jvm.Cond.methodLink "TermDesk" (122 : Nat) ({ cls := "TermDesk", name := "scaled", desc := "(LTermDesk$Poly;I)LTermDesk$Poly;" } : Jvm.MethodName)) ∈ lw_all := lw_g (lw_at lw_m4 124 rfl) rfl
theorem q962 : (Jvm.Cond.privateMethod ({ cls := "TermDesk", name := "scaled", desc := "(LTermDesk$Poly;I)LTermDesk$Poly;" } : Jvm.MethodName)) ∈ lw_tbl := lw_at lw_m4 125 rfl
theorem q963 : (Jvm.Cond.instanceMethod ({ cls := "TermDesk", name := "scaled", desc := "(LTermDesk$Poly;I)LTermDesk$Poly;" } : Jvm.MethodName)) ∈ lw_all := lw_g (lw_at lw_m4 126 rfl) rfl
theorem q964 : (Jvm.Cond.code ({ cls := "TermDesk", name := "scaled", desc := "(LTermDesk$Poly;I)LTermDesk$Poly;" } : Jvm.MethodName) prog_1_method_18_code (3 : Nat) (Option.some (Jvm.ClassFile.FieldType.object "TermDesk$Poly"))) ∈ lw_all := lw_g (lw_at lw_m4 127 rfl) rfl
theorem q965 : (Jvm.Cond.methodLink "TermDesk" (118 : Nat) ({ cls := "TermDesk", name := "sum", desc := "(LTermDesk$Poly;LTermDesk$Poly;II)LTermDesk$Poly;" } : Jvm.MethodName)) ∈ lw_all := lw_g (lw_at lw_m4 128 rfl) rfl
theorem q966 : (Jvm.Cond.privateMethod ({ cls := "TermDesk", name := "sum", desc := "(LTermDesk$Poly;LTermDesk$Poly;II)LTermDesk$Poly;" } : Jvm.MethodName)) ∈ lw_tbl := lw_at lw_m4 129 rfl
theorem q967 : (Jvm.Cond.instanceMethod ({ cls := "TermDesk", name := "sum", desc := "(LTermDesk$Poly;LTermDesk$Poly;II)LTermDesk$Poly;" } : Jvm.MethodName)) ∈ lw_all := lw_g (lw_at lw_m4 130 rfl) rfl
theorem q968 : (Jvm.Cond.code ({ cls := "TermDesk", name := "sum", desc := "(LTermDesk$Poly;LTermDesk$Poly;II)LTermDesk$Poly;" } : Jvm.MethodName) prog_1_method_14_code (5 : Nat) (Option.some (Jvm.ClassFile.FieldType.object "TermDesk$Poly"))) ∈ lw_all := lw_g (lw_at lw_m4 131 rfl) rfl
theorem q969 : (Jvm.Cond.methodLink "TermDesk" (79 : Nat) ({ cls := "TermDesk", name := "goes", desc := "(LTermDesk$Poly;I)Z" } : Jvm.MethodName)) ∈ lw_all := lw_g (lw_at lw_m4 132 rfl) rfl
theorem q970 : (Jvm.Cond.methodLink "TermDesk" (87 : Nat) ({ cls := "TermDesk", name := "merges", desc := "(LTermDesk$Row;[I[IILTermDesk$Poly;II)LTermDesk$Row;" } : Jvm.MethodName)) ∈ lw_all := lw_g (lw_at lw_m4 133 rfl) rfl
theorem q971 : (Jvm.Cond.methodLink "TermDesk" (91 : Nat) ({ cls := "TermDesk$Row", name := "poly", desc := "()LTermDesk$Poly;" } : Jvm.MethodName)) ∈ lw_all := lw_g (lw_at lw_m4 134 rfl) rfl
theorem q992 : (Jvm.Cond.instanceMethod ({ cls := "TermDesk", name := "add", desc := "(III)I" } : Jvm.MethodName)) ∈ lw_all := lw_g (lw_at lw_m4 155 rfl) rfl
theorem q993 : (Jvm.Cond.selects "TermDesk" ({ cls := "TermDesk", name := "add", desc := "(III)I" } : Jvm.MethodName) ({ cls := "TermDesk", name := "add", desc := "(III)I" } : Jvm.MethodName)) ∈ lw_all := lw_g (lw_at lw_m4 156 rfl) rfl
theorem q994 : (Jvm.Cond.code ({ cls := "TermDesk", name := "add", desc := "(III)I" } : Jvm.MethodName) prog_1_method_72_code (4 : Nat) (Option.some Jvm.ClassFile.FieldType.int)) ∈ lw_all := lw_g (lw_at lw_m4 157 rfl) rfl
theorem q995 : (Jvm.Cond.methodLink "TermDesk" (413 : Nat) ({ cls := "TermDesk", name := "lays", desc := "(LTermDesk$Poly;I)I" } : Jvm.MethodName)) ∈ lw_all := lw_g (lw_at lw_m4 158 rfl) rfl
theorem q996 : (Jvm.Cond.privateMethod ({ cls := "TermDesk", name := "lays", desc := "(LTermDesk$Poly;I)I" } : Jvm.MethodName)) ∈ lw_tbl := lw_at lw_m4 159 rfl
theorem q997 : (Jvm.Cond.instanceMethod ({ cls := "TermDesk", name := "lays", desc := "(LTermDesk$Poly;I)I" } : Jvm.MethodName)) ∈ lw_all := lw_g (lw_at lw_m4 160 rfl) rfl
theorem q998 : (Jvm.Cond.code ({ cls := "TermDesk", name := "lays", desc := "(LTermDesk$Poly;I)I" } : Jvm.MethodName) prog_1_method_71_code (3 : Nat) (Option.some Jvm.ClassFile.FieldType.int)) ∈ lw_all := lw_g (lw_at lw_m4 161 rfl) rfl
theorem q999 : (Jvm.Cond.methodLink "TermDesk" (410 : Nat) ({ cls := "TermDesk", name := "keeps", desc := "()V" } : Jvm.MethodName)) ∈ lw_all := lw_g (lw_at lw_m4 162 rfl) rfl
theorem q1000 : (Jvm.Cond.privateMethod ({ cls := "TermDesk", name := "keeps", desc := "()V" } : Jvm.MethodName)) ∈ lw_tbl := lw_at lw_m4 163 rfl
theorem q1001 : (Jvm.Cond.instanceMethod ({ cls := "TermDesk", name := "keeps", desc := "()V" } : Jvm.MethodName)) ∈ lw_all := lw_g (lw_at lw_m4 164 rfl) rfl
theorem q1002 : (Jvm.Cond.code ({ cls := "TermDesk", name := "keeps", desc := "()V" } : Jvm.MethodName) prog_1_method_70_code (2 : Nat) (Option.none : Option Jvm.ClassFile.FieldType)) ∈ lw_all := lw_g (lw_at lw_m4 165 rfl) rfl
theorem q1003 : (Jvm.Cond.methodLink "TermDesk" (406 : Nat) ({ cls := "[LTermDesk$Poly;", name := "clone", desc := "()Ljava/lang/Object;" } : Jvm.MethodName)) ∈ lw_all := lw_g (lw_at lw_m4 166 rfl) rfl
theorem q1008 : (Jvm.Cond.instanceMethod ({ cls := "TermDesk", name := "less", desc := "(III)I" } : Jvm.MethodName)) ∈ lw_all := lw_g (lw_at lw_m4 171 rfl) rfl
theorem q1009 : (Jvm.Cond.selects "TermDesk" ({ cls := "TermDesk", name := "less", desc := "(III)I" } : Jvm.MethodName) ({ cls := "TermDesk", name := "less", desc := "(III)I" } : Jvm.MethodName)) ∈ lw_all := lw_g (lw_at lw_m4 172 rfl) rfl
theorem q1010 : (Jvm.Cond.code ({ cls := "TermDesk", name := "less", desc := "(III)I" } : Jvm.MethodName) prog_1_method_73_code (4 : Nat) (Option.some Jvm.ClassFile.FieldType.int)) ∈ lw_all := lw_g (lw_at lw_m4 173 rfl) rfl
theorem q1012 : (Jvm.Cond.instanceMethod ({ cls := "TermDesk", name := "times", desc := "(III)I" } : Jvm.MethodName)) ∈ lw_all := lw_g (lw_at lw_m4 175 rfl) rfl
theorem q1013 : (Jvm.Cond.selects "TermDesk" ({ cls := "TermDesk", name := "times", desc := "(III)I" } : Jvm.MethodName) ({ cls := "TermDesk", name := "times", desc := "(III)I" } : Jvm.MethodName)) ∈ lw_all := lw_g (lw_at lw_m4 176 rfl) rfl
theorem q1014 : (Jvm.Cond.code ({ cls := "TermDesk", name := "times", desc := "(III)I" } : Jvm.MethodName) prog_1_method_74_code (4 : Nat) (Option.some Jvm.ClassFile.FieldType.int)) ∈ lw_all := lw_g (lw_at lw_m4 177 rfl) rfl
theorem q1015 : (Jvm.Cond.methodLink "TermDesk" (415 : Nat) ({ cls := "TermDesk", name := "times", desc := "(LTermDesk$Poly;LTermDesk$Poly;)LTermDesk$Poly;" } : Jvm.MethodName)) ∈ lw_all := lw_g (lw_at lw_m4 178 rfl) rfl
theorem q1016 : (Jvm.Cond.privateMethod ({ cls := "TermDesk", name := "times", desc := "(LTermDesk$Poly;LTermDesk$Poly;)LTermDesk$Poly;" } : Jvm.MethodName)) ∈ lw_tbl := lw_at lw_m4 179 rfl
theorem q1017 : (Jvm.Cond.instanceMethod ({ cls := "TermDesk", name := "times", desc := "(LTermDesk$Poly;LTermDesk$Poly;)LTermDesk$Poly;" } : Jvm.MethodName)) ∈ lw_all := lw_g (lw_at lw_m4 180 rfl) rfl
theorem q1018 : (Jvm.Cond.code ({ cls := "TermDesk", name := "times", desc := "(LTermDesk$Poly;LTermDesk$Poly;)LTermDesk$Poly;" } : Jvm.MethodName) prog_1_method_15_code (10 : Nat) (Option.some (Jvm.ClassFile.FieldType.object "TermDesk$Poly"))) ∈ lw_all := lw_g (lw_at lw_m4 181 rfl) rfl
theorem q1019 : (Jvm.Cond.classLink "TermDesk" (95 : Nat) "TermDesk$Heap") ∈ lw_all := lw_g (lw_at lw_m4 182 rfl) rfl
theorem q1021 : (Jvm.Cond.methodLink "TermDesk" (97 : Nat) ({ cls := "TermDesk$Heap", name := "<init>", desc := "()V" } : Jvm.MethodName)) ∈ lw_all := lw_g (lw_at lw_m4 184 rfl) rfl
theorem q1031 : (Jvm.Cond.fieldLinkNest "TermDesk" (102 : Nat) "TermDesk$Heap" "many" "I" "TermDesk") ∈ lw_tbl := lw_at lw_m4 194 rfl
theorem q1039 : (Jvm.Cond.methodLink "TermDesk" (101 : Nat) ({ cls := "TermDesk$Heap", name := "add", desc := "(II)V" } : Jvm.MethodName)) ∈ lw_all := lw_g (lw_at lw_m4 202 rfl) rfl
theorem q1047 : (Jvm.Cond.methodLink "TermDesk" (103 : Nat) ({ cls := "TermDesk$Heap", name := "top", desc := "()I" } : Jvm.MethodName)) ∈ lw_all := lw_g (lw_at lw_m4 210 rfl) rfl
theorem q1051 : (Jvm.Cond.methodLink "TermDesk" (107 : Nat) ({ cls := "TermDesk$Heap", name := "take", desc := "()I" } : Jvm.MethodName)) ∈ lw_all := lw_g (lw_at lw_m4 214 rfl) rfl
theorem q1056 : (Jvm.Cond.instanceMethod ({ cls := "TermDesk", name := "scale", desc := "(IIIIII)I" } : Jvm.MethodName)) ∈ lw_all := lw_g (lw_at lw_m4 219 rfl) rfl
theorem q1057 : (Jvm.Cond.selects "TermDesk" ({ cls := "TermDesk", name := "scale", desc := "(IIIIII)I" } : Jvm.MethodName) ({ cls := "TermDesk", name := "scale", desc := "(IIIIII)I" } : Jvm.MethodName)) ∈ lw_all := lw_g (lw_at lw_m4 220 rfl) rfl
theorem q1058 : (Jvm.Cond.code ({ cls := "TermDesk", name := "scale", desc := "(IIIIII)I" } : Jvm.MethodName) prog_1_method_75_code (7 : Nat) (Option.some Jvm.ClassFile.FieldType.int)) ∈ lw_all := lw_g (lw_at lw_m4 221 rfl) rfl
theorem q1060 : (Jvm.Cond.instanceMethod ({ cls := "TermDesk", name := "monic", desc := "(II)I" } : Jvm.MethodName)) ∈ lw_all := lw_g (lw_at lw_m4 223 rfl) rfl
theorem q1061 : (Jvm.Cond.selects "TermDesk" ({ cls := "TermDesk", name := "monic", desc := "(II)I" } : Jvm.MethodName) ({ cls := "TermDesk", name := "monic", desc := "(II)I" } : Jvm.MethodName)) ∈ lw_all := lw_g (lw_at lw_m4 224 rfl) rfl
theorem q1062 : (Jvm.Cond.code ({ cls := "TermDesk", name := "monic", desc := "(II)I" } : Jvm.MethodName) prog_1_method_76_code (3 : Nat) (Option.some Jvm.ClassFile.FieldType.int)) ∈ lw_all := lw_g (lw_at lw_m4 225 rfl) rfl
theorem q1064 : (Jvm.Cond.instanceMethod ({ cls := "TermDesk", name := "derive", desc := "(III)I" } : Jvm.MethodName)) ∈ lw_all := lw_g (lw_at lw_m4 227 rfl) rfl
theorem q1065 : (Jvm.Cond.selects "TermDesk" ({ cls := "TermDesk", name := "derive", desc := "(III)I" } : Jvm.MethodName) ({ cls := "TermDesk", name := "derive", desc := "(III)I" } : Jvm.MethodName)) ∈ lw_all := lw_g (lw_at lw_m4 228 rfl) rfl
theorem q1066 : (Jvm.Cond.code ({ cls := "TermDesk", name := "derive", desc := "(III)I" } : Jvm.MethodName) prog_1_method_77_code (7 : Nat) (Option.some Jvm.ClassFile.FieldType.int)) ∈ lw_all := lw_g (lw_at lw_m4 229 rfl) rfl
theorem q1067 : (Jvm.Cond.methodLink "TermDesk" (203 : Nat) ({ cls := "TermDesk", name := "sorted", desc := "([I)LTermDesk$Poly;" } : Jvm.MethodName)) ∈ lw_all := lw_g (lw_at lw_m4 230 rfl) rfl
theorem q1069 : (Jvm.Cond.instanceMethod ({ cls := "TermDesk", name := "put", desc := "(IIII)I" } : Jvm.MethodName)) ∈ lw_all := lw_g (lw_at lw_m4 232 rfl) rfl
theorem q1070 : (Jvm.Cond.selects "TermDesk" ({ cls := "TermDesk", name := "put", desc := "(IIII)I" } : Jvm.MethodName) ({ cls := "TermDesk", name := "put", desc := "(IIII)I" } : Jvm.MethodName)) ∈ lw_all := lw_g (lw_at lw_m4 233 rfl) rfl
theorem q1071 : (Jvm.Cond.code ({ cls := "TermDesk", name := "put", desc := "(IIII)I" } : Jvm.MethodName) prog_1_method_78_code (9 : Nat) (Option.some Jvm.ClassFile.FieldType.int)) ∈ lw_all := lw_g (lw_at lw_m4 234 rfl) rfl
theorem q1073 : (Jvm.Cond.instanceMethod ({ cls := "TermDesk", name := "swap", desc := "(IIII)I" } : Jvm.MethodName)) ∈ lw_all := lw_g (lw_at lw_m4 236 rfl) rfl
theorem q1074 : (Jvm.Cond.selects "TermDesk" ({ cls := "TermDesk", name := "swap", desc := "(IIII)I" } : Jvm.MethodName) ({ cls := "TermDesk", name := "swap", desc := "(IIII)I" } : Jvm.MethodName)) ∈ lw_all := lw_g (lw_at lw_m4 237 rfl) rfl
theorem q1075 : (Jvm.Cond.code ({ cls := "TermDesk", name := "swap", desc := "(IIII)I" } : Jvm.MethodName) prog_1_method_79_code (11 : Nat) (Option.some Jvm.ClassFile.FieldType.int)) ∈ lw_all := lw_g (lw_at lw_m4 238 rfl) rfl
theorem q1077 : (Jvm.Cond.instanceMethod ({ cls := "TermDesk", name := "rest", desc := "(III)I" } : Jvm.MethodName)) ∈ lw_all := lw_g (lw_at lw_m5 0 rfl) rfl
theorem q1078 : (Jvm.Cond.selects "TermDesk" ({ cls := "TermDesk", name := "rest", desc := "(III)I" } : Jvm.MethodName) ({ cls := "TermDesk", name := "rest", desc := "(III)I" } : Jvm.MethodName)) ∈ lw_all := lw_g (lw_at lw_m5 1 rfl) rfl
theorem q1079 : (Jvm.Cond.code ({ cls := "TermDesk", name := "rest", desc := "(III)I" } : Jvm.MethodName) prog_1_method_80_code (4 : Nat) (Option.some Jvm.ClassFile.FieldType.int)) ∈ lw_all := lw_g (lw_at lw_m5 2 rfl) rfl
theorem q1081 : (Jvm.Cond.instanceMethod ({ cls := "TermDesk", name := "quotient", desc := "(IIII)I" } : Jvm.MethodName)) ∈ lw_all := lw_g (lw_at lw_m5 4 rfl) rfl
theorem q1082 : (Jvm.Cond.selects "TermDesk" ({ cls := "TermDesk", name := "quotient", desc := "(IIII)I" } : Jvm.MethodName) ({ cls := "TermDesk", name := "quotient", desc := "(IIII)I" } : Jvm.MethodName)) ∈ lw_all := lw_g (lw_at lw_m5 5 rfl) rfl
theorem q1083 : (Jvm.Cond.code ({ cls := "TermDesk", name := "quotient", desc := "(IIII)I" } : Jvm.MethodName) prog_1_method_81_code (6 : Nat) (Option.some Jvm.ClassFile.FieldType.int)) ∈ lw_all := lw_g (lw_at lw_m5 6 rfl) rfl
theorem q1085 : (Jvm.Cond.instanceMethod ({ cls := "TermDesk", name := "pair", desc := "(III)I" } : Jvm.MethodName)) ∈ lw_all := lw_g (lw_at lw_m5 8 rfl) rfl
theorem q1086 : (Jvm.Cond.selects "TermDesk" ({ cls := "TermDesk", name := "pair", desc := "(III)I" } : Jvm.MethodName) ({ cls := "TermDesk", name := "pair", desc := "(III)I" } : Jvm.MethodName)) ∈ lw_all := lw_g (lw_at lw_m5 9 rfl) rfl
theorem q1087 : (Jvm.Cond.code ({ cls := "TermDesk", name := "pair", desc := "(III)I" } : Jvm.MethodName) prog_1_method_82_code (4 : Nat) (Option.some Jvm.ClassFile.FieldType.int)) ∈ lw_all := lw_g (lw_at lw_m5 10 rfl) rfl
theorem q1089 : (Jvm.Cond.instanceMethod ({ cls := "TermDesk", name := "common", desc := "(III)I" } : Jvm.MethodName)) ∈ lw_all := lw_g (lw_at lw_m5 12 rfl) rfl
theorem q1090 : (Jvm.Cond.selects "TermDesk" ({ cls := "TermDesk", name := "common", desc := "(III)I" } : Jvm.MethodName) ({ cls := "TermDesk", name := "common", desc := "(III)I" } : Jvm.MethodName)) ∈ lw_all := lw_g (lw_at lw_m5 13 rfl) rfl
theorem q1091 : (Jvm.Cond.code ({ cls := "TermDesk", name := "common", desc := "(III)I" } : Jvm.MethodName) prog_1_method_84_code (4 : Nat) (Option.some Jvm.ClassFile.FieldType.int)) ∈ lw_all := lw_g (lw_at lw_m5 14 rfl) rfl
theorem q1092 : (Jvm.Cond.methodLink "TermDesk" (418 : Nat) ({ cls := "TermDesk", name := "hasThird", desc := "(I)Z" } : Jvm.MethodName)) ∈ lw_all := lw_g (lw_at lw_m5 15 rfl) rfl
theorem q1093 : (Jvm.Cond.privateMethod ({ cls := "TermDesk", name := "hasThird", desc := "(I)Z" } : Jvm.MethodName)) ∈ lw_tbl := lw_at lw_m5 16 rfl
theorem q1094 : (Jvm.Cond.instanceMethod ({ cls := "TermDesk", name := "hasThird", desc := "(I)Z" } : Jvm.MethodName)) ∈ lw_all := lw_g (lw_at lw_m5 17 rfl) rfl
theorem q1095 : (Jvm.Cond.code ({ cls := "TermDesk", name := "hasThird", desc := "(I)Z" } : Jvm.MethodName) prog_1_method_83_code (2 : Nat) (Option.some Jvm.ClassFile.FieldType.boolean)) ∈ lw_all := lw_g (lw_at lw_m5 18 rfl) rfl
theorem q1096 : (Jvm.Cond.methodLink "TermDesk" (421 : Nat) ({ cls := "TermDesk", name := "common", desc := "(LTermDesk$Poly;LTermDesk$Poly;)LTermDesk$Poly;" } : Jvm.MethodName)) ∈ lw_all := lw_g (lw_at lw_m5 19 rfl) rfl
theorem q1097 : (Jvm.Cond.privateMethod ({ cls := "TermDesk", name := "common", desc := "(LTermDesk$Poly;LTermDesk$Poly;)LTermDesk$Poly;" } : Jvm.MethodName)) ∈ lw_tbl := lw_at lw_m5 20 rfl
theorem q1098 : (Jvm.Cond.instanceMethod ({ cls := "TermDesk", name := "common", desc := "(LTermDesk$Poly;LTermDesk$Poly;)LTermDesk$Poly;" } : Jvm.MethodName)) ∈ lw_all := lw_g (lw_at lw_m5 21 rfl) rfl
theorem q1099 : (Jvm.Cond.code ({ cls := "TermDesk", name := "common", desc := "(LTermDesk$Poly;LTermDesk$Poly;)LTermDesk$Poly;" } : Jvm.MethodName) prog_1_method_30_code (14 : Nat) (Option.some (Jvm.ClassFile.FieldType.object "TermDesk$Poly"))) ∈ lw_all := lw_g (lw_at lw_m5 22 rfl) rfl
theorem q1100 : (Jvm.Cond.methodLink "TermDesk" (189 : Nat) ({ cls := "TermDesk", name := "lays", desc := "(LTermDesk$Poly;[[I)[[I" } : Jvm.MethodName)) ∈ lw_all := lw_g (lw_at lw_m5 23 rfl) rfl
theorem q1101 : (Jvm.Cond.privateMethod ({ cls := "TermDesk", name := "lays", desc := "(LTermDesk$Poly;[[I)[[I" } : Jvm.MethodName)) ∈ lw_tbl := lw_at lw_m5 24 rfl
theorem q1102 : (Jvm.Cond.instanceMethod ({ cls := "TermDesk", name := "lays", desc := "(LTermDesk$Poly;[[I)[[I" } : Jvm.MethodName)) ∈ lw_all := lw_g (lw_at lw_m5 25 rfl) rfl
theorem q1103 : (Jvm.Cond.code ({ cls := "TermDesk", name := "lays", desc := "(LTermDesk$Poly;[[I)[[I" } : Jvm.MethodName) prog_1_method_25_code (7 : Nat) (Option.some (Jvm.ClassFile.FieldType.array (Jvm.ClassFile.FieldType.array Jvm.ClassFile.FieldType.int)))) ∈ lw_all := lw_g (lw_at lw_m5 26 rfl) rfl
theorem q1104 : (Jvm.Cond.methodLink "TermDesk" (182 : Nat) ({ cls := "TermDesk", name := "primitive", desc := "([[I)[I" } : Jvm.MethodName)) ∈ lw_all := lw_g (lw_at lw_m5 27 rfl) rfl
theorem q1105 : (Jvm.Cond.privateMethod ({ cls := "TermDesk", name := "primitive", desc := "([[I)[I" } : Jvm.MethodName)) ∈ lw_tbl := lw_at lw_m5 28 rfl
theorem q1106 : (Jvm.Cond.instanceMethod ({ cls := "TermDesk", name := "primitive", desc := "([[I)[I" } : Jvm.MethodName)) ∈ lw_all := lw_g (lw_at lw_m5 29 rfl) rfl
theorem q1107 : (Jvm.Cond.code ({ cls := "TermDesk", name := "primitive", desc := "([[I)[I" } : Jvm.MethodName) prog_1_method_27_code (8 : Nat) (Option.some (Jvm.ClassFile.FieldType.array Jvm.ClassFile.FieldType.int))) ∈ lw_all := lw_g (lw_at lw_m5 30 rfl) rfl
theorem q1108 : (Jvm.Cond.methodLink "TermDesk" (160 : Nat) ({ cls := "TermDesk", name := "contentOf", desc := "([[I)[I" } : Jvm.MethodName)) ∈ lw_all := lw_g (lw_at lw_m5 31 rfl) rfl
theorem q1109 : (Jvm.Cond.privateMethod ({ cls := "TermDesk", name := "contentOf", desc := "([[I)[I" } : Jvm.MethodName)) ∈ lw_tbl := lw_at lw_m5 32 rfl
theorem q1110 : (Jvm.Cond.instanceMethod ({ cls := "TermDesk", name := "contentOf", desc := "([[I)[I" } : Jvm.MethodName)) ∈ lw_all := lw_g (lw_at lw_m5 33 rfl) rfl
theorem q1111 : (Jvm.Cond.code ({ cls := "TermDesk", name := "contentOf", desc := "([[I)[I" } : Jvm.MethodName) prog_1_method_24_code (9 : Nat) (Option.some (Jvm.ClassFile.FieldType.array Jvm.ClassFile.FieldType.int))) ∈ lw_all := lw_g (lw_at lw_m5 34 rfl) rfl
theorem q1112 : (Jvm.Cond.methodLink "TermDesk" (144 : Nat) ({ cls := "java/lang/System", name := "arraycopy", desc := "(Ljava/lang/Object;ILjava/lang/Object;II)V" } : Jvm.MethodName)) ∈ lw_all := lw_g (lw_at lw_m5 35 rfl) rfl
theorem q1113 : (Jvm.Cond.methodLink "TermDesk" (135 : Nat) ({ cls := "TermDesk", name := "top", desc := "([I)I" } : Jvm.MethodName)) ∈ lw_all := lw_g (lw_at lw_m5 36 rfl) rfl
theorem q1114 : (Jvm.Cond.static ({ cls := "TermDesk", name := "top", desc := "([I)I" } : Jvm.MethodName)) ∈ lw_all := lw_g (lw_at lw_m5 37 rfl) rfl
theorem q1115 : (Jvm.Cond.code ({ cls := "TermDesk", name := "top", desc := "([I)I" } : Jvm.MethodName) prog_1_method_21_code (2 : Nat) (Option.some Jvm.ClassFile.FieldType.int)) ∈ lw_all := lw_g (lw_at lw_m5 38 rfl) rfl
theorem q1116 : (Jvm.Cond.methodLink "TermDesk" (156 : Nat) ({ cls := "TermDesk", name := "leaves", desc := "([I[I)V" } : Jvm.MethodName)) ∈ lw_all := lw_g (lw_at lw_m5 39 rfl) rfl
theorem q1117 : (Jvm.Cond.privateMethod ({ cls := "TermDesk", name := "leaves", desc := "([I[I)V" } : Jvm.MethodName)) ∈ lw_tbl := lw_at lw_m5 40 rfl
theorem q1118 : (Jvm.Cond.instanceMethod ({ cls := "TermDesk", name := "leaves", desc := "([I[I)V" } : Jvm.MethodName)) ∈ lw_all := lw_g (lw_at lw_m5 41 rfl) rfl
theorem q1119 : (Jvm.Cond.code ({ cls := "TermDesk", name := "leaves", desc := "([I[I)V" } : Jvm.MethodName) prog_1_method_22_code (7 : Nat) (Option.none : Option Jvm.ClassFile.FieldType)) ∈ lw_all := lw_g (lw_at lw_m5 42 rfl) rfl
theorem q1120 : (Jvm.Cond.methodLink "TermDesk" (138 : Nat) ({ cls := "TermDesk", name := "reduced", desc := "(I)I" } : Jvm.MethodName)) ∈ lw_all := lw_g (lw_at lw_m5 43 rfl) rfl
theorem q1121 : (Jvm.Cond.methodLink "TermDesk" (164 : Nat) ({ cls := "TermDesk", name := "dividesBy", desc := "([I[I)V" } : Jvm.MethodName)) ∈ lw_all := lw_g (lw_at lw_m5 44 rfl) rfl
theorem q1122 : (Jvm.Cond.privateMethod ({ cls := "TermDesk", name := "dividesBy", desc := "([I[I)V" } : Jvm.MethodName)) ∈ lw_tbl := lw_at lw_m5 45 rfl
theorem q1123 : (Jvm.Cond.instanceMethod ({ cls := "TermDesk", name := "dividesBy", desc := "([I[I)V" } : Jvm.MethodName)) ∈ lw_all := lw_g (lw_at lw_m5 46 rfl) rfl
theorem q1124 : (Jvm.Cond.code ({ cls := "TermDesk", name := "dividesBy", desc := "([I[I)V" } : Jvm.MethodName) prog_1_method_23_code (7 : Nat) (Option.none : Option Jvm.ClassFile.FieldType)) ∈ lw_all := lw_g (lw_at lw_m5 47 rfl) rfl
theorem q1125 : (Jvm.Cond.methodLink "TermDesk" (167 : Nat) ({ cls := "java/util/Arrays", name := "copyOf", desc := "([II)[I" } : Jvm.MethodName)) ∈ lw_all := lw_g (lw_at lw_m5 48 rfl) rfl
theorem q1126 : (Jvm.Cond.methodLink "TermDesk" (171 : Nat) ({ cls := "TermDesk", name := "topRow", desc := "([[I)I" } : Jvm.MethodName)) ∈ lw_all := lw_g (lw_at lw_m5 49 rfl) rfl
theorem q1127 : (Jvm.Cond.static ({ cls := "TermDesk", name := "topRow", desc := "([[I)I" } : Jvm.MethodName)) ∈ lw_all := lw_g (lw_at lw_m5 50 rfl) rfl
theorem q1128 : (Jvm.Cond.code ({ cls := "TermDesk", name := "topRow", desc := "([[I)I" } : Jvm.MethodName) prog_1_method_26_code (2 : Nat) (Option.some Jvm.ClassFile.FieldType.int)) ∈ lw_all := lw_g (lw_at lw_m5 51 rfl) rfl
theorem q1129 : (Jvm.Cond.methodLink "TermDesk" (196 : Nat) ({ cls := "TermDesk", name := "leaves", desc := "([[I[[I)V" } : Jvm.MethodName)) ∈ lw_all := lw_g (lw_at lw_m5 52 rfl) rfl
theorem q1130 : (Jvm.Cond.privateMethod ({ cls := "TermDesk", name := "leaves", desc := "([[I[[I)V" } : Jvm.MethodName)) ∈ lw_tbl := lw_at lw_m5 53 rfl
theorem q1131 : (Jvm.Cond.instanceMethod ({ cls := "TermDesk", name := "leaves", desc := "([[I[[I)V" } : Jvm.MethodName)) ∈ lw_all := lw_g (lw_at lw_m5 54 rfl) rfl
theorem q1132 : (Jvm.Cond.code ({ cls := "TermDesk", name := "leaves", desc := "([[I[[I)V" } : Jvm.MethodName) prog_1_method_29_code (6 : Nat) (Option.none : Option Jvm.ClassFile.FieldType)) ∈ lw_all := lw_g (lw_at lw_m5 55 rfl) rfl
theorem q1133 : (Jvm.Cond.methodLink "TermDesk" (178 : Nat) ({ cls := "TermDesk", name := "mixes", desc := "([I[I[I[I)V" } : Jvm.MethodName)) ∈ lw_all := lw_g (lw_at lw_m5 56 rfl) rfl
theorem q1134 : (Jvm.Cond.privateMethod ({ cls := "TermDesk", name := "mixes", desc := "([I[I[I[I)V" } : Jvm.MethodName)) ∈ lw_tbl := lw_at lw_m5 57 rfl
theorem q1135 : (Jvm.Cond.instanceMethod ({ cls := "TermDesk", name := "mixes", desc := "([I[I[I[I)V" } : Jvm.MethodName)) ∈ lw_all := lw_g (lw_at lw_m5 58 rfl) rfl
theorem q1136 : (Jvm.Cond.code ({ cls := "TermDesk", name := "mixes", desc := "([I[I[I[I)V" } : Jvm.MethodName) prog_1_method_28_code (11 : Nat) (Option.none : Option Jvm.ClassFile.FieldType)) ∈ lw_all := lw_g (lw_at lw_m5 59 rfl) rfl
theorem q1138 : (Jvm.Cond.instanceMethod ({ cls := "TermDesk", name := "content", desc := "(II)I" } : Jvm.MethodName)) ∈ lw_all := lw_g (lw_at lw_m5 61 rfl) rfl
theorem q1139 : (Jvm.Cond.selects "TermDesk" ({ cls := "TermDesk", name := "content", desc := "(II)I" } : Jvm.MethodName) ({ cls := "TermDesk", name := "content", desc := "(II)I" } : Jvm.MethodName)) ∈ lw_all := lw_g (lw_at lw_m5 62 rfl) rfl
theorem q1140 : (Jvm.Cond.code ({ cls := "TermDesk", name := "content", desc := "(II)I" } : Jvm.MethodName) prog_1_method_85_code (3 : Nat) (Option.some Jvm.ClassFile.FieldType.int)) ∈ lw_all := lw_g (lw_at lw_m5 63 rfl) rfl
theorem q1141 : (Jvm.Cond.methodLink "TermDesk" (424 : Nat) ({ cls := "TermDesk", name := "inY", desc := "([I)LTermDesk$Poly;" } : Jvm.MethodName)) ∈ lw_all := lw_g (lw_at lw_m5 64 rfl) rfl
theorem q1142 : (Jvm.Cond.privateMethod ({ cls := "TermDesk", name := "inY", desc := "([I)LTermDesk$Poly;" } : Jvm.MethodName)) ∈ lw_tbl := lw_at lw_m5 65 rfl
theorem q1143 : (Jvm.Cond.instanceMethod ({ cls := "TermDesk", name := "inY", desc := "([I)LTermDesk$Poly;" } : Jvm.MethodName)) ∈ lw_all := lw_g (lw_at lw_m5 66 rfl) rfl
theorem q1144 : (Jvm.Cond.code ({ cls := "TermDesk", name := "inY", desc := "([I)LTermDesk$Poly;" } : Jvm.MethodName) prog_1_method_31_code (4 : Nat) (Option.some (Jvm.ClassFile.FieldType.object "TermDesk$Poly"))) ∈ lw_all := lw_g (lw_at lw_m5 67 rfl) rfl
theorem q1146 : (Jvm.Cond.instanceMethod ({ cls := "TermDesk", name := "primitive", desc := "(II)I" } : Jvm.MethodName)) ∈ lw_all := lw_g (lw_at lw_m5 69 rfl) rfl
theorem q1147 : (Jvm.Cond.selects "TermDesk" ({ cls := "TermDesk", name := "primitive", desc := "(II)I" } : Jvm.MethodName) ({ cls := "TermDesk", name := "primitive", desc := "(II)I" } : Jvm.MethodName)) ∈ lw_all := lw_g (lw_at lw_m5 70 rfl) rfl
theorem q1148 : (Jvm.Cond.code ({ cls := "TermDesk", name := "primitive", desc := "(II)I" } : Jvm.MethodName) prog_1_method_86_code (7 : Nat) (Option.some Jvm.ClassFile.FieldType.int)) ∈ lw_all := lw_g (lw_at lw_m5 71 rfl) rfl
theorem q1150 : (Jvm.Cond.instanceMethod ({ cls := "TermDesk", name := "complete", desc := "(I)I" } : Jvm.MethodName)) ∈ lw_all := lw_g (lw_at lw_m5 73 rfl) rfl
theorem q1151 : (Jvm.Cond.selects "TermDesk" ({ cls := "TermDesk", name := "complete", desc := "(I)I" } : Jvm.MethodName) ({ cls := "TermDesk", name := "complete", desc := "(I)I" } : Jvm.MethodName)) ∈ lw_all := lw_g (lw_at lw_m5 74 rfl) rfl
theorem q1152 : (Jvm.Cond.code ({ cls := "TermDesk", name := "complete", desc := "(I)I" } : Jvm.MethodName) prog_1_method_88_code (8 : Nat) (Option.some Jvm.ClassFile.FieldType.int)) ∈ lw_all := lw_g (lw_at lw_m5 75 rfl) rfl
theorem q1153 : (Jvm.Cond.methodLink "TermDesk" (427 : Nat) ({ cls := "TermDesk", name := "free", desc := "(I)I" } : Jvm.MethodName)) ∈ lw_all := lw_g (lw_at lw_m5 76 rfl) rfl
theorem q1154 : (Jvm.Cond.privateMethod ({ cls := "TermDesk", name := "free", desc := "(I)I" } : Jvm.MethodName)) ∈ lw_tbl := lw_at lw_m5 77 rfl
theorem q1155 : (Jvm.Cond.instanceMethod ({ cls := "TermDesk", name := "free", desc := "(I)I" } : Jvm.MethodName)) ∈ lw_all := lw_g (lw_at lw_m5 78 rfl) rfl
theorem q1156 : (Jvm.Cond.code ({ cls := "TermDesk", name := "free", desc := "(I)I" } : Jvm.MethodName) prog_1_method_87_code (3 : Nat) (Option.some Jvm.ClassFile.FieldType.int)) ∈ lw_all := lw_g (lw_at lw_m5 79 rfl) rfl
theorem q1158 : (Jvm.Cond.instanceMethod ({ cls := "TermDesk", name := "order", desc := "(III)I" } : Jvm.MethodName)) ∈ lw_all := lw_g (lw_at lw_m5 81 rfl) rfl
theorem q1159 : (Jvm.Cond.selects "TermDesk" ({ cls := "TermDesk", name := "order", desc := "(III)I" } : Jvm.MethodName) ({ cls := "TermDesk", name := "order", desc := "(III)I" } : Jvm.MethodName)) ∈ lw_all := lw_g (lw_at lw_m5 82 rfl) rfl
theorem q1160 : (Jvm.Cond.code ({ cls := "TermDesk", name := "order", desc := "(III)I" } : Jvm.MethodName) prog_1_method_89_code (6 : Nat) (Option.some Jvm.ClassFile.FieldType.int)) ∈ lw_all := lw_g (lw_at lw_m5 83 rfl) rfl
theorem q1162 : (Jvm.Cond.instanceMethod ({ cls := "TermDesk", name := "undo", desc := "()Z" } : Jvm.MethodName)) ∈ lw_all := lw_g (lw_at lw_m5 85 rfl) rfl
theorem q1163 : (Jvm.Cond.selects "TermDesk" ({ cls := "TermDesk", name := "undo", desc := "()Z" } : Jvm.MethodName) ({ cls := "TermDesk", name := "undo", desc := "()Z" } : Jvm.MethodName)) ∈ lw_all := lw_g (lw_at lw_m5 86 rfl) rfl
theorem q1164 : (Jvm.Cond.code ({ cls := "TermDesk", name := "undo", desc := "()Z" } : Jvm.MethodName) prog_1_method_90_code (1 : Nat) (Option.some Jvm.ClassFile.FieldType.boolean)) ∈ lw_all := lw_g (lw_at lw_m5 87 rfl) rfl
theorem q1166 : (Jvm.Cond.instanceMethod ({ cls := "TermDesk", name := "size", desc := "(I)I" } : Jvm.MethodName)) ∈ lw_all := lw_g (lw_at lw_m5 89 rfl) rfl
theorem q1167 : (Jvm.Cond.selects "TermDesk" ({ cls := "TermDesk", name := "size", desc := "(I)I" } : Jvm.MethodName) ({ cls := "TermDesk", name := "size", desc := "(I)I" } : Jvm.MethodName)) ∈ lw_all := lw_g (lw_at lw_m5 90 rfl) rfl
theorem q1168 : (Jvm.Cond.code ({ cls := "TermDesk", name := "size", desc := "(I)I" } : Jvm.MethodName) prog_1_method_92_code (7 : Nat) (Option.some Jvm.ClassFile.FieldType.int)) ∈ lw_all := lw_g (lw_at lw_m5 91 rfl) rfl
theorem q1170 : (Jvm.Cond.instanceMethod ({ cls := "TermDesk", name := "trouble", desc := "()I" } : Jvm.MethodName)) ∈ lw_all := lw_g (lw_at lw_m5 93 rfl) rfl
theorem q1171 : (Jvm.Cond.selects "TermDesk" ({ cls := "TermDesk", name := "trouble", desc := "()I" } : Jvm.MethodName) ({ cls := "TermDesk", name := "trouble", desc := "()I" } : Jvm.MethodName)) ∈ lw_all := lw_g (lw_at lw_m5 94 rfl) rfl
theorem q1172 : (Jvm.Cond.code ({ cls := "TermDesk", name := "trouble", desc := "()I" } : Jvm.MethodName) prog_1_method_93_code (1 : Nat) (Option.some Jvm.ClassFile.FieldType.int)) ∈ lw_all := lw_g (lw_at lw_m5 95 rfl) rfl
theorem q1178 : (Jvm.Cond.instanceMethod ({ cls := "TermDesk", name := "constant", desc := "(I)I" } : Jvm.MethodName)) ∈ lw_all := lw_g (lw_at lw_m5 101 rfl) rfl
theorem q1179 : (Jvm.Cond.selects "TermDesk" ({ cls := "TermDesk", name := "constant", desc := "(I)I" } : Jvm.MethodName) ({ cls := "TermDesk", name := "constant", desc := "(I)I" } : Jvm.MethodName)) ∈ lw_all := lw_g (lw_at lw_m5 102 rfl) rfl
theorem q1180 : (Jvm.Cond.code ({ cls := "TermDesk", name := "constant", desc := "(I)I" } : Jvm.MethodName) prog_1_method_91_code (4 : Nat) (Option.some Jvm.ClassFile.FieldType.int)) ∈ lw_all := lw_g (lw_at lw_m5 103 rfl) rfl
theorem q1181 : (Jvm.Cond.classLink "TermDesk" (430 : Nat) "java/util/NoSuchElementException") ∈ lw_all := lw_g (lw_at lw_m5 104 rfl) rfl
theorem q1190 : (Jvm.Cond.methodLink "TermDesk" (432 : Nat) ({ cls := "java/util/NoSuchElementException", name := "<init>", desc := "()V" } : Jvm.MethodName)) ∈ lw_all := lw_g (lw_at lw_m5 113 rfl) rfl
theorem q1844 : (Jvm.Cond.castable "TermDesk" "java/lang/Object") ∈ lw_tbl := lw_at lw_m8 47 rfl
theorem in_X1 : ∀ w ∈ wsX10, w ∈ lw_all := lw_in wsX10 [413, 415, 417, 419, 421, 423, 425, 427, 429, 431, 433, 435, 437, 439, 441, 443, 445, 447, 449, 451, 453, 455, 457, 459, 461, 463] (by decide +kernel) (by decide +kernel)
