/-! TermDesk$Row -/
set_option maxRecDepth 100000
def RX2 : String := "TermDesk$Row"
def TX2 : u_T := fun k => match k with
  | 0 => ("TermDesk$Row", "at", "[I", true)
  | 1 => ("TermDesk$Row", "by", "[I", true)
  | _ => ("TermDesk$Row", "many", "I", false)
def tyX2 : Nat → FieldType := fun k => match k with
  | 0 => .array .int
  | 1 => .array .int
  | _ => .int
abbrev wsX20 : List Cond := u_ws RX2 TX2 3
theorem nmX2 : ∀ a, a < 3 → ∀ b, b < 3 → a ≠ b → (TX2 a).2.1 ≠ (TX2 b).2.1 := by decide +kernel
theorem tyX2_ok : ∀ k, k < 3 → parseFieldDescriptor (TX2 k).2.2.1 = some (tyX2 k) := by decide +kernel
abbrev cX2_init : ByteArray := prog_7_method_1_code
def yX2_init : MethodName := ⟨RX2, "<init>", "()V"⟩
def dkwX2_init_0 : List UInt8 := [42, 17, 16, 0, 183, 0, 1, 177]
abbrev dktX2_init_0 : List UInt8 := dkwX2_init_0 ++ []
theorem dksX2_init_0 : cX2_init.data.toList.drop 0 = dktX2_init_0 := by decide +kernel
theorem dX2_init_0 : decode cX2_init 0 = .ok (.aload_n 0, 1) := dk_42 (dk_at dksX2_init_0 0 rfl rfl)
theorem dX2_init_1 : decode cX2_init 1 = .ok (.sipush 4096, 3) := dk_17 16 0 (dk_at dksX2_init_0 1 rfl rfl)
theorem dX2_init_4 : decode cX2_init 4 = .ok (.invokespecial 1, 3) := dk_183 0 1 (dk_at dksX2_init_0 4 rfl rfl)
theorem dX2_init_7 : decode cX2_init 7 = .ok (.return_, 1) := dk_177 (dk_at dksX2_init_0 7 rfl rfl)
abbrev cX2_init_2 : ByteArray := prog_7_method_2_code
def yX2_init_2 : MethodName := ⟨RX2, "<init>", "(I)V"⟩
def dkwX2_init_2_0 : List UInt8 := [42, 183, 0, 7, 42, 27, 188, 10, 181, 0, 12, 42, 27, 188, 10, 181, 0, 16, 177]
abbrev dktX2_init_2_0 : List UInt8 := dkwX2_init_2_0 ++ []
theorem dksX2_init_2_0 : cX2_init_2.data.toList.drop 0 = dktX2_init_2_0 := by decide +kernel
theorem dX2_init_2_0 : decode cX2_init_2 0 = .ok (.aload_n 0, 1) := dk_42 (dk_at dksX2_init_2_0 0 rfl rfl)
theorem dX2_init_2_1 : decode cX2_init_2 1 = .ok (.invokespecial 7, 3) := dk_183 0 7 (dk_at dksX2_init_2_0 1 rfl rfl)
theorem dX2_init_2_4 : decode cX2_init_2 4 = .ok (.aload_n 0, 1) := dk_42 (dk_at dksX2_init_2_0 4 rfl rfl)
theorem dX2_init_2_5 : decode cX2_init_2 5 = .ok (.iload_n 1, 1) := dk_27 (dk_at dksX2_init_2_0 5 rfl rfl)
theorem dX2_init_2_6 : decode cX2_init_2 6 = .ok (.newarray .int, 2) := dk_188_10 (dk_at dksX2_init_2_0 6 rfl rfl)
theorem dX2_init_2_8 : decode cX2_init_2 8 = .ok (.putfield 12, 3) := dk_181 0 12 (dk_at dksX2_init_2_0 8 rfl rfl)
theorem dX2_init_2_11 : decode cX2_init_2 11 = .ok (.aload_n 0, 1) := dk_42 (dk_at dksX2_init_2_0 11 rfl rfl)
theorem dX2_init_2_12 : decode cX2_init_2 12 = .ok (.iload_n 1, 1) := dk_27 (dk_at dksX2_init_2_0 12 rfl rfl)
theorem dX2_init_2_13 : decode cX2_init_2 13 = .ok (.newarray .int, 2) := dk_188_10 (dk_at dksX2_init_2_0 13 rfl rfl)
theorem dX2_init_2_15 : decode cX2_init_2 15 = .ok (.putfield 16, 3) := dk_181 0 16 (dk_at dksX2_init_2_0 15 rfl rfl)
theorem dX2_init_2_18 : decode cX2_init_2 18 = .ok (.return_, 1) := dk_177 (dk_at dksX2_init_2_0 18 rfl rfl)
abbrev cX2_begins : ByteArray := prog_7_method_3_code
def yX2_begins : MethodName := ⟨RX2, "begins", "()LTermDesk$Row;"⟩
def dkwX2_begins_0 : List UInt8 := [42, 3, 181, 0, 19, 42, 176]
abbrev dktX2_begins_0 : List UInt8 := dkwX2_begins_0 ++ []
theorem dksX2_begins_0 : cX2_begins.data.toList.drop 0 = dktX2_begins_0 := by decide +kernel
theorem dX2_begins_0 : decode cX2_begins 0 = .ok (.aload_n 0, 1) := dk_42 (dk_at dksX2_begins_0 0 rfl rfl)
theorem dX2_begins_1 : decode cX2_begins 1 = .ok (.iconst 0, 1) := dk_3 (dk_at dksX2_begins_0 1 rfl rfl)
theorem dX2_begins_2 : decode cX2_begins 2 = .ok (.putfield 19, 3) := dk_181 0 19 (dk_at dksX2_begins_0 2 rfl rfl)
theorem dX2_begins_5 : decode cX2_begins 5 = .ok (.aload_n 0, 1) := dk_42 (dk_at dksX2_begins_0 5 rfl rfl)
theorem dX2_begins_6 : decode cX2_begins 6 = .ok (.areturn, 1) := dk_176 (dk_at dksX2_begins_0 6 rfl rfl)
abbrev cX2_add : ByteArray := prog_7_method_5_code
def yX2_add : MethodName := ⟨RX2, "add", "(II)V"⟩
def dkwX2_add_1 : List UInt8 := [79, 42, 89, 180, 0, 19, 4, 96, 181, 0, 19, 177]
abbrev dktX2_add_1 : List UInt8 := dkwX2_add_1 ++ []
def dkwX2_add_0 : List UInt8 := [28, 154, 0, 4, 177, 42, 180, 0, 12, 42, 180, 0, 19, 27, 79, 42, 180, 0, 16, 42, 180, 0, 19, 28]
abbrev dktX2_add_0 : List UInt8 := dkwX2_add_0 ++ dktX2_add_1
theorem dksX2_add_0 : cX2_add.data.toList.drop 0 = dktX2_add_0 := by decide +kernel
theorem dksX2_add_1 : cX2_add.data.toList.drop 24 = dktX2_add_1 := dk_seg dksX2_add_0 24 rfl rfl
theorem dX2_add_0 : decode cX2_add 0 = .ok (.iload_n 2, 1) := dk_28 (dk_at dksX2_add_0 0 rfl rfl)
theorem dX2_add_1 : decode cX2_add 1 = .ok (.ifCond .ne 4, 3) := dk_154 0 4 (dk_at dksX2_add_0 1 rfl rfl)
theorem dX2_add_4 : decode cX2_add 4 = .ok (.return_, 1) := dk_177 (dk_at dksX2_add_0 4 rfl rfl)
theorem dX2_add_5 : decode cX2_add 5 = .ok (.aload_n 0, 1) := dk_42 (dk_at dksX2_add_0 5 rfl rfl)
theorem dX2_add_6 : decode cX2_add 6 = .ok (.getfield 12, 3) := dk_180 0 12 (dk_at dksX2_add_0 6 rfl rfl)
theorem dX2_add_9 : decode cX2_add 9 = .ok (.aload_n 0, 1) := dk_42 (dk_at dksX2_add_0 9 rfl rfl)
theorem dX2_add_10 : decode cX2_add 10 = .ok (.getfield 19, 3) := dk_180 0 19 (dk_at dksX2_add_0 10 rfl rfl)
theorem dX2_add_13 : decode cX2_add 13 = .ok (.iload_n 1, 1) := dk_27 (dk_at dksX2_add_0 13 rfl rfl)
theorem dX2_add_14 : decode cX2_add 14 = .ok (.iastore, 1) := dk_79 (dk_at dksX2_add_0 14 rfl rfl)
theorem dX2_add_15 : decode cX2_add 15 = .ok (.aload_n 0, 1) := dk_42 (dk_at dksX2_add_0 15 rfl rfl)
theorem dX2_add_16 : decode cX2_add 16 = .ok (.getfield 16, 3) := dk_180 0 16 (dk_at dksX2_add_0 16 rfl rfl)
theorem dX2_add_19 : decode cX2_add 19 = .ok (.aload_n 0, 1) := dk_42 (dk_at dksX2_add_0 19 rfl rfl)
theorem dX2_add_20 : decode cX2_add 20 = .ok (.getfield 19, 3) := dk_180 0 19 (dk_at dksX2_add_0 20 rfl rfl)
theorem dX2_add_23 : decode cX2_add 23 = .ok (.iload_n 2, 1) := dk_28 (dk_at dksX2_add_0 23 rfl rfl)
theorem dX2_add_24 : decode cX2_add 24 = .ok (.iastore, 1) := dk_79 (dk_at dksX2_add_1 0 rfl rfl)
theorem dX2_add_25 : decode cX2_add 25 = .ok (.aload_n 0, 1) := dk_42 (dk_at dksX2_add_1 1 rfl rfl)
theorem dX2_add_26 : decode cX2_add 26 = .ok (.dup, 1) := dk_89 (dk_at dksX2_add_1 2 rfl rfl)
theorem dX2_add_27 : decode cX2_add 27 = .ok (.getfield 19, 3) := dk_180 0 19 (dk_at dksX2_add_1 3 rfl rfl)
theorem dX2_add_30 : decode cX2_add 30 = .ok (.iconst 1, 1) := dk_4 (dk_at dksX2_add_1 6 rfl rfl)
theorem dX2_add_31 : decode cX2_add 31 = .ok (.iadd, 1) := dk_96 (dk_at dksX2_add_1 7 rfl rfl)
theorem dX2_add_32 : decode cX2_add 32 = .ok (.putfield 19, 3) := dk_181 0 19 (dk_at dksX2_add_1 8 rfl rfl)
theorem dX2_add_35 : decode cX2_add 35 = .ok (.return_, 1) := dk_177 (dk_at dksX2_add_1 11 rfl rfl)
abbrev cX2_dropsFirst : ByteArray := prog_7_method_4_code
def yX2_dropsFirst : MethodName := ⟨RX2, "dropsFirst", "()V"⟩
def dkwX2_dropsFirst_1 : List UInt8 := [184, 0, 23, 42, 180, 0, 16, 4, 42, 180, 0, 16, 3, 42, 180, 0, 19, 184, 0, 23, 177]
abbrev dktX2_dropsFirst_1 : List UInt8 := dkwX2_dropsFirst_1 ++ []
def dkwX2_dropsFirst_0 : List UInt8 := [42, 89, 180, 0, 19, 4, 100, 181, 0, 19, 42, 180, 0, 12, 4, 42, 180, 0, 12, 3, 42, 180, 0, 19]
abbrev dktX2_dropsFirst_0 : List UInt8 := dkwX2_dropsFirst_0 ++ dktX2_dropsFirst_1
theorem dksX2_dropsFirst_0 : cX2_dropsFirst.data.toList.drop 0 = dktX2_dropsFirst_0 := by decide +kernel
theorem dksX2_dropsFirst_1 : cX2_dropsFirst.data.toList.drop 24 = dktX2_dropsFirst_1 := dk_seg dksX2_dropsFirst_0 24 rfl rfl
theorem dX2_dropsFirst_0 : decode cX2_dropsFirst 0 = .ok (.aload_n 0, 1) := dk_42 (dk_at dksX2_dropsFirst_0 0 rfl rfl)
theorem dX2_dropsFirst_1 : decode cX2_dropsFirst 1 = .ok (.dup, 1) := dk_89 (dk_at dksX2_dropsFirst_0 1 rfl rfl)
theorem dX2_dropsFirst_2 : decode cX2_dropsFirst 2 = .ok (.getfield 19, 3) := dk_180 0 19 (dk_at dksX2_dropsFirst_0 2 rfl rfl)
theorem dX2_dropsFirst_5 : decode cX2_dropsFirst 5 = .ok (.iconst 1, 1) := dk_4 (dk_at dksX2_dropsFirst_0 5 rfl rfl)
theorem dX2_dropsFirst_6 : decode cX2_dropsFirst 6 = .ok (.isub, 1) := dk_100 (dk_at dksX2_dropsFirst_0 6 rfl rfl)
theorem dX2_dropsFirst_7 : decode cX2_dropsFirst 7 = .ok (.putfield 19, 3) := dk_181 0 19 (dk_at dksX2_dropsFirst_0 7 rfl rfl)
theorem dX2_dropsFirst_10 : decode cX2_dropsFirst 10 = .ok (.aload_n 0, 1) := dk_42 (dk_at dksX2_dropsFirst_0 10 rfl rfl)
theorem dX2_dropsFirst_11 : decode cX2_dropsFirst 11 = .ok (.getfield 12, 3) := dk_180 0 12 (dk_at dksX2_dropsFirst_0 11 rfl rfl)
theorem dX2_dropsFirst_14 : decode cX2_dropsFirst 14 = .ok (.iconst 1, 1) := dk_4 (dk_at dksX2_dropsFirst_0 14 rfl rfl)
theorem dX2_dropsFirst_15 : decode cX2_dropsFirst 15 = .ok (.aload_n 0, 1) := dk_42 (dk_at dksX2_dropsFirst_0 15 rfl rfl)
theorem dX2_dropsFirst_16 : decode cX2_dropsFirst 16 = .ok (.getfield 12, 3) := dk_180 0 12 (dk_at dksX2_dropsFirst_0 16 rfl rfl)
theorem dX2_dropsFirst_19 : decode cX2_dropsFirst 19 = .ok (.iconst 0, 1) := dk_3 (dk_at dksX2_dropsFirst_0 19 rfl rfl)
theorem dX2_dropsFirst_20 : decode cX2_dropsFirst 20 = .ok (.aload_n 0, 1) := dk_42 (dk_at dksX2_dropsFirst_0 20 rfl rfl)
theorem dX2_dropsFirst_21 : decode cX2_dropsFirst 21 = .ok (.getfield 19, 3) := dk_180 0 19 (dk_at dksX2_dropsFirst_0 21 rfl rfl)
theorem dX2_dropsFirst_24 : decode cX2_dropsFirst 24 = .ok (.invokestatic 23, 3) := dk_184 0 23 (dk_at dksX2_dropsFirst_1 0 rfl rfl)
theorem dX2_dropsFirst_27 : decode cX2_dropsFirst 27 = .ok (.aload_n 0, 1) := dk_42 (dk_at dksX2_dropsFirst_1 3 rfl rfl)
theorem dX2_dropsFirst_28 : decode cX2_dropsFirst 28 = .ok (.getfield 16, 3) := dk_180 0 16 (dk_at dksX2_dropsFirst_1 4 rfl rfl)
theorem dX2_dropsFirst_31 : decode cX2_dropsFirst 31 = .ok (.iconst 1, 1) := dk_4 (dk_at dksX2_dropsFirst_1 7 rfl rfl)
theorem dX2_dropsFirst_32 : decode cX2_dropsFirst 32 = .ok (.aload_n 0, 1) := dk_42 (dk_at dksX2_dropsFirst_1 8 rfl rfl)
theorem dX2_dropsFirst_33 : decode cX2_dropsFirst 33 = .ok (.getfield 16, 3) := dk_180 0 16 (dk_at dksX2_dropsFirst_1 9 rfl rfl)
theorem dX2_dropsFirst_36 : decode cX2_dropsFirst 36 = .ok (.iconst 0, 1) := dk_3 (dk_at dksX2_dropsFirst_1 12 rfl rfl)
theorem dX2_dropsFirst_37 : decode cX2_dropsFirst 37 = .ok (.aload_n 0, 1) := dk_42 (dk_at dksX2_dropsFirst_1 13 rfl rfl)
theorem dX2_dropsFirst_38 : decode cX2_dropsFirst 38 = .ok (.getfield 19, 3) := dk_180 0 19 (dk_at dksX2_dropsFirst_1 14 rfl rfl)
theorem dX2_dropsFirst_41 : decode cX2_dropsFirst 41 = .ok (.invokestatic 23, 3) := dk_184 0 23 (dk_at dksX2_dropsFirst_1 17 rfl rfl)
theorem dX2_dropsFirst_44 : decode cX2_dropsFirst 44 = .ok (.return_, 1) := dk_177 (dk_at dksX2_dropsFirst_1 20 rfl rfl)
abbrev cX2_poly : ByteArray := prog_7_method_6_code
def yX2_poly : MethodName := ⟨RX2, "poly", "()LTermDesk$Poly;"⟩
def dkwX2_poly_1 : List UInt8 := [180, 0, 19, 184, 0, 31, 183, 0, 37, 176]
abbrev dktX2_poly_1 : List UInt8 := dkwX2_poly_1 ++ []
def dkwX2_poly_0 : List UInt8 := [187, 0, 29, 89, 42, 180, 0, 19, 42, 180, 0, 12, 42, 180, 0, 19, 184, 0, 31, 42, 180, 0, 16, 42]
abbrev dktX2_poly_0 : List UInt8 := dkwX2_poly_0 ++ dktX2_poly_1
theorem dksX2_poly_0 : cX2_poly.data.toList.drop 0 = dktX2_poly_0 := by decide +kernel
theorem dksX2_poly_1 : cX2_poly.data.toList.drop 24 = dktX2_poly_1 := dk_seg dksX2_poly_0 24 rfl rfl
theorem dX2_poly_0 : decode cX2_poly 0 = .ok (.new 29, 3) := dk_187 0 29 (dk_at dksX2_poly_0 0 rfl rfl)
theorem dX2_poly_3 : decode cX2_poly 3 = .ok (.dup, 1) := dk_89 (dk_at dksX2_poly_0 3 rfl rfl)
theorem dX2_poly_4 : decode cX2_poly 4 = .ok (.aload_n 0, 1) := dk_42 (dk_at dksX2_poly_0 4 rfl rfl)
theorem dX2_poly_5 : decode cX2_poly 5 = .ok (.getfield 19, 3) := dk_180 0 19 (dk_at dksX2_poly_0 5 rfl rfl)
theorem dX2_poly_8 : decode cX2_poly 8 = .ok (.aload_n 0, 1) := dk_42 (dk_at dksX2_poly_0 8 rfl rfl)
theorem dX2_poly_9 : decode cX2_poly 9 = .ok (.getfield 12, 3) := dk_180 0 12 (dk_at dksX2_poly_0 9 rfl rfl)
theorem dX2_poly_12 : decode cX2_poly 12 = .ok (.aload_n 0, 1) := dk_42 (dk_at dksX2_poly_0 12 rfl rfl)
theorem dX2_poly_13 : decode cX2_poly 13 = .ok (.getfield 19, 3) := dk_180 0 19 (dk_at dksX2_poly_0 13 rfl rfl)
theorem dX2_poly_16 : decode cX2_poly 16 = .ok (.invokestatic 31, 3) := dk_184 0 31 (dk_at dksX2_poly_0 16 rfl rfl)
theorem dX2_poly_19 : decode cX2_poly 19 = .ok (.aload_n 0, 1) := dk_42 (dk_at dksX2_poly_0 19 rfl rfl)
theorem dX2_poly_20 : decode cX2_poly 20 = .ok (.getfield 16, 3) := dk_180 0 16 (dk_at dksX2_poly_0 20 rfl rfl)
theorem dX2_poly_23 : decode cX2_poly 23 = .ok (.aload_n 0, 1) := dk_42 (dk_at dksX2_poly_0 23 rfl rfl)
theorem dX2_poly_24 : decode cX2_poly 24 = .ok (.getfield 19, 3) := dk_180 0 19 (dk_at dksX2_poly_1 0 rfl rfl)
theorem dX2_poly_27 : decode cX2_poly 27 = .ok (.invokestatic 31, 3) := dk_184 0 31 (dk_at dksX2_poly_1 3 rfl rfl)
theorem dX2_poly_30 : decode cX2_poly 30 = .ok (.invokespecial 37, 3) := dk_183 0 37 (dk_at dksX2_poly_1 6 rfl rfl)
theorem dX2_poly_33 : decode cX2_poly 33 = .ok (.areturn, 1) := dk_176 (dk_at dksX2_poly_1 9 rfl rfl)
theorem q119 : (Jvm.Cond.initialized "TermDesk$Row") ∈ lw_all := lw_g (lw_at lw_m1 2 rfl) rfl
theorem q148 : (Jvm.Cond.instantiable "TermDesk$Row" (3 : Nat)) ∈ lw_all := lw_g (lw_at lw_m1 31 rfl) rfl
theorem q150 : (Jvm.Cond.instanceMethod ({ cls := "TermDesk$Row", name := "<init>", desc := "()V" } : Jvm.MethodName)) ∈ lw_all := lw_g (lw_at lw_m1 33 rfl) rfl
theorem q151 : (Jvm.Cond.code ({ cls := "TermDesk$Row", name := "<init>", desc := "()V" } : Jvm.MethodName) prog_7_method_1_code (1 : Nat) (Option.none : Option Jvm.ClassFile.FieldType)) ∈ lw_all := lw_g (lw_at lw_m1 34 rfl) rfl
theorem q152 : (Jvm.Cond.methodLink "TermDesk$Row" (1 : Nat) ({ cls := "TermDesk$Row", name := "<init>", desc := "(I)V" } : Jvm.MethodName)) ∈ lw_all := lw_g (lw_at lw_m1 35 rfl) rfl
theorem q153 : (Jvm.Cond.instanceMethod ({ cls := "TermDesk$Row", name := "<init>", desc := "(I)V" } : Jvm.MethodName)) ∈ lw_all := lw_g (lw_at lw_m1 36 rfl) rfl
theorem q154 : (Jvm.Cond.code ({ cls := "TermDesk$Row", name := "<init>", desc := "(I)V" } : Jvm.MethodName) prog_7_method_2_code (2 : Nat) (Option.none : Option Jvm.ClassFile.FieldType)) ∈ lw_all := lw_g (lw_at lw_m1 37 rfl) rfl
theorem q155 : (Jvm.Cond.methodLink "TermDesk$Row" (7 : Nat) ({ cls := "java/lang/Object", name := "<init>", desc := "()V" } : Jvm.MethodName)) ∈ lw_all := lw_g (lw_at lw_m1 38 rfl) rfl
theorem q156 : (Jvm.Cond.fieldLink "TermDesk$Row" (12 : Nat) "TermDesk$Row" "at" "[I") ∈ lw_all := lw_g (lw_at lw_m1 39 rfl) rfl
theorem q158 : (Jvm.Cond.fieldLink "TermDesk$Row" (16 : Nat) "TermDesk$Row" "by" "[I") ∈ lw_all := lw_g (lw_at lw_m1 41 rfl) rfl
theorem q161 : (Jvm.Cond.fieldLink "TermDesk$Row" (19 : Nat) "TermDesk$Row" "many" "I") ∈ lw_all := lw_g (lw_at lw_m1 44 rfl) rfl
theorem q163 : (Jvm.Cond.laysFinal "TermDesk$Row" "TermDesk$Row" "at" "[I") ∈ lw_all := lw_g (lw_at lw_m1 46 rfl) rfl
theorem q164 : (Jvm.Cond.soleField "TermDesk$Row" "at") ∈ lw_all := lw_g (lw_at lw_m1 47 rfl) rfl
theorem q165 : (Jvm.Cond.laysFinal "TermDesk$Row" "TermDesk$Row" "by" "[I") ∈ lw_all := lw_g (lw_at lw_m1 48 rfl) rfl
theorem q166 : (Jvm.Cond.soleField "TermDesk$Row" "by") ∈ lw_all := lw_g (lw_at lw_m1 49 rfl) rfl
theorem q167 : (Jvm.Cond.lays "TermDesk$Row" "TermDesk$Row" "many" "I") ∈ lw_all := lw_g (lw_at lw_m1 50 rfl) rfl
theorem q168 : (Jvm.Cond.soleField "TermDesk$Row" "many") ∈ lw_all := lw_g (lw_at lw_m1 51 rfl) rfl
theorem q169 : (Jvm.Cond.superclass "TermDesk$Row" "java/lang/Object") ∈ lw_all := lw_g (lw_at lw_m1 52 rfl) rfl
theorem q905 : (Jvm.Cond.instanceMethod ({ cls := "TermDesk$Row", name := "begins", desc := "()LTermDesk$Row;" } : Jvm.MethodName)) ∈ lw_all := lw_g (lw_at lw_m4 68 rfl) rfl
theorem q906 : (Jvm.Cond.selects "TermDesk$Row" ({ cls := "TermDesk$Row", name := "begins", desc := "()LTermDesk$Row;" } : Jvm.MethodName) ({ cls := "TermDesk$Row", name := "begins", desc := "()LTermDesk$Row;" } : Jvm.MethodName)) ∈ lw_all := lw_g (lw_at lw_m4 69 rfl) rfl
theorem q907 : (Jvm.Cond.code ({ cls := "TermDesk$Row", name := "begins", desc := "()LTermDesk$Row;" } : Jvm.MethodName) prog_7_method_3_code (1 : Nat) (Option.some (Jvm.ClassFile.FieldType.object "TermDesk$Row"))) ∈ lw_all := lw_g (lw_at lw_m4 70 rfl) rfl
theorem q909 : (Jvm.Cond.instanceMethod ({ cls := "TermDesk$Row", name := "add", desc := "(II)V" } : Jvm.MethodName)) ∈ lw_all := lw_g (lw_at lw_m4 72 rfl) rfl
theorem q910 : (Jvm.Cond.selects "TermDesk$Row" ({ cls := "TermDesk$Row", name := "add", desc := "(II)V" } : Jvm.MethodName) ({ cls := "TermDesk$Row", name := "add", desc := "(II)V" } : Jvm.MethodName)) ∈ lw_all := lw_g (lw_at lw_m4 73 rfl) rfl
theorem q911 : (Jvm.Cond.code ({ cls := "TermDesk$Row", name := "add", desc := "(II)V" } : Jvm.MethodName) prog_7_method_5_code (3 : Nat) (Option.none : Option Jvm.ClassFile.FieldType)) ∈ lw_all := lw_g (lw_at lw_m4 74 rfl) rfl
theorem q924 : (Jvm.Cond.instanceMethod ({ cls := "TermDesk$Row", name := "dropsFirst", desc := "()V" } : Jvm.MethodName)) ∈ lw_all := lw_g (lw_at lw_m4 87 rfl) rfl
theorem q925 : (Jvm.Cond.selects "TermDesk$Row" ({ cls := "TermDesk$Row", name := "dropsFirst", desc := "()V" } : Jvm.MethodName) ({ cls := "TermDesk$Row", name := "dropsFirst", desc := "()V" } : Jvm.MethodName)) ∈ lw_all := lw_g (lw_at lw_m4 88 rfl) rfl
theorem q926 : (Jvm.Cond.code ({ cls := "TermDesk$Row", name := "dropsFirst", desc := "()V" } : Jvm.MethodName) prog_7_method_4_code (1 : Nat) (Option.none : Option Jvm.ClassFile.FieldType)) ∈ lw_all := lw_g (lw_at lw_m4 89 rfl) rfl
theorem q927 : (Jvm.Cond.methodLink "TermDesk$Row" (23 : Nat) ({ cls := "java/lang/System", name := "arraycopy", desc := "(Ljava/lang/Object;ILjava/lang/Object;II)V" } : Jvm.MethodName)) ∈ lw_all := lw_g (lw_at lw_m4 90 rfl) rfl
theorem q972 : (Jvm.Cond.instanceMethod ({ cls := "TermDesk$Row", name := "poly", desc := "()LTermDesk$Poly;" } : Jvm.MethodName)) ∈ lw_all := lw_g (lw_at lw_m4 135 rfl) rfl
theorem q973 : (Jvm.Cond.selects "TermDesk$Row" ({ cls := "TermDesk$Row", name := "poly", desc := "()LTermDesk$Poly;" } : Jvm.MethodName) ({ cls := "TermDesk$Row", name := "poly", desc := "()LTermDesk$Poly;" } : Jvm.MethodName)) ∈ lw_all := lw_g (lw_at lw_m4 136 rfl) rfl
theorem q974 : (Jvm.Cond.code ({ cls := "TermDesk$Row", name := "poly", desc := "()LTermDesk$Poly;" } : Jvm.MethodName) prog_7_method_6_code (1 : Nat) (Option.some (Jvm.ClassFile.FieldType.object "TermDesk$Poly"))) ∈ lw_all := lw_g (lw_at lw_m4 137 rfl) rfl
theorem q975 : (Jvm.Cond.classLink "TermDesk$Row" (29 : Nat) "TermDesk$Poly") ∈ lw_all := lw_g (lw_at lw_m4 138 rfl) rfl
theorem q976 : (Jvm.Cond.methodLink "TermDesk$Row" (31 : Nat) ({ cls := "java/util/Arrays", name := "copyOf", desc := "([II)[I" } : Jvm.MethodName)) ∈ lw_all := lw_g (lw_at lw_m4 139 rfl) rfl
theorem q990 : (Jvm.Cond.methodLink "TermDesk$Row" (37 : Nat) ({ cls := "TermDesk$Poly", name := "<init>", desc := "(I[I[I)V" } : Jvm.MethodName)) ∈ lw_all := lw_g (lw_at lw_m4 153 rfl) rfl
theorem q1845 : (Jvm.Cond.castable "TermDesk$Row" "java/lang/Object") ∈ lw_tbl := lw_at lw_m8 48 rfl
theorem in_X2 : ∀ w ∈ wsX20, w ∈ lw_all := lw_in wsX20 [163, 165, 167] (by decide +kernel) (by decide +kernel)

/-! TermDesk$Division -/
set_option maxRecDepth 100000
def RX3 : String := "TermDesk$Division"
def TX3 : u_T := fun k => match k with
  | 0 => ("TermDesk$Division", "quotients", "[LTermDesk$Row;", true)
  | 1 => ("TermDesk$Division", "rest", "LTermDesk$Row;", true)
  | 2 => ("TermDesk$Division", "left", "LTermDesk$Row;", false)
  | 3 => ("TermDesk$Division", "next", "LTermDesk$Row;", false)
  | 4 => ("TermDesk$Division", "set", "I", false)
  | 5 => ("TermDesk$Division", "steps", "I", false)
  | 6 => ("TermDesk$Division", "most", "I", false)
  | 7 => ("TermDesk$Division", "isRoom", "Z", false)
  | _ => ("TermDesk$Division", "this$0", "LTermDesk;", true)
def tyX3 : Nat → FieldType := fun k => match k with
  | 0 => .array (.object "TermDesk$Row")
  | 1 => .object "TermDesk$Row"
  | 2 => .object "TermDesk$Row"
  | 3 => .object "TermDesk$Row"
  | 4 => .int
  | 5 => .int
  | 6 => .int
  | 7 => .boolean
  | _ => .object "TermDesk"
abbrev wsX30 : List Cond := u_ws RX3 TX3 9
theorem nmX3 : ∀ a, a < 9 → ∀ b, b < 9 → a ≠ b → (TX3 a).2.1 ≠ (TX3 b).2.1 := by decide +kernel
theorem tyX3_ok : ∀ k, k < 9 → parseFieldDescriptor (TX3 k).2.2.1 = some (tyX3 k) := by decide +kernel
abbrev cX3_init : ByteArray := prog_2_method_1_code
def yX3_init : MethodName := ⟨RX3, "<init>", "(LTermDesk;)V"⟩
def dkwX3_init_3 : List UInt8 := [28, 187, 0, 15, 89, 16, 61, 183, 0, 21, 83, 132, 2, 1, 167, 255, 232, 177]
abbrev dktX3_init_3 : List UInt8 := dkwX3_init_3 ++ []
def dkwX3_init_2 : List UInt8 := [187, 0, 15, 89, 16, 122, 183, 0, 21, 181, 0, 31, 3, 61, 28, 16, 8, 162, 0, 24, 42, 180, 0, 17]
abbrev dktX3_init_2 : List UInt8 := dkwX3_init_2 ++ dktX3_init_3
def dkwX3_init_1 : List UInt8 := [16, 61, 183, 0, 21, 181, 0, 24, 42, 187, 0, 15, 89, 16, 122, 183, 0, 21, 181, 0, 28, 42]
abbrev dktX3_init_1 : List UInt8 := dkwX3_init_1 ++ dktX3_init_2
def dkwX3_init_0 : List UInt8 := [42, 43, 181, 0, 3, 42, 183, 0, 9, 42, 16, 8, 189, 0, 15, 181, 0, 17, 42, 187, 0, 15, 89]
abbrev dktX3_init_0 : List UInt8 := dkwX3_init_0 ++ dktX3_init_1
theorem dksX3_init_0 : cX3_init.data.toList.drop 0 = dktX3_init_0 := by decide +kernel
theorem dksX3_init_1 : cX3_init.data.toList.drop 23 = dktX3_init_1 := dk_seg dksX3_init_0 23 rfl rfl
theorem dksX3_init_2 : cX3_init.data.toList.drop 45 = dktX3_init_2 := dk_seg dksX3_init_1 22 rfl rfl
theorem dksX3_init_3 : cX3_init.data.toList.drop 69 = dktX3_init_3 := dk_seg dksX3_init_2 24 rfl rfl
theorem dX3_init_0 : decode cX3_init 0 = .ok (.aload_n 0, 1) := dk_42 (dk_at dksX3_init_0 0 rfl rfl)
theorem dX3_init_1 : decode cX3_init 1 = .ok (.aload_n 1, 1) := dk_43 (dk_at dksX3_init_0 1 rfl rfl)
theorem dX3_init_2 : decode cX3_init 2 = .ok (.putfield 3, 3) := dk_181 0 3 (dk_at dksX3_init_0 2 rfl rfl)
theorem dX3_init_5 : decode cX3_init 5 = .ok (.aload_n 0, 1) := dk_42 (dk_at dksX3_init_0 5 rfl rfl)
theorem dX3_init_6 : decode cX3_init 6 = .ok (.invokespecial 9, 3) := dk_183 0 9 (dk_at dksX3_init_0 6 rfl rfl)
theorem dX3_init_9 : decode cX3_init 9 = .ok (.aload_n 0, 1) := dk_42 (dk_at dksX3_init_0 9 rfl rfl)
theorem dX3_init_10 : decode cX3_init 10 = .ok (.bipush 8, 2) := dk_16 8 (dk_at dksX3_init_0 10 rfl rfl)
theorem dX3_init_12 : decode cX3_init 12 = .ok (.anewarray 15, 3) := dk_189 0 15 (dk_at dksX3_init_0 12 rfl rfl)
theorem dX3_init_15 : decode cX3_init 15 = .ok (.putfield 17, 3) := dk_181 0 17 (dk_at dksX3_init_0 15 rfl rfl)
theorem dX3_init_18 : decode cX3_init 18 = .ok (.aload_n 0, 1) := dk_42 (dk_at dksX3_init_0 18 rfl rfl)
theorem dX3_init_19 : decode cX3_init 19 = .ok (.new 15, 3) := dk_187 0 15 (dk_at dksX3_init_0 19 rfl rfl)
theorem dX3_init_22 : decode cX3_init 22 = .ok (.dup, 1) := dk_89 (dk_at dksX3_init_0 22 rfl rfl)
theorem dX3_init_23 : decode cX3_init 23 = .ok (.bipush 61, 2) := dk_16 61 (dk_at dksX3_init_1 0 rfl rfl)
theorem dX3_init_25 : decode cX3_init 25 = .ok (.invokespecial 21, 3) := dk_183 0 21 (dk_at dksX3_init_1 2 rfl rfl)
theorem dX3_init_28 : decode cX3_init 28 = .ok (.putfield 24, 3) := dk_181 0 24 (dk_at dksX3_init_1 5 rfl rfl)
theorem dX3_init_31 : decode cX3_init 31 = .ok (.aload_n 0, 1) := dk_42 (dk_at dksX3_init_1 8 rfl rfl)
theorem dX3_init_32 : decode cX3_init 32 = .ok (.new 15, 3) := dk_187 0 15 (dk_at dksX3_init_1 9 rfl rfl)
theorem dX3_init_35 : decode cX3_init 35 = .ok (.dup, 1) := dk_89 (dk_at dksX3_init_1 12 rfl rfl)
theorem dX3_init_36 : decode cX3_init 36 = .ok (.bipush 122, 2) := dk_16 122 (dk_at dksX3_init_1 13 rfl rfl)
theorem dX3_init_38 : decode cX3_init 38 = .ok (.invokespecial 21, 3) := dk_183 0 21 (dk_at dksX3_init_1 15 rfl rfl)
theorem dX3_init_41 : decode cX3_init 41 = .ok (.putfield 28, 3) := dk_181 0 28 (dk_at dksX3_init_1 18 rfl rfl)
theorem dX3_init_44 : decode cX3_init 44 = .ok (.aload_n 0, 1) := dk_42 (dk_at dksX3_init_1 21 rfl rfl)
theorem dX3_init_45 : decode cX3_init 45 = .ok (.new 15, 3) := dk_187 0 15 (dk_at dksX3_init_2 0 rfl rfl)
theorem dX3_init_48 : decode cX3_init 48 = .ok (.dup, 1) := dk_89 (dk_at dksX3_init_2 3 rfl rfl)
theorem dX3_init_49 : decode cX3_init 49 = .ok (.bipush 122, 2) := dk_16 122 (dk_at dksX3_init_2 4 rfl rfl)
theorem dX3_init_51 : decode cX3_init 51 = .ok (.invokespecial 21, 3) := dk_183 0 21 (dk_at dksX3_init_2 6 rfl rfl)
theorem dX3_init_54 : decode cX3_init 54 = .ok (.putfield 31, 3) := dk_181 0 31 (dk_at dksX3_init_2 9 rfl rfl)
theorem dX3_init_57 : decode cX3_init 57 = .ok (.iconst 0, 1) := dk_3 (dk_at dksX3_init_2 12 rfl rfl)
theorem dX3_init_58 : decode cX3_init 58 = .ok (.istore_n 2, 1) := dk_61 (dk_at dksX3_init_2 13 rfl rfl)
theorem dX3_init_59 : decode cX3_init 59 = .ok (.iload_n 2, 1) := dk_28 (dk_at dksX3_init_2 14 rfl rfl)
theorem dX3_init_60 : decode cX3_init 60 = .ok (.bipush 8, 2) := dk_16 8 (dk_at dksX3_init_2 15 rfl rfl)
theorem dX3_init_62 : decode cX3_init 62 = .ok (.if_icmp .ge 24, 3) := dk_162 0 24 (dk_at dksX3_init_2 17 rfl rfl)
theorem dX3_init_65 : decode cX3_init 65 = .ok (.aload_n 0, 1) := dk_42 (dk_at dksX3_init_2 20 rfl rfl)
theorem dX3_init_66 : decode cX3_init 66 = .ok (.getfield 17, 3) := dk_180 0 17 (dk_at dksX3_init_2 21 rfl rfl)
theorem dX3_init_69 : decode cX3_init 69 = .ok (.iload_n 2, 1) := dk_28 (dk_at dksX3_init_3 0 rfl rfl)
theorem dX3_init_70 : decode cX3_init 70 = .ok (.new 15, 3) := dk_187 0 15 (dk_at dksX3_init_3 1 rfl rfl)
theorem dX3_init_73 : decode cX3_init 73 = .ok (.dup, 1) := dk_89 (dk_at dksX3_init_3 4 rfl rfl)
theorem dX3_init_74 : decode cX3_init 74 = .ok (.bipush 61, 2) := dk_16 61 (dk_at dksX3_init_3 5 rfl rfl)
theorem dX3_init_76 : decode cX3_init 76 = .ok (.invokespecial 21, 3) := dk_183 0 21 (dk_at dksX3_init_3 7 rfl rfl)
theorem dX3_init_79 : decode cX3_init 79 = .ok (.aastore, 1) := dk_83 (dk_at dksX3_init_3 10 rfl rfl)
theorem dX3_init_80 : decode cX3_init 80 = .ok (.iinc 2 1, 3) := dk_132 2 1 (dk_at dksX3_init_3 11 rfl rfl)
theorem dX3_init_83 : decode cX3_init 83 = .ok (.goto (-24), 3) := dk_167 255 232 (dk_at dksX3_init_3 14 rfl rfl)
theorem dX3_init_86 : decode cX3_init 86 = .ok (.return_, 1) := dk_177 (dk_at dksX3_init_3 17 rfl rfl)
abbrev cX3_done : ByteArray := prog_2_method_2_code
def yX3_done : MethodName := ⟨RX3, "done", "(LTermDesk$Poly;I)LTermDesk$Division;"⟩
def dkwX3_done_6 : List UInt8 := [3, 181, 0, 49, 167, 255, 224, 42, 182, 0, 69, 167, 255, 217, 42, 176]
abbrev dktX3_done_6 : List UInt8 := dkwX3_done_6 ++ []
def dkwX3_done_5 : List UInt8 := [153, 0, 38, 42, 180, 0, 28, 180, 0, 68, 158, 0, 28, 42, 180, 0, 38, 17, 1, 244, 160, 0, 11, 42]
abbrev dktX3_done_5 : List UInt8 := dkwX3_done_5 ++ dktX3_done_6
def dkwX3_done_4 : List UInt8 := [180, 0, 57, 29, 46, 43, 180, 0, 61, 29, 46, 182, 0, 64, 132, 3, 1, 167, 255, 226, 42, 180, 0, 49]
abbrev dktX3_done_4 : List UInt8 := dkwX3_done_4 ++ dktX3_done_5
def dkwX3_done_3 : List UInt8 := [180, 0, 28, 182, 0, 53, 87, 3, 62, 29, 43, 180, 0, 41, 162, 0, 28, 42, 180, 0, 28, 43]
abbrev dktX3_done_3 : List UInt8 := dkwX3_done_3 ++ dktX3_done_4
def dkwX3_done_2 : List UInt8 := [162, 0, 21, 45, 21, 5, 50, 58, 6, 25, 6, 182, 0, 53, 87, 132, 5, 1, 167, 255, 234, 42]
abbrev dktX3_done_2 : List UInt8 := dkwX3_done_2 ++ dktX3_done_3
def dkwX3_done_1 : List UInt8 := [180, 0, 24, 182, 0, 53, 87, 42, 180, 0, 17, 78, 45, 190, 54, 4, 3, 54, 5, 21, 5, 21, 4]
abbrev dktX3_done_1 : List UInt8 := dkwX3_done_1 ++ dktX3_done_2
def dkwX3_done_0 : List UInt8 := [42, 28, 181, 0, 34, 42, 3, 181, 0, 38, 42, 43, 180, 0, 41, 181, 0, 46, 42, 4, 181, 0, 49, 42]
abbrev dktX3_done_0 : List UInt8 := dkwX3_done_0 ++ dktX3_done_1
theorem dksX3_done_0 : cX3_done.data.toList.drop 0 = dktX3_done_0 := by decide +kernel
theorem dksX3_done_1 : cX3_done.data.toList.drop 24 = dktX3_done_1 := dk_seg dksX3_done_0 24 rfl rfl
theorem dksX3_done_2 : cX3_done.data.toList.drop 47 = dktX3_done_2 := dk_seg dksX3_done_1 23 rfl rfl
theorem dksX3_done_3 : cX3_done.data.toList.drop 69 = dktX3_done_3 := dk_seg dksX3_done_2 22 rfl rfl
theorem dksX3_done_4 : cX3_done.data.toList.drop 91 = dktX3_done_4 := dk_seg dksX3_done_3 22 rfl rfl
theorem dksX3_done_5 : cX3_done.data.toList.drop 115 = dktX3_done_5 := dk_seg dksX3_done_4 24 rfl rfl
theorem dksX3_done_6 : cX3_done.data.toList.drop 139 = dktX3_done_6 := dk_seg dksX3_done_5 24 rfl rfl
theorem dX3_done_0 : decode cX3_done 0 = .ok (.aload_n 0, 1) := dk_42 (dk_at dksX3_done_0 0 rfl rfl)
theorem dX3_done_1 : decode cX3_done 1 = .ok (.iload_n 2, 1) := dk_28 (dk_at dksX3_done_0 1 rfl rfl)
theorem dX3_done_2 : decode cX3_done 2 = .ok (.putfield 34, 3) := dk_181 0 34 (dk_at dksX3_done_0 2 rfl rfl)
theorem dX3_done_5 : decode cX3_done 5 = .ok (.aload_n 0, 1) := dk_42 (dk_at dksX3_done_0 5 rfl rfl)
theorem dX3_done_6 : decode cX3_done 6 = .ok (.iconst 0, 1) := dk_3 (dk_at dksX3_done_0 6 rfl rfl)
theorem dX3_done_7 : decode cX3_done 7 = .ok (.putfield 38, 3) := dk_181 0 38 (dk_at dksX3_done_0 7 rfl rfl)
theorem dX3_done_10 : decode cX3_done 10 = .ok (.aload_n 0, 1) := dk_42 (dk_at dksX3_done_0 10 rfl rfl)
theorem dX3_done_11 : decode cX3_done 11 = .ok (.aload_n 1, 1) := dk_43 (dk_at dksX3_done_0 11 rfl rfl)
theorem dX3_done_12 : decode cX3_done 12 = .ok (.getfield 41, 3) := dk_180 0 41 (dk_at dksX3_done_0 12 rfl rfl)
theorem dX3_done_15 : decode cX3_done 15 = .ok (.putfield 46, 3) := dk_181 0 46 (dk_at dksX3_done_0 15 rfl rfl)
theorem dX3_done_18 : decode cX3_done 18 = .ok (.aload_n 0, 1) := dk_42 (dk_at dksX3_done_0 18 rfl rfl)
theorem dX3_done_19 : decode cX3_done 19 = .ok (.iconst 1, 1) := dk_4 (dk_at dksX3_done_0 19 rfl rfl)
theorem dX3_done_20 : decode cX3_done 20 = .ok (.putfield 49, 3) := dk_181 0 49 (dk_at dksX3_done_0 20 rfl rfl)
theorem dX3_done_23 : decode cX3_done 23 = .ok (.aload_n 0, 1) := dk_42 (dk_at dksX3_done_0 23 rfl rfl)
theorem dX3_done_24 : decode cX3_done 24 = .ok (.getfield 24, 3) := dk_180 0 24 (dk_at dksX3_done_1 0 rfl rfl)
theorem dX3_done_27 : decode cX3_done 27 = .ok (.invokevirtual 53, 3) := dk_182 0 53 (dk_at dksX3_done_1 3 rfl rfl)
theorem dX3_done_30 : decode cX3_done 30 = .ok (.pop, 1) := dk_87 (dk_at dksX3_done_1 6 rfl rfl)
theorem dX3_done_31 : decode cX3_done 31 = .ok (.aload_n 0, 1) := dk_42 (dk_at dksX3_done_1 7 rfl rfl)
theorem dX3_done_32 : decode cX3_done 32 = .ok (.getfield 17, 3) := dk_180 0 17 (dk_at dksX3_done_1 8 rfl rfl)
theorem dX3_done_35 : decode cX3_done 35 = .ok (.astore_n 3, 1) := dk_78 (dk_at dksX3_done_1 11 rfl rfl)
theorem dX3_done_36 : decode cX3_done 36 = .ok (.aload_n 3, 1) := dk_45 (dk_at dksX3_done_1 12 rfl rfl)
theorem dX3_done_37 : decode cX3_done 37 = .ok (.arraylength, 1) := dk_190 (dk_at dksX3_done_1 13 rfl rfl)
theorem dX3_done_38 : decode cX3_done 38 = .ok (.istore 4, 2) := dk_54 4 (dk_at dksX3_done_1 14 rfl rfl)
theorem dX3_done_40 : decode cX3_done 40 = .ok (.iconst 0, 1) := dk_3 (dk_at dksX3_done_1 16 rfl rfl)
theorem dX3_done_41 : decode cX3_done 41 = .ok (.istore 5, 2) := dk_54 5 (dk_at dksX3_done_1 17 rfl rfl)
theorem dX3_done_43 : decode cX3_done 43 = .ok (.iload 5, 2) := dk_21 5 (dk_at dksX3_done_1 19 rfl rfl)
theorem dX3_done_45 : decode cX3_done 45 = .ok (.iload 4, 2) := dk_21 4 (dk_at dksX3_done_1 21 rfl rfl)
theorem dX3_done_47 : decode cX3_done 47 = .ok (.if_icmp .ge 21, 3) := dk_162 0 21 (dk_at dksX3_done_2 0 rfl rfl)
theorem dX3_done_50 : decode cX3_done 50 = .ok (.aload_n 3, 1) := dk_45 (dk_at dksX3_done_2 3 rfl rfl)
theorem dX3_done_51 : decode cX3_done 51 = .ok (.iload 5, 2) := dk_21 5 (dk_at dksX3_done_2 4 rfl rfl)
theorem dX3_done_53 : decode cX3_done 53 = .ok (.aaload, 1) := dk_50 (dk_at dksX3_done_2 6 rfl rfl)
theorem dX3_done_54 : decode cX3_done 54 = .ok (.astore 6, 2) := dk_58 6 (dk_at dksX3_done_2 7 rfl rfl)
theorem dX3_done_56 : decode cX3_done 56 = .ok (.aload 6, 2) := dk_25 6 (dk_at dksX3_done_2 9 rfl rfl)
theorem dX3_done_58 : decode cX3_done 58 = .ok (.invokevirtual 53, 3) := dk_182 0 53 (dk_at dksX3_done_2 11 rfl rfl)
theorem dX3_done_61 : decode cX3_done 61 = .ok (.pop, 1) := dk_87 (dk_at dksX3_done_2 14 rfl rfl)
theorem dX3_done_62 : decode cX3_done 62 = .ok (.iinc 5 1, 3) := dk_132 5 1 (dk_at dksX3_done_2 15 rfl rfl)
theorem dX3_done_65 : decode cX3_done 65 = .ok (.goto (-22), 3) := dk_167 255 234 (dk_at dksX3_done_2 18 rfl rfl)
theorem dX3_done_68 : decode cX3_done 68 = .ok (.aload_n 0, 1) := dk_42 (dk_at dksX3_done_2 21 rfl rfl)
theorem dX3_done_69 : decode cX3_done 69 = .ok (.getfield 28, 3) := dk_180 0 28 (dk_at dksX3_done_3 0 rfl rfl)
theorem dX3_done_72 : decode cX3_done 72 = .ok (.invokevirtual 53, 3) := dk_182 0 53 (dk_at dksX3_done_3 3 rfl rfl)
theorem dX3_done_75 : decode cX3_done 75 = .ok (.pop, 1) := dk_87 (dk_at dksX3_done_3 6 rfl rfl)
theorem dX3_done_76 : decode cX3_done 76 = .ok (.iconst 0, 1) := dk_3 (dk_at dksX3_done_3 7 rfl rfl)
theorem dX3_done_77 : decode cX3_done 77 = .ok (.istore_n 3, 1) := dk_62 (dk_at dksX3_done_3 8 rfl rfl)
theorem dX3_done_78 : decode cX3_done 78 = .ok (.iload_n 3, 1) := dk_29 (dk_at dksX3_done_3 9 rfl rfl)
theorem dX3_done_79 : decode cX3_done 79 = .ok (.aload_n 1, 1) := dk_43 (dk_at dksX3_done_3 10 rfl rfl)
theorem dX3_done_80 : decode cX3_done 80 = .ok (.getfield 41, 3) := dk_180 0 41 (dk_at dksX3_done_3 11 rfl rfl)
theorem dX3_done_83 : decode cX3_done 83 = .ok (.if_icmp .ge 28, 3) := dk_162 0 28 (dk_at dksX3_done_3 14 rfl rfl)
theorem dX3_done_86 : decode cX3_done 86 = .ok (.aload_n 0, 1) := dk_42 (dk_at dksX3_done_3 17 rfl rfl)
theorem dX3_done_87 : decode cX3_done 87 = .ok (.getfield 28, 3) := dk_180 0 28 (dk_at dksX3_done_3 18 rfl rfl)
theorem dX3_done_90 : decode cX3_done 90 = .ok (.aload_n 1, 1) := dk_43 (dk_at dksX3_done_3 21 rfl rfl)
theorem dX3_done_91 : decode cX3_done 91 = .ok (.getfield 57, 3) := dk_180 0 57 (dk_at dksX3_done_4 0 rfl rfl)
theorem dX3_done_94 : decode cX3_done 94 = .ok (.iload_n 3, 1) := dk_29 (dk_at dksX3_done_4 3 rfl rfl)
theorem dX3_done_95 : decode cX3_done 95 = .ok (.iaload, 1) := dk_46 (dk_at dksX3_done_4 4 rfl rfl)
theorem dX3_done_96 : decode cX3_done 96 = .ok (.aload_n 1, 1) := dk_43 (dk_at dksX3_done_4 5 rfl rfl)
theorem dX3_done_97 : decode cX3_done 97 = .ok (.getfield 61, 3) := dk_180 0 61 (dk_at dksX3_done_4 6 rfl rfl)
theorem dX3_done_100 : decode cX3_done 100 = .ok (.iload_n 3, 1) := dk_29 (dk_at dksX3_done_4 9 rfl rfl)
theorem dX3_done_101 : decode cX3_done 101 = .ok (.iaload, 1) := dk_46 (dk_at dksX3_done_4 10 rfl rfl)
theorem dX3_done_102 : decode cX3_done 102 = .ok (.invokevirtual 64, 3) := dk_182 0 64 (dk_at dksX3_done_4 11 rfl rfl)
theorem dX3_done_105 : decode cX3_done 105 = .ok (.iinc 3 1, 3) := dk_132 3 1 (dk_at dksX3_done_4 14 rfl rfl)
theorem dX3_done_108 : decode cX3_done 108 = .ok (.goto (-30), 3) := dk_167 255 226 (dk_at dksX3_done_4 17 rfl rfl)
theorem dX3_done_111 : decode cX3_done 111 = .ok (.aload_n 0, 1) := dk_42 (dk_at dksX3_done_4 20 rfl rfl)
theorem dX3_done_112 : decode cX3_done 112 = .ok (.getfield 49, 3) := dk_180 0 49 (dk_at dksX3_done_4 21 rfl rfl)
theorem dX3_done_115 : decode cX3_done 115 = .ok (.ifCond .eq 38, 3) := dk_153 0 38 (dk_at dksX3_done_5 0 rfl rfl)
theorem dX3_done_118 : decode cX3_done 118 = .ok (.aload_n 0, 1) := dk_42 (dk_at dksX3_done_5 3 rfl rfl)
theorem dX3_done_119 : decode cX3_done 119 = .ok (.getfield 28, 3) := dk_180 0 28 (dk_at dksX3_done_5 4 rfl rfl)
theorem dX3_done_122 : decode cX3_done 122 = .ok (.getfield 68, 3) := dk_180 0 68 (dk_at dksX3_done_5 7 rfl rfl)
theorem dX3_done_125 : decode cX3_done 125 = .ok (.ifCond .le 28, 3) := dk_158 0 28 (dk_at dksX3_done_5 10 rfl rfl)
theorem dX3_done_128 : decode cX3_done 128 = .ok (.aload_n 0, 1) := dk_42 (dk_at dksX3_done_5 13 rfl rfl)
theorem dX3_done_129 : decode cX3_done 129 = .ok (.getfield 38, 3) := dk_180 0 38 (dk_at dksX3_done_5 14 rfl rfl)
theorem dX3_done_132 : decode cX3_done 132 = .ok (.sipush 500, 3) := dk_17 1 244 (dk_at dksX3_done_5 17 rfl rfl)
theorem dX3_done_135 : decode cX3_done 135 = .ok (.if_icmp .ne 11, 3) := dk_160 0 11 (dk_at dksX3_done_5 20 rfl rfl)
theorem dX3_done_138 : decode cX3_done 138 = .ok (.aload_n 0, 1) := dk_42 (dk_at dksX3_done_5 23 rfl rfl)
theorem dX3_done_139 : decode cX3_done 139 = .ok (.iconst 0, 1) := dk_3 (dk_at dksX3_done_6 0 rfl rfl)
theorem dX3_done_140 : decode cX3_done 140 = .ok (.putfield 49, 3) := dk_181 0 49 (dk_at dksX3_done_6 1 rfl rfl)
theorem dX3_done_143 : decode cX3_done 143 = .ok (.goto (-32), 3) := dk_167 255 224 (dk_at dksX3_done_6 4 rfl rfl)
theorem dX3_done_146 : decode cX3_done 146 = .ok (.aload_n 0, 1) := dk_42 (dk_at dksX3_done_6 7 rfl rfl)
theorem dX3_done_147 : decode cX3_done 147 = .ok (.invokevirtual 69, 3) := dk_182 0 69 (dk_at dksX3_done_6 8 rfl rfl)
theorem dX3_done_150 : decode cX3_done 150 = .ok (.goto (-39), 3) := dk_167 255 217 (dk_at dksX3_done_6 11 rfl rfl)
theorem dX3_done_153 : decode cX3_done 153 = .ok (.aload_n 0, 1) := dk_42 (dk_at dksX3_done_6 14 rfl rfl)
theorem dX3_done_154 : decode cX3_done 154 = .ok (.areturn, 1) := dk_176 (dk_at dksX3_done_6 15 rfl rfl)
abbrev cX3_step : ByteArray := prog_2_method_4_code
def yX3_step : MethodName := ⟨RX3, "step", "()V"⟩
def dkwX3_step_13 : List UInt8 := [180, 0, 68, 184, 0, 103, 181, 0, 46, 177]
abbrev dktX3_step_13 : List UInt8 := dkwX3_step_13 ++ []
def dkwX3_step_12 : List UInt8 := [167, 0, 4, 3, 181, 0, 49, 42, 180, 0, 49, 153, 0, 21, 42, 42, 180, 0, 46, 42, 180, 0, 28]
abbrev dktX3_step_12 : List UInt8 := dkwX3_step_12 ++ dktX3_step_13
def dkwX3_step_11 : List UInt8 := [181, 0, 28, 42, 25, 4, 181, 0, 31, 42, 42, 180, 0, 28, 180, 0, 68, 16, 60, 163, 0, 7, 4]
abbrev dktX3_step_11 : List UInt8 := dkwX3_step_11 ++ dktX3_step_12
def dkwX3_step_10 : List UInt8 := [42, 180, 0, 3, 180, 0, 72, 27, 50, 42, 180, 0, 3, 180, 0, 92, 28, 100, 29, 182, 0, 99]
abbrev dktX3_step_10 : List UInt8 := dkwX3_step_10 ++ dktX3_step_11
def dkwX3_step_9 : List UInt8 := [180, 0, 31, 42, 180, 0, 28, 180, 0, 76, 42, 180, 0, 28, 180, 0, 85, 42, 180, 0, 28, 180, 0, 68]
abbrev dktX3_step_9 : List UInt8 := dkwX3_step_9 ++ dktX3_step_10
def dkwX3_step_8 : List UInt8 := [3, 181, 0, 49, 42, 180, 0, 49, 154, 0, 4, 177, 42, 180, 0, 28, 58, 4, 42, 42, 180, 0, 3, 42]
abbrev dktX3_step_8 : List UInt8 := dkwX3_step_8 ++ dktX3_step_9
def dkwX3_step_7 : List UInt8 := [184, 0, 95, 153, 0, 21, 42, 180, 0, 17, 27, 50, 180, 0, 68, 16, 60, 163, 0, 7, 4, 167, 0, 4]
abbrev dktX3_step_7 : List UInt8 := dkwX3_step_7 ++ dktX3_step_8
def dkwX3_step_6 : List UInt8 := [62, 42, 180, 0, 17, 27, 50, 29, 28, 182, 0, 64, 42, 42, 180, 0, 3, 180, 0, 72, 27, 50, 29]
abbrev dktX3_step_6 : List UInt8 := dkwX3_step_6 ++ dktX3_step_7
def dkwX3_step_5 : List UInt8 := [42, 180, 0, 28, 180, 0, 76, 3, 46, 42, 180, 0, 3, 180, 0, 72, 27, 50, 180, 0, 57, 3, 46, 100]
abbrev dktX3_step_5 : List UInt8 := dkwX3_step_5 ++ dktX3_step_6
def dkwX3_step_4 : List UInt8 := [180, 0, 3, 180, 0, 72, 27, 50, 180, 0, 61, 3, 46, 46, 104, 42, 180, 0, 3, 180, 0, 92, 112, 61]
abbrev dktX3_step_4 : List UInt8 := dkwX3_step_4 ++ dktX3_step_5
def dkwX3_step_3 : List UInt8 := [181, 0, 49, 167, 0, 215, 42, 180, 0, 28, 180, 0, 85, 3, 46, 42, 180, 0, 3, 180, 0, 89, 42]
abbrev dktX3_step_3 : List UInt8 := dkwX3_step_3 ++ dktX3_step_4
def dkwX3_step_2 : List UInt8 := [180, 0, 28, 182, 0, 86, 42, 42, 180, 0, 24, 180, 0, 68, 16, 60, 163, 0, 7, 4, 167, 0, 4, 3]
abbrev dktX3_step_2 : List UInt8 := dkwX3_step_2 ++ dktX3_step_3
def dkwX3_step_1 : List UInt8 := [42, 180, 0, 28, 180, 0, 76, 3, 46, 42, 180, 0, 28, 180, 0, 85, 3, 46, 182, 0, 64, 42]
abbrev dktX3_step_1 : List UInt8 := dkwX3_step_1 ++ dktX3_step_2
def dkwX3_step_0 : List UInt8 := [42, 89, 180, 0, 38, 4, 96, 181, 0, 38, 42, 182, 0, 81, 60, 27, 2, 160, 0, 59, 42, 180, 0, 24]
abbrev dktX3_step_0 : List UInt8 := dkwX3_step_0 ++ dktX3_step_1
theorem dksX3_step_0 : cX3_step.data.toList.drop 0 = dktX3_step_0 := by decide +kernel
theorem dksX3_step_1 : cX3_step.data.toList.drop 24 = dktX3_step_1 := dk_seg dksX3_step_0 24 rfl rfl
theorem dksX3_step_2 : cX3_step.data.toList.drop 46 = dktX3_step_2 := dk_seg dksX3_step_1 22 rfl rfl
theorem dksX3_step_3 : cX3_step.data.toList.drop 70 = dktX3_step_3 := dk_seg dksX3_step_2 24 rfl rfl
theorem dksX3_step_4 : cX3_step.data.toList.drop 93 = dktX3_step_4 := dk_seg dksX3_step_3 23 rfl rfl
theorem dksX3_step_5 : cX3_step.data.toList.drop 117 = dktX3_step_5 := dk_seg dksX3_step_4 24 rfl rfl
theorem dksX3_step_6 : cX3_step.data.toList.drop 141 = dktX3_step_6 := dk_seg dksX3_step_5 24 rfl rfl
theorem dksX3_step_7 : cX3_step.data.toList.drop 164 = dktX3_step_7 := dk_seg dksX3_step_6 23 rfl rfl
theorem dksX3_step_8 : cX3_step.data.toList.drop 188 = dktX3_step_8 := dk_seg dksX3_step_7 24 rfl rfl
theorem dksX3_step_9 : cX3_step.data.toList.drop 212 = dktX3_step_9 := dk_seg dksX3_step_8 24 rfl rfl
theorem dksX3_step_10 : cX3_step.data.toList.drop 236 = dktX3_step_10 := dk_seg dksX3_step_9 24 rfl rfl
theorem dksX3_step_11 : cX3_step.data.toList.drop 258 = dktX3_step_11 := dk_seg dksX3_step_10 22 rfl rfl
theorem dksX3_step_12 : cX3_step.data.toList.drop 281 = dktX3_step_12 := dk_seg dksX3_step_11 23 rfl rfl
theorem dksX3_step_13 : cX3_step.data.toList.drop 304 = dktX3_step_13 := dk_seg dksX3_step_12 23 rfl rfl
theorem dX3_step_0 : decode cX3_step 0 = .ok (.aload_n 0, 1) := dk_42 (dk_at dksX3_step_0 0 rfl rfl)
theorem dX3_step_1 : decode cX3_step 1 = .ok (.dup, 1) := dk_89 (dk_at dksX3_step_0 1 rfl rfl)
theorem dX3_step_2 : decode cX3_step 2 = .ok (.getfield 38, 3) := dk_180 0 38 (dk_at dksX3_step_0 2 rfl rfl)
theorem dX3_step_5 : decode cX3_step 5 = .ok (.iconst 1, 1) := dk_4 (dk_at dksX3_step_0 5 rfl rfl)
theorem dX3_step_6 : decode cX3_step 6 = .ok (.iadd, 1) := dk_96 (dk_at dksX3_step_0 6 rfl rfl)
theorem dX3_step_7 : decode cX3_step 7 = .ok (.putfield 38, 3) := dk_181 0 38 (dk_at dksX3_step_0 7 rfl rfl)
theorem dX3_step_10 : decode cX3_step 10 = .ok (.aload_n 0, 1) := dk_42 (dk_at dksX3_step_0 10 rfl rfl)
theorem dX3_step_11 : decode cX3_step 11 = .ok (.invokevirtual 81, 3) := dk_182 0 81 (dk_at dksX3_step_0 11 rfl rfl)
theorem dX3_step_14 : decode cX3_step 14 = .ok (.istore_n 1, 1) := dk_60 (dk_at dksX3_step_0 14 rfl rfl)
theorem dX3_step_15 : decode cX3_step 15 = .ok (.iload_n 1, 1) := dk_27 (dk_at dksX3_step_0 15 rfl rfl)
theorem dX3_step_16 : decode cX3_step 16 = .ok (.iconst (-1), 1) := dk_2 (dk_at dksX3_step_0 16 rfl rfl)
theorem dX3_step_17 : decode cX3_step 17 = .ok (.if_icmp .ne 59, 3) := dk_160 0 59 (dk_at dksX3_step_0 17 rfl rfl)
theorem dX3_step_20 : decode cX3_step 20 = .ok (.aload_n 0, 1) := dk_42 (dk_at dksX3_step_0 20 rfl rfl)
theorem dX3_step_21 : decode cX3_step 21 = .ok (.getfield 24, 3) := dk_180 0 24 (dk_at dksX3_step_0 21 rfl rfl)
theorem dX3_step_24 : decode cX3_step 24 = .ok (.aload_n 0, 1) := dk_42 (dk_at dksX3_step_1 0 rfl rfl)
theorem dX3_step_25 : decode cX3_step 25 = .ok (.getfield 28, 3) := dk_180 0 28 (dk_at dksX3_step_1 1 rfl rfl)
theorem dX3_step_28 : decode cX3_step 28 = .ok (.getfield 76, 3) := dk_180 0 76 (dk_at dksX3_step_1 4 rfl rfl)
theorem dX3_step_31 : decode cX3_step 31 = .ok (.iconst 0, 1) := dk_3 (dk_at dksX3_step_1 7 rfl rfl)
theorem dX3_step_32 : decode cX3_step 32 = .ok (.iaload, 1) := dk_46 (dk_at dksX3_step_1 8 rfl rfl)
theorem dX3_step_33 : decode cX3_step 33 = .ok (.aload_n 0, 1) := dk_42 (dk_at dksX3_step_1 9 rfl rfl)
theorem dX3_step_34 : decode cX3_step 34 = .ok (.getfield 28, 3) := dk_180 0 28 (dk_at dksX3_step_1 10 rfl rfl)
theorem dX3_step_37 : decode cX3_step 37 = .ok (.getfield 85, 3) := dk_180 0 85 (dk_at dksX3_step_1 13 rfl rfl)
theorem dX3_step_40 : decode cX3_step 40 = .ok (.iconst 0, 1) := dk_3 (dk_at dksX3_step_1 16 rfl rfl)
theorem dX3_step_41 : decode cX3_step 41 = .ok (.iaload, 1) := dk_46 (dk_at dksX3_step_1 17 rfl rfl)
theorem dX3_step_42 : decode cX3_step 42 = .ok (.invokevirtual 64, 3) := dk_182 0 64 (dk_at dksX3_step_1 18 rfl rfl)
theorem dX3_step_45 : decode cX3_step 45 = .ok (.aload_n 0, 1) := dk_42 (dk_at dksX3_step_1 21 rfl rfl)
theorem dX3_step_46 : decode cX3_step 46 = .ok (.getfield 28, 3) := dk_180 0 28 (dk_at dksX3_step_2 0 rfl rfl)
theorem dX3_step_49 : decode cX3_step 49 = .ok (.invokevirtual 86, 3) := dk_182 0 86 (dk_at dksX3_step_2 3 rfl rfl)
theorem dX3_step_52 : decode cX3_step 52 = .ok (.aload_n 0, 1) := dk_42 (dk_at dksX3_step_2 6 rfl rfl)
theorem dX3_step_53 : decode cX3_step 53 = .ok (.aload_n 0, 1) := dk_42 (dk_at dksX3_step_2 7 rfl rfl)
theorem dX3_step_54 : decode cX3_step 54 = .ok (.getfield 24, 3) := dk_180 0 24 (dk_at dksX3_step_2 8 rfl rfl)
theorem dX3_step_57 : decode cX3_step 57 = .ok (.getfield 68, 3) := dk_180 0 68 (dk_at dksX3_step_2 11 rfl rfl)
theorem dX3_step_60 : decode cX3_step 60 = .ok (.bipush 60, 2) := dk_16 60 (dk_at dksX3_step_2 14 rfl rfl)
theorem dX3_step_62 : decode cX3_step 62 = .ok (.if_icmp .gt 7, 3) := dk_163 0 7 (dk_at dksX3_step_2 16 rfl rfl)
theorem dX3_step_65 : decode cX3_step 65 = .ok (.iconst 1, 1) := dk_4 (dk_at dksX3_step_2 19 rfl rfl)
theorem dX3_step_66 : decode cX3_step 66 = .ok (.goto 4, 3) := dk_167 0 4 (dk_at dksX3_step_2 20 rfl rfl)
theorem dX3_step_69 : decode cX3_step 69 = .ok (.iconst 0, 1) := dk_3 (dk_at dksX3_step_2 23 rfl rfl)
theorem dX3_step_70 : decode cX3_step 70 = .ok (.putfield 49, 3) := dk_181 0 49 (dk_at dksX3_step_3 0 rfl rfl)
theorem dX3_step_73 : decode cX3_step 73 = .ok (.goto 215, 3) := dk_167 0 215 (dk_at dksX3_step_3 3 rfl rfl)
theorem dX3_step_76 : decode cX3_step 76 = .ok (.aload_n 0, 1) := dk_42 (dk_at dksX3_step_3 6 rfl rfl)
theorem dX3_step_77 : decode cX3_step 77 = .ok (.getfield 28, 3) := dk_180 0 28 (dk_at dksX3_step_3 7 rfl rfl)
theorem dX3_step_80 : decode cX3_step 80 = .ok (.getfield 85, 3) := dk_180 0 85 (dk_at dksX3_step_3 10 rfl rfl)
theorem dX3_step_83 : decode cX3_step 83 = .ok (.iconst 0, 1) := dk_3 (dk_at dksX3_step_3 13 rfl rfl)
theorem dX3_step_84 : decode cX3_step 84 = .ok (.iaload, 1) := dk_46 (dk_at dksX3_step_3 14 rfl rfl)
theorem dX3_step_85 : decode cX3_step 85 = .ok (.aload_n 0, 1) := dk_42 (dk_at dksX3_step_3 15 rfl rfl)
theorem dX3_step_86 : decode cX3_step 86 = .ok (.getfield 3, 3) := dk_180 0 3 (dk_at dksX3_step_3 16 rfl rfl)
theorem dX3_step_89 : decode cX3_step 89 = .ok (.getfield 89, 3) := dk_180 0 89 (dk_at dksX3_step_3 19 rfl rfl)
theorem dX3_step_92 : decode cX3_step 92 = .ok (.aload_n 0, 1) := dk_42 (dk_at dksX3_step_3 22 rfl rfl)
theorem dX3_step_93 : decode cX3_step 93 = .ok (.getfield 3, 3) := dk_180 0 3 (dk_at dksX3_step_4 0 rfl rfl)
theorem dX3_step_96 : decode cX3_step 96 = .ok (.getfield 72, 3) := dk_180 0 72 (dk_at dksX3_step_4 3 rfl rfl)
theorem dX3_step_99 : decode cX3_step 99 = .ok (.iload_n 1, 1) := dk_27 (dk_at dksX3_step_4 6 rfl rfl)
theorem dX3_step_100 : decode cX3_step 100 = .ok (.aaload, 1) := dk_50 (dk_at dksX3_step_4 7 rfl rfl)
theorem dX3_step_101 : decode cX3_step 101 = .ok (.getfield 61, 3) := dk_180 0 61 (dk_at dksX3_step_4 8 rfl rfl)
theorem dX3_step_104 : decode cX3_step 104 = .ok (.iconst 0, 1) := dk_3 (dk_at dksX3_step_4 11 rfl rfl)
theorem dX3_step_105 : decode cX3_step 105 = .ok (.iaload, 1) := dk_46 (dk_at dksX3_step_4 12 rfl rfl)
theorem dX3_step_106 : decode cX3_step 106 = .ok (.iaload, 1) := dk_46 (dk_at dksX3_step_4 13 rfl rfl)
theorem dX3_step_107 : decode cX3_step 107 = .ok (.imul, 1) := dk_104 (dk_at dksX3_step_4 14 rfl rfl)
theorem dX3_step_108 : decode cX3_step 108 = .ok (.aload_n 0, 1) := dk_42 (dk_at dksX3_step_4 15 rfl rfl)
theorem dX3_step_109 : decode cX3_step 109 = .ok (.getfield 3, 3) := dk_180 0 3 (dk_at dksX3_step_4 16 rfl rfl)
theorem dX3_step_112 : decode cX3_step 112 = .ok (.getfield 92, 3) := dk_180 0 92 (dk_at dksX3_step_4 19 rfl rfl)
theorem dX3_step_115 : decode cX3_step 115 = .ok (.irem, 1) := dk_112 (dk_at dksX3_step_4 22 rfl rfl)
theorem dX3_step_116 : decode cX3_step 116 = .ok (.istore_n 2, 1) := dk_61 (dk_at dksX3_step_4 23 rfl rfl)
theorem dX3_step_117 : decode cX3_step 117 = .ok (.aload_n 0, 1) := dk_42 (dk_at dksX3_step_5 0 rfl rfl)
theorem dX3_step_118 : decode cX3_step 118 = .ok (.getfield 28, 3) := dk_180 0 28 (dk_at dksX3_step_5 1 rfl rfl)
theorem dX3_step_121 : decode cX3_step 121 = .ok (.getfield 76, 3) := dk_180 0 76 (dk_at dksX3_step_5 4 rfl rfl)
theorem dX3_step_124 : decode cX3_step 124 = .ok (.iconst 0, 1) := dk_3 (dk_at dksX3_step_5 7 rfl rfl)
theorem dX3_step_125 : decode cX3_step 125 = .ok (.iaload, 1) := dk_46 (dk_at dksX3_step_5 8 rfl rfl)
theorem dX3_step_126 : decode cX3_step 126 = .ok (.aload_n 0, 1) := dk_42 (dk_at dksX3_step_5 9 rfl rfl)
theorem dX3_step_127 : decode cX3_step 127 = .ok (.getfield 3, 3) := dk_180 0 3 (dk_at dksX3_step_5 10 rfl rfl)
theorem dX3_step_130 : decode cX3_step 130 = .ok (.getfield 72, 3) := dk_180 0 72 (dk_at dksX3_step_5 13 rfl rfl)
theorem dX3_step_133 : decode cX3_step 133 = .ok (.iload_n 1, 1) := dk_27 (dk_at dksX3_step_5 16 rfl rfl)
theorem dX3_step_134 : decode cX3_step 134 = .ok (.aaload, 1) := dk_50 (dk_at dksX3_step_5 17 rfl rfl)
theorem dX3_step_135 : decode cX3_step 135 = .ok (.getfield 57, 3) := dk_180 0 57 (dk_at dksX3_step_5 18 rfl rfl)
theorem dX3_step_138 : decode cX3_step 138 = .ok (.iconst 0, 1) := dk_3 (dk_at dksX3_step_5 21 rfl rfl)
theorem dX3_step_139 : decode cX3_step 139 = .ok (.iaload, 1) := dk_46 (dk_at dksX3_step_5 22 rfl rfl)
theorem dX3_step_140 : decode cX3_step 140 = .ok (.isub, 1) := dk_100 (dk_at dksX3_step_5 23 rfl rfl)
theorem dX3_step_141 : decode cX3_step 141 = .ok (.istore_n 3, 1) := dk_62 (dk_at dksX3_step_6 0 rfl rfl)
theorem dX3_step_142 : decode cX3_step 142 = .ok (.aload_n 0, 1) := dk_42 (dk_at dksX3_step_6 1 rfl rfl)
theorem dX3_step_143 : decode cX3_step 143 = .ok (.getfield 17, 3) := dk_180 0 17 (dk_at dksX3_step_6 2 rfl rfl)
theorem dX3_step_146 : decode cX3_step 146 = .ok (.iload_n 1, 1) := dk_27 (dk_at dksX3_step_6 5 rfl rfl)
theorem dX3_step_147 : decode cX3_step 147 = .ok (.aaload, 1) := dk_50 (dk_at dksX3_step_6 6 rfl rfl)
theorem dX3_step_148 : decode cX3_step 148 = .ok (.iload_n 3, 1) := dk_29 (dk_at dksX3_step_6 7 rfl rfl)
theorem dX3_step_149 : decode cX3_step 149 = .ok (.iload_n 2, 1) := dk_28 (dk_at dksX3_step_6 8 rfl rfl)
theorem dX3_step_150 : decode cX3_step 150 = .ok (.invokevirtual 64, 3) := dk_182 0 64 (dk_at dksX3_step_6 9 rfl rfl)
theorem dX3_step_153 : decode cX3_step 153 = .ok (.aload_n 0, 1) := dk_42 (dk_at dksX3_step_6 12 rfl rfl)
theorem dX3_step_154 : decode cX3_step 154 = .ok (.aload_n 0, 1) := dk_42 (dk_at dksX3_step_6 13 rfl rfl)
theorem dX3_step_155 : decode cX3_step 155 = .ok (.getfield 3, 3) := dk_180 0 3 (dk_at dksX3_step_6 14 rfl rfl)
theorem dX3_step_158 : decode cX3_step 158 = .ok (.getfield 72, 3) := dk_180 0 72 (dk_at dksX3_step_6 17 rfl rfl)
theorem dX3_step_161 : decode cX3_step 161 = .ok (.iload_n 1, 1) := dk_27 (dk_at dksX3_step_6 20 rfl rfl)
theorem dX3_step_162 : decode cX3_step 162 = .ok (.aaload, 1) := dk_50 (dk_at dksX3_step_6 21 rfl rfl)
theorem dX3_step_163 : decode cX3_step 163 = .ok (.iload_n 3, 1) := dk_29 (dk_at dksX3_step_6 22 rfl rfl)
theorem dX3_step_164 : decode cX3_step 164 = .ok (.invokestatic 95, 3) := dk_184 0 95 (dk_at dksX3_step_7 0 rfl rfl)
theorem dX3_step_167 : decode cX3_step 167 = .ok (.ifCond .eq 21, 3) := dk_153 0 21 (dk_at dksX3_step_7 3 rfl rfl)
theorem dX3_step_170 : decode cX3_step 170 = .ok (.aload_n 0, 1) := dk_42 (dk_at dksX3_step_7 6 rfl rfl)
theorem dX3_step_171 : decode cX3_step 171 = .ok (.getfield 17, 3) := dk_180 0 17 (dk_at dksX3_step_7 7 rfl rfl)
theorem dX3_step_174 : decode cX3_step 174 = .ok (.iload_n 1, 1) := dk_27 (dk_at dksX3_step_7 10 rfl rfl)
theorem dX3_step_175 : decode cX3_step 175 = .ok (.aaload, 1) := dk_50 (dk_at dksX3_step_7 11 rfl rfl)
theorem dX3_step_176 : decode cX3_step 176 = .ok (.getfield 68, 3) := dk_180 0 68 (dk_at dksX3_step_7 12 rfl rfl)
theorem dX3_step_179 : decode cX3_step 179 = .ok (.bipush 60, 2) := dk_16 60 (dk_at dksX3_step_7 15 rfl rfl)
theorem dX3_step_181 : decode cX3_step 181 = .ok (.if_icmp .gt 7, 3) := dk_163 0 7 (dk_at dksX3_step_7 17 rfl rfl)
theorem dX3_step_184 : decode cX3_step 184 = .ok (.iconst 1, 1) := dk_4 (dk_at dksX3_step_7 20 rfl rfl)
theorem dX3_step_185 : decode cX3_step 185 = .ok (.goto 4, 3) := dk_167 0 4 (dk_at dksX3_step_7 21 rfl rfl)
theorem dX3_step_188 : decode cX3_step 188 = .ok (.iconst 0, 1) := dk_3 (dk_at dksX3_step_8 0 rfl rfl)
theorem dX3_step_189 : decode cX3_step 189 = .ok (.putfield 49, 3) := dk_181 0 49 (dk_at dksX3_step_8 1 rfl rfl)
theorem dX3_step_192 : decode cX3_step 192 = .ok (.aload_n 0, 1) := dk_42 (dk_at dksX3_step_8 4 rfl rfl)
theorem dX3_step_193 : decode cX3_step 193 = .ok (.getfield 49, 3) := dk_180 0 49 (dk_at dksX3_step_8 5 rfl rfl)
theorem dX3_step_196 : decode cX3_step 196 = .ok (.ifCond .ne 4, 3) := dk_154 0 4 (dk_at dksX3_step_8 8 rfl rfl)
theorem dX3_step_199 : decode cX3_step 199 = .ok (.return_, 1) := dk_177 (dk_at dksX3_step_8 11 rfl rfl)
theorem dX3_step_200 : decode cX3_step 200 = .ok (.aload_n 0, 1) := dk_42 (dk_at dksX3_step_8 12 rfl rfl)
theorem dX3_step_201 : decode cX3_step 201 = .ok (.getfield 28, 3) := dk_180 0 28 (dk_at dksX3_step_8 13 rfl rfl)
theorem dX3_step_204 : decode cX3_step 204 = .ok (.astore 4, 2) := dk_58 4 (dk_at dksX3_step_8 16 rfl rfl)
theorem dX3_step_206 : decode cX3_step 206 = .ok (.aload_n 0, 1) := dk_42 (dk_at dksX3_step_8 18 rfl rfl)
theorem dX3_step_207 : decode cX3_step 207 = .ok (.aload_n 0, 1) := dk_42 (dk_at dksX3_step_8 19 rfl rfl)
theorem dX3_step_208 : decode cX3_step 208 = .ok (.getfield 3, 3) := dk_180 0 3 (dk_at dksX3_step_8 20 rfl rfl)
theorem dX3_step_211 : decode cX3_step 211 = .ok (.aload_n 0, 1) := dk_42 (dk_at dksX3_step_8 23 rfl rfl)
theorem dX3_step_212 : decode cX3_step 212 = .ok (.getfield 31, 3) := dk_180 0 31 (dk_at dksX3_step_9 0 rfl rfl)
theorem dX3_step_215 : decode cX3_step 215 = .ok (.aload_n 0, 1) := dk_42 (dk_at dksX3_step_9 3 rfl rfl)
theorem dX3_step_216 : decode cX3_step 216 = .ok (.getfield 28, 3) := dk_180 0 28 (dk_at dksX3_step_9 4 rfl rfl)
theorem dX3_step_219 : decode cX3_step 219 = .ok (.getfield 76, 3) := dk_180 0 76 (dk_at dksX3_step_9 7 rfl rfl)
theorem dX3_step_222 : decode cX3_step 222 = .ok (.aload_n 0, 1) := dk_42 (dk_at dksX3_step_9 10 rfl rfl)
theorem dX3_step_223 : decode cX3_step 223 = .ok (.getfield 28, 3) := dk_180 0 28 (dk_at dksX3_step_9 11 rfl rfl)
theorem dX3_step_226 : decode cX3_step 226 = .ok (.getfield 85, 3) := dk_180 0 85 (dk_at dksX3_step_9 14 rfl rfl)
theorem dX3_step_229 : decode cX3_step 229 = .ok (.aload_n 0, 1) := dk_42 (dk_at dksX3_step_9 17 rfl rfl)
theorem dX3_step_230 : decode cX3_step 230 = .ok (.getfield 28, 3) := dk_180 0 28 (dk_at dksX3_step_9 18 rfl rfl)
theorem dX3_step_233 : decode cX3_step 233 = .ok (.getfield 68, 3) := dk_180 0 68 (dk_at dksX3_step_9 21 rfl rfl)
theorem dX3_step_236 : decode cX3_step 236 = .ok (.aload_n 0, 1) := dk_42 (dk_at dksX3_step_10 0 rfl rfl)
theorem dX3_step_237 : decode cX3_step 237 = .ok (.getfield 3, 3) := dk_180 0 3 (dk_at dksX3_step_10 1 rfl rfl)
theorem dX3_step_240 : decode cX3_step 240 = .ok (.getfield 72, 3) := dk_180 0 72 (dk_at dksX3_step_10 4 rfl rfl)
theorem dX3_step_243 : decode cX3_step 243 = .ok (.iload_n 1, 1) := dk_27 (dk_at dksX3_step_10 7 rfl rfl)
theorem dX3_step_244 : decode cX3_step 244 = .ok (.aaload, 1) := dk_50 (dk_at dksX3_step_10 8 rfl rfl)
theorem dX3_step_245 : decode cX3_step 245 = .ok (.aload_n 0, 1) := dk_42 (dk_at dksX3_step_10 9 rfl rfl)
theorem dX3_step_246 : decode cX3_step 246 = .ok (.getfield 3, 3) := dk_180 0 3 (dk_at dksX3_step_10 10 rfl rfl)
theorem dX3_step_249 : decode cX3_step 249 = .ok (.getfield 92, 3) := dk_180 0 92 (dk_at dksX3_step_10 13 rfl rfl)
theorem dX3_step_252 : decode cX3_step 252 = .ok (.iload_n 2, 1) := dk_28 (dk_at dksX3_step_10 16 rfl rfl)
theorem dX3_step_253 : decode cX3_step 253 = .ok (.isub, 1) := dk_100 (dk_at dksX3_step_10 17 rfl rfl)
theorem dX3_step_254 : decode cX3_step 254 = .ok (.iload_n 3, 1) := dk_29 (dk_at dksX3_step_10 18 rfl rfl)
theorem dX3_step_255 : decode cX3_step 255 = .ok (.invokevirtual 99, 3) := dk_182 0 99 (dk_at dksX3_step_10 19 rfl rfl)
theorem dX3_step_258 : decode cX3_step 258 = .ok (.putfield 28, 3) := dk_181 0 28 (dk_at dksX3_step_11 0 rfl rfl)
theorem dX3_step_261 : decode cX3_step 261 = .ok (.aload_n 0, 1) := dk_42 (dk_at dksX3_step_11 3 rfl rfl)
theorem dX3_step_262 : decode cX3_step 262 = .ok (.aload 4, 2) := dk_25 4 (dk_at dksX3_step_11 4 rfl rfl)
theorem dX3_step_264 : decode cX3_step 264 = .ok (.putfield 31, 3) := dk_181 0 31 (dk_at dksX3_step_11 6 rfl rfl)
theorem dX3_step_267 : decode cX3_step 267 = .ok (.aload_n 0, 1) := dk_42 (dk_at dksX3_step_11 9 rfl rfl)
theorem dX3_step_268 : decode cX3_step 268 = .ok (.aload_n 0, 1) := dk_42 (dk_at dksX3_step_11 10 rfl rfl)
theorem dX3_step_269 : decode cX3_step 269 = .ok (.getfield 28, 3) := dk_180 0 28 (dk_at dksX3_step_11 11 rfl rfl)
theorem dX3_step_272 : decode cX3_step 272 = .ok (.getfield 68, 3) := dk_180 0 68 (dk_at dksX3_step_11 14 rfl rfl)
theorem dX3_step_275 : decode cX3_step 275 = .ok (.bipush 60, 2) := dk_16 60 (dk_at dksX3_step_11 17 rfl rfl)
theorem dX3_step_277 : decode cX3_step 277 = .ok (.if_icmp .gt 7, 3) := dk_163 0 7 (dk_at dksX3_step_11 19 rfl rfl)
theorem dX3_step_280 : decode cX3_step 280 = .ok (.iconst 1, 1) := dk_4 (dk_at dksX3_step_11 22 rfl rfl)
theorem dX3_step_281 : decode cX3_step 281 = .ok (.goto 4, 3) := dk_167 0 4 (dk_at dksX3_step_12 0 rfl rfl)
theorem dX3_step_284 : decode cX3_step 284 = .ok (.iconst 0, 1) := dk_3 (dk_at dksX3_step_12 3 rfl rfl)
theorem dX3_step_285 : decode cX3_step 285 = .ok (.putfield 49, 3) := dk_181 0 49 (dk_at dksX3_step_12 4 rfl rfl)
theorem dX3_step_288 : decode cX3_step 288 = .ok (.aload_n 0, 1) := dk_42 (dk_at dksX3_step_12 7 rfl rfl)
theorem dX3_step_289 : decode cX3_step 289 = .ok (.getfield 49, 3) := dk_180 0 49 (dk_at dksX3_step_12 8 rfl rfl)
theorem dX3_step_292 : decode cX3_step 292 = .ok (.ifCond .eq 21, 3) := dk_153 0 21 (dk_at dksX3_step_12 11 rfl rfl)
theorem dX3_step_295 : decode cX3_step 295 = .ok (.aload_n 0, 1) := dk_42 (dk_at dksX3_step_12 14 rfl rfl)
theorem dX3_step_296 : decode cX3_step 296 = .ok (.aload_n 0, 1) := dk_42 (dk_at dksX3_step_12 15 rfl rfl)
theorem dX3_step_297 : decode cX3_step 297 = .ok (.getfield 46, 3) := dk_180 0 46 (dk_at dksX3_step_12 16 rfl rfl)
theorem dX3_step_300 : decode cX3_step 300 = .ok (.aload_n 0, 1) := dk_42 (dk_at dksX3_step_12 19 rfl rfl)
theorem dX3_step_301 : decode cX3_step 301 = .ok (.getfield 28, 3) := dk_180 0 28 (dk_at dksX3_step_12 20 rfl rfl)
theorem dX3_step_304 : decode cX3_step 304 = .ok (.getfield 68, 3) := dk_180 0 68 (dk_at dksX3_step_13 0 rfl rfl)
theorem dX3_step_307 : decode cX3_step 307 = .ok (.invokestatic 103, 3) := dk_184 0 103 (dk_at dksX3_step_13 3 rfl rfl)
theorem dX3_step_310 : decode cX3_step 310 = .ok (.putfield 46, 3) := dk_181 0 46 (dk_at dksX3_step_13 6 rfl rfl)
theorem dX3_step_313 : decode cX3_step 313 = .ok (.return_, 1) := dk_177 (dk_at dksX3_step_13 9 rfl rfl)
abbrev cX3_divisor : ByteArray := prog_2_method_3_code
def yX3_divisor : MethodName := ⟨RX3, "divisor", "()I"⟩
def dkwX3_divisor_2 : List UInt8 := [153, 0, 5, 27, 172, 132, 1, 1, 167, 255, 204, 2, 172]
abbrev dktX3_divisor_2 : List UInt8 := dkwX3_divisor_2 ++ []
def dkwX3_divisor_1 : List UInt8 := [180, 0, 72, 27, 50, 180, 0, 57, 3, 46, 42, 180, 0, 28, 180, 0, 76, 3, 46, 184, 0, 77]
abbrev dktX3_divisor_1 : List UInt8 := dkwX3_divisor_1 ++ dktX3_divisor_2
def dkwX3_divisor_0 : List UInt8 := [3, 60, 27, 16, 8, 162, 0, 52, 42, 180, 0, 34, 27, 122, 4, 126, 4, 160, 0, 34, 42, 180, 0, 3]
abbrev dktX3_divisor_0 : List UInt8 := dkwX3_divisor_0 ++ dktX3_divisor_1
theorem dksX3_divisor_0 : cX3_divisor.data.toList.drop 0 = dktX3_divisor_0 := by decide +kernel
theorem dksX3_divisor_1 : cX3_divisor.data.toList.drop 24 = dktX3_divisor_1 := dk_seg dksX3_divisor_0 24 rfl rfl
theorem dksX3_divisor_2 : cX3_divisor.data.toList.drop 46 = dktX3_divisor_2 := dk_seg dksX3_divisor_1 22 rfl rfl
theorem dX3_divisor_0 : decode cX3_divisor 0 = .ok (.iconst 0, 1) := dk_3 (dk_at dksX3_divisor_0 0 rfl rfl)
theorem dX3_divisor_1 : decode cX3_divisor 1 = .ok (.istore_n 1, 1) := dk_60 (dk_at dksX3_divisor_0 1 rfl rfl)
theorem dX3_divisor_2 : decode cX3_divisor 2 = .ok (.iload_n 1, 1) := dk_27 (dk_at dksX3_divisor_0 2 rfl rfl)
theorem dX3_divisor_3 : decode cX3_divisor 3 = .ok (.bipush 8, 2) := dk_16 8 (dk_at dksX3_divisor_0 3 rfl rfl)
theorem dX3_divisor_5 : decode cX3_divisor 5 = .ok (.if_icmp .ge 52, 3) := dk_162 0 52 (dk_at dksX3_divisor_0 5 rfl rfl)
theorem dX3_divisor_8 : decode cX3_divisor 8 = .ok (.aload_n 0, 1) := dk_42 (dk_at dksX3_divisor_0 8 rfl rfl)
theorem dX3_divisor_9 : decode cX3_divisor 9 = .ok (.getfield 34, 3) := dk_180 0 34 (dk_at dksX3_divisor_0 9 rfl rfl)
theorem dX3_divisor_12 : decode cX3_divisor 12 = .ok (.iload_n 1, 1) := dk_27 (dk_at dksX3_divisor_0 12 rfl rfl)
theorem dX3_divisor_13 : decode cX3_divisor 13 = .ok (.ishr, 1) := dk_122 (dk_at dksX3_divisor_0 13 rfl rfl)
theorem dX3_divisor_14 : decode cX3_divisor 14 = .ok (.iconst 1, 1) := dk_4 (dk_at dksX3_divisor_0 14 rfl rfl)
theorem dX3_divisor_15 : decode cX3_divisor 15 = .ok (.iand, 1) := dk_126 (dk_at dksX3_divisor_0 15 rfl rfl)
theorem dX3_divisor_16 : decode cX3_divisor 16 = .ok (.iconst 1, 1) := dk_4 (dk_at dksX3_divisor_0 16 rfl rfl)
theorem dX3_divisor_17 : decode cX3_divisor 17 = .ok (.if_icmp .ne 34, 3) := dk_160 0 34 (dk_at dksX3_divisor_0 17 rfl rfl)
theorem dX3_divisor_20 : decode cX3_divisor 20 = .ok (.aload_n 0, 1) := dk_42 (dk_at dksX3_divisor_0 20 rfl rfl)
theorem dX3_divisor_21 : decode cX3_divisor 21 = .ok (.getfield 3, 3) := dk_180 0 3 (dk_at dksX3_divisor_0 21 rfl rfl)
theorem dX3_divisor_24 : decode cX3_divisor 24 = .ok (.getfield 72, 3) := dk_180 0 72 (dk_at dksX3_divisor_1 0 rfl rfl)
theorem dX3_divisor_27 : decode cX3_divisor 27 = .ok (.iload_n 1, 1) := dk_27 (dk_at dksX3_divisor_1 3 rfl rfl)
theorem dX3_divisor_28 : decode cX3_divisor 28 = .ok (.aaload, 1) := dk_50 (dk_at dksX3_divisor_1 4 rfl rfl)
theorem dX3_divisor_29 : decode cX3_divisor 29 = .ok (.getfield 57, 3) := dk_180 0 57 (dk_at dksX3_divisor_1 5 rfl rfl)
theorem dX3_divisor_32 : decode cX3_divisor 32 = .ok (.iconst 0, 1) := dk_3 (dk_at dksX3_divisor_1 8 rfl rfl)
theorem dX3_divisor_33 : decode cX3_divisor 33 = .ok (.iaload, 1) := dk_46 (dk_at dksX3_divisor_1 9 rfl rfl)
theorem dX3_divisor_34 : decode cX3_divisor 34 = .ok (.aload_n 0, 1) := dk_42 (dk_at dksX3_divisor_1 10 rfl rfl)
theorem dX3_divisor_35 : decode cX3_divisor 35 = .ok (.getfield 28, 3) := dk_180 0 28 (dk_at dksX3_divisor_1 11 rfl rfl)
theorem dX3_divisor_38 : decode cX3_divisor 38 = .ok (.getfield 76, 3) := dk_180 0 76 (dk_at dksX3_divisor_1 14 rfl rfl)
theorem dX3_divisor_41 : decode cX3_divisor 41 = .ok (.iconst 0, 1) := dk_3 (dk_at dksX3_divisor_1 17 rfl rfl)
theorem dX3_divisor_42 : decode cX3_divisor 42 = .ok (.iaload, 1) := dk_46 (dk_at dksX3_divisor_1 18 rfl rfl)
theorem dX3_divisor_43 : decode cX3_divisor 43 = .ok (.invokestatic 77, 3) := dk_184 0 77 (dk_at dksX3_divisor_1 19 rfl rfl)
theorem dX3_divisor_46 : decode cX3_divisor 46 = .ok (.ifCond .eq 5, 3) := dk_153 0 5 (dk_at dksX3_divisor_2 0 rfl rfl)
theorem dX3_divisor_49 : decode cX3_divisor 49 = .ok (.iload_n 1, 1) := dk_27 (dk_at dksX3_divisor_2 3 rfl rfl)
theorem dX3_divisor_50 : decode cX3_divisor 50 = .ok (.ireturn, 1) := dk_172 (dk_at dksX3_divisor_2 4 rfl rfl)
theorem dX3_divisor_51 : decode cX3_divisor 51 = .ok (.iinc 1 1, 3) := dk_132 1 1 (dk_at dksX3_divisor_2 5 rfl rfl)
theorem dX3_divisor_54 : decode cX3_divisor 54 = .ok (.goto (-52), 3) := dk_167 255 204 (dk_at dksX3_divisor_2 8 rfl rfl)
theorem dX3_divisor_57 : decode cX3_divisor 57 = .ok (.iconst (-1), 1) := dk_2 (dk_at dksX3_divisor_2 11 rfl rfl)
theorem dX3_divisor_58 : decode cX3_divisor 58 = .ok (.ireturn, 1) := dk_172 (dk_at dksX3_divisor_2 12 rfl rfl)
theorem q120 : (Jvm.Cond.initialized "TermDesk$Division") ∈ lw_all := lw_g (lw_at lw_m1 3 rfl) rfl
theorem q157 : (Jvm.Cond.fieldLinkNest "TermDesk$Division" (76 : Nat) "TermDesk$Row" "at" "[I" "TermDesk") ∈ lw_tbl := lw_at lw_m1 40 rfl
theorem q159 : (Jvm.Cond.fieldLinkNest "TermDesk$Division" (85 : Nat) "TermDesk$Row" "by" "[I" "TermDesk") ∈ lw_tbl := lw_at lw_m1 42 rfl
theorem q160 : (Jvm.Cond.fieldLinkNest "TermDesk$Division" (68 : Nat) "TermDesk$Row" "many" "I" "TermDesk") ∈ lw_tbl := lw_at lw_m1 43 rfl
theorem q172 : (Jvm.Cond.instantiable "TermDesk$Division" (9 : Nat)) ∈ lw_all := lw_g (lw_at lw_m1 55 rfl) rfl
theorem q174 : (Jvm.Cond.instanceMethod ({ cls := "TermDesk$Division", name := "<init>", desc := "(LTermDesk;)V" } : Jvm.MethodName)) ∈ lw_all := lw_g (lw_at lw_m1 57 rfl) rfl
theorem q175 : (Jvm.Cond.code ({ cls := "TermDesk$Division", name := "<init>", desc := "(LTermDesk;)V" } : Jvm.MethodName) prog_2_method_1_code (3 : Nat) (Option.none : Option Jvm.ClassFile.FieldType)) ∈ lw_all := lw_g (lw_at lw_m1 58 rfl) rfl
theorem q176 : (Jvm.Cond.methodLink "TermDesk$Division" (9 : Nat) ({ cls := "java/lang/Object", name := "<init>", desc := "()V" } : Jvm.MethodName)) ∈ lw_all := lw_g (lw_at lw_m1 59 rfl) rfl
theorem q177 : (Jvm.Cond.classLink "TermDesk$Division" (15 : Nat) "TermDesk$Row") ∈ lw_all := lw_g (lw_at lw_m1 60 rfl) rfl
theorem q179 : (Jvm.Cond.methodLink "TermDesk$Division" (21 : Nat) ({ cls := "TermDesk$Row", name := "<init>", desc := "(I)V" } : Jvm.MethodName)) ∈ lw_all := lw_g (lw_at lw_m1 62 rfl) rfl
theorem q180 : (Jvm.Cond.fieldLink "TermDesk$Division" (17 : Nat) "TermDesk$Division" "quotients" "[LTermDesk$Row;") ∈ lw_all := lw_g (lw_at lw_m1 63 rfl) rfl
theorem q182 : (Jvm.Cond.fieldLink "TermDesk$Division" (24 : Nat) "TermDesk$Division" "rest" "LTermDesk$Row;") ∈ lw_all := lw_g (lw_at lw_m1 65 rfl) rfl
theorem q184 : (Jvm.Cond.fieldLink "TermDesk$Division" (28 : Nat) "TermDesk$Division" "left" "LTermDesk$Row;") ∈ lw_all := lw_g (lw_at lw_m1 67 rfl) rfl
theorem q185 : (Jvm.Cond.fieldLink "TermDesk$Division" (31 : Nat) "TermDesk$Division" "next" "LTermDesk$Row;") ∈ lw_all := lw_g (lw_at lw_m1 68 rfl) rfl
theorem q186 : (Jvm.Cond.fieldLink "TermDesk$Division" (34 : Nat) "TermDesk$Division" "set" "I") ∈ lw_all := lw_g (lw_at lw_m1 69 rfl) rfl
theorem q187 : (Jvm.Cond.fieldLink "TermDesk$Division" (38 : Nat) "TermDesk$Division" "steps" "I") ∈ lw_all := lw_g (lw_at lw_m1 70 rfl) rfl
theorem q189 : (Jvm.Cond.fieldLink "TermDesk$Division" (46 : Nat) "TermDesk$Division" "most" "I") ∈ lw_all := lw_g (lw_at lw_m1 72 rfl) rfl
theorem q191 : (Jvm.Cond.fieldLink "TermDesk$Division" (49 : Nat) "TermDesk$Division" "isRoom" "Z") ∈ lw_all := lw_g (lw_at lw_m1 74 rfl) rfl
theorem q193 : (Jvm.Cond.fieldLink "TermDesk$Division" (3 : Nat) "TermDesk$Division" "this$0" "LTermDesk;") ∈ lw_all := lw_g (lw_at lw_m1 76 rfl) rfl
theorem q194 : (Jvm.Cond.laysFinal "TermDesk$Division" "TermDesk$Division" "quotients" "[LTermDesk$Row;") ∈ lw_all := lw_g (lw_at lw_m1 77 rfl) rfl
theorem q195 : (Jvm.Cond.soleField "TermDesk$Division" "quotients") ∈ lw_all := lw_g (lw_at lw_m1 78 rfl) rfl
theorem q196 : (Jvm.Cond.laysFinal "TermDesk$Division" "TermDesk$Division" "rest" "LTermDesk$Row;") ∈ lw_all := lw_g (lw_at lw_m1 79 rfl) rfl
theorem q197 : (Jvm.Cond.soleField "TermDesk$Division" "rest") ∈ lw_all := lw_g (lw_at lw_m1 80 rfl) rfl
theorem q198 : (Jvm.Cond.lays "TermDesk$Division" "TermDesk$Division" "left" "LTermDesk$Row;") ∈ lw_all := lw_g (lw_at lw_m1 81 rfl) rfl
theorem q199 : (Jvm.Cond.soleField "TermDesk$Division" "left") ∈ lw_all := lw_g (lw_at lw_m1 82 rfl) rfl
theorem q200 : (Jvm.Cond.lays "TermDesk$Division" "TermDesk$Division" "next" "LTermDesk$Row;") ∈ lw_all := lw_g (lw_at lw_m1 83 rfl) rfl
theorem q201 : (Jvm.Cond.soleField "TermDesk$Division" "next") ∈ lw_all := lw_g (lw_at lw_m1 84 rfl) rfl
theorem q202 : (Jvm.Cond.lays "TermDesk$Division" "TermDesk$Division" "set" "I") ∈ lw_all := lw_g (lw_at lw_m1 85 rfl) rfl
theorem q203 : (Jvm.Cond.soleField "TermDesk$Division" "set") ∈ lw_all := lw_g (lw_at lw_m1 86 rfl) rfl
theorem q204 : (Jvm.Cond.lays "TermDesk$Division" "TermDesk$Division" "steps" "I") ∈ lw_all := lw_g (lw_at lw_m1 87 rfl) rfl
theorem q205 : (Jvm.Cond.soleField "TermDesk$Division" "steps") ∈ lw_all := lw_g (lw_at lw_m1 88 rfl) rfl
theorem q206 : (Jvm.Cond.lays "TermDesk$Division" "TermDesk$Division" "most" "I") ∈ lw_all := lw_g (lw_at lw_m1 89 rfl) rfl
theorem q207 : (Jvm.Cond.soleField "TermDesk$Division" "most") ∈ lw_all := lw_g (lw_at lw_m1 90 rfl) rfl
theorem q208 : (Jvm.Cond.lays "TermDesk$Division" "TermDesk$Division" "isRoom" "Z") ∈ lw_all := lw_g (lw_at lw_m1 91 rfl) rfl
theorem q209 : (Jvm.Cond.soleField "TermDesk$Division" "isRoom") ∈ lw_all := lw_g (lw_at lw_m1 92 rfl) rfl
theorem q210 : (Jvm.Cond.laysFinal "TermDesk$Division" "TermDesk$Division" "this$0" "LTermDesk;") ∈ lw_all := lw_g (lw_at lw_m1 93 rfl) rfl
theorem q211 : (Jvm.Cond.soleField "TermDesk$Division" "this$0") ∈ lw_all := lw_g (lw_at lw_m1 94 rfl) rfl
theorem q212 : (Jvm.Cond.superclass "TermDesk$Division" "java/lang/Object") ∈ lw_all := lw_g (lw_at lw_m1 95 rfl) rfl
theorem q365 : (Jvm.Cond.fieldLink "TermDesk$Division" (57 : Nat) "TermDesk$Poly" "at" "[I") ∈ lw_all := lw_g (lw_at lw_m2 8 rfl) rfl
theorem q368 : (Jvm.Cond.fieldLink "TermDesk$Division" (61 : Nat) "TermDesk$Poly" "by" "[I") ∈ lw_all := lw_g (lw_at lw_m2 11 rfl) rfl
theorem q371 : (Jvm.Cond.fieldLink "TermDesk$Division" (41 : Nat) "TermDesk$Poly" "many" "I") ∈ lw_all := lw_g (lw_at lw_m2 14 rfl) rfl
theorem q383 : (Jvm.Cond.fieldLinkNest "TermDesk$Division" (92 : Nat) "TermDesk" "prime" "I" "TermDesk") ∈ lw_tbl := lw_at lw_m2 26 rfl
theorem q389 : (Jvm.Cond.fieldLinkNest "TermDesk$Division" (89 : Nat) "TermDesk" "inverse" "[I" "TermDesk") ∈ lw_tbl := lw_at lw_m2 32 rfl
theorem q404 : (Jvm.Cond.fieldLinkNest "TermDesk$Division" (72 : Nat) "TermDesk" "registers" "[LTermDesk$Poly;" "TermDesk") ∈ lw_tbl := lw_at lw_m2 47 rfl
theorem q901 : (Jvm.Cond.instanceMethod ({ cls := "TermDesk$Division", name := "done", desc := "(LTermDesk$Poly;I)LTermDesk$Division;" } : Jvm.MethodName)) ∈ lw_all := lw_g (lw_at lw_m4 64 rfl) rfl
theorem q902 : (Jvm.Cond.selects "TermDesk$Division" ({ cls := "TermDesk$Division", name := "done", desc := "(LTermDesk$Poly;I)LTermDesk$Division;" } : Jvm.MethodName) ({ cls := "TermDesk$Division", name := "done", desc := "(LTermDesk$Poly;I)LTermDesk$Division;" } : Jvm.MethodName)) ∈ lw_all := lw_g (lw_at lw_m4 65 rfl) rfl
theorem q903 : (Jvm.Cond.code ({ cls := "TermDesk$Division", name := "done", desc := "(LTermDesk$Poly;I)LTermDesk$Division;" } : Jvm.MethodName) prog_2_method_2_code (7 : Nat) (Option.some (Jvm.ClassFile.FieldType.object "TermDesk$Division"))) ∈ lw_all := lw_g (lw_at lw_m4 66 rfl) rfl
theorem q904 : (Jvm.Cond.methodLink "TermDesk$Division" (53 : Nat) ({ cls := "TermDesk$Row", name := "begins", desc := "()LTermDesk$Row;" } : Jvm.MethodName)) ∈ lw_all := lw_g (lw_at lw_m4 67 rfl) rfl
theorem q908 : (Jvm.Cond.methodLink "TermDesk$Division" (64 : Nat) ({ cls := "TermDesk$Row", name := "add", desc := "(II)V" } : Jvm.MethodName)) ∈ lw_all := lw_g (lw_at lw_m4 71 rfl) rfl
theorem q912 : (Jvm.Cond.methodLink "TermDesk$Division" (69 : Nat) ({ cls := "TermDesk$Division", name := "step", desc := "()V" } : Jvm.MethodName)) ∈ lw_all := lw_g (lw_at lw_m4 75 rfl) rfl
theorem q913 : (Jvm.Cond.privateMethod ({ cls := "TermDesk$Division", name := "step", desc := "()V" } : Jvm.MethodName)) ∈ lw_tbl := lw_at lw_m4 76 rfl
theorem q914 : (Jvm.Cond.instanceMethod ({ cls := "TermDesk$Division", name := "step", desc := "()V" } : Jvm.MethodName)) ∈ lw_all := lw_g (lw_at lw_m4 77 rfl) rfl
theorem q915 : (Jvm.Cond.code ({ cls := "TermDesk$Division", name := "step", desc := "()V" } : Jvm.MethodName) prog_2_method_4_code (5 : Nat) (Option.none : Option Jvm.ClassFile.FieldType)) ∈ lw_all := lw_g (lw_at lw_m4 78 rfl) rfl
theorem q916 : (Jvm.Cond.methodLink "TermDesk$Division" (81 : Nat) ({ cls := "TermDesk$Division", name := "divisor", desc := "()I" } : Jvm.MethodName)) ∈ lw_all := lw_g (lw_at lw_m4 79 rfl) rfl
theorem q917 : (Jvm.Cond.privateMethod ({ cls := "TermDesk$Division", name := "divisor", desc := "()I" } : Jvm.MethodName)) ∈ lw_tbl := lw_at lw_m4 80 rfl
theorem q918 : (Jvm.Cond.instanceMethod ({ cls := "TermDesk$Division", name := "divisor", desc := "()I" } : Jvm.MethodName)) ∈ lw_all := lw_g (lw_at lw_m4 81 rfl) rfl
theorem q919 : (Jvm.Cond.code ({ cls := "TermDesk$Division", name := "divisor", desc := "()I" } : Jvm.MethodName) prog_2_method_3_code (2 : Nat) (Option.some Jvm.ClassFile.FieldType.int)) ∈ lw_all := lw_g (lw_at lw_m4 82 rfl) rfl
theorem q920 : (Jvm.Cond.methodLinkNest "TermDesk$Division" (77 : Nat) ({ cls := "TermDesk", name := "goesInto", desc := "(II)Z" } : Jvm.MethodName) "TermDesk") ∈ lw_tbl := lw_at lw_m4 83 rfl
theorem q923 : (Jvm.Cond.methodLink "TermDesk$Division" (86 : Nat) ({ cls := "TermDesk$Row", name := "dropsFirst", desc := "()V" } : Jvm.MethodName)) ∈ lw_all := lw_g (lw_at lw_m4 86 rfl) rfl
theorem q930 : (Jvm.Cond.methodLinkNest "TermDesk$Division" (95 : Nat) ({ cls := "TermDesk", name := "goes", desc := "(LTermDesk$Poly;I)Z" } : Jvm.MethodName) "TermDesk") ∈ lw_tbl := lw_at lw_m4 93 rfl
theorem q933 : (Jvm.Cond.methodLinkNest "TermDesk$Division" (99 : Nat) ({ cls := "TermDesk", name := "merges", desc := "(LTermDesk$Row;[I[IILTermDesk$Poly;II)LTermDesk$Row;" } : Jvm.MethodName) "TermDesk") ∈ lw_tbl := lw_at lw_m4 96 rfl
theorem q939 : (Jvm.Cond.methodLink "TermDesk$Division" (103 : Nat) ({ cls := "java/lang/Math", name := "max", desc := "(II)I" } : Jvm.MethodName)) ∈ lw_all := lw_g (lw_at lw_m4 102 rfl) rfl
theorem q1846 : (Jvm.Cond.castable "TermDesk$Division" "java/lang/Object") ∈ lw_tbl := lw_at lw_m8 49 rfl
theorem in_X3 : ∀ w ∈ wsX30, w ∈ lw_all := lw_in wsX30 [194, 196, 198, 200, 202, 204, 206, 208, 210] (by decide +kernel) (by decide +kernel)

/-! TermDesk$Scanner -/
set_option maxRecDepth 100000
def RX4 : String := "TermDesk$Scanner"
def TX4 : u_T := fun k => match k with
  | 0 => ("TermDesk$Scanner", "wrong", "LTermDesk$Refused;", true)
  | 1 => ("TermDesk$Scanner", "signs", "[C", true)
  | 2 => ("TermDesk$Scanner", "at", "[I", true)
  | 3 => ("TermDesk$Scanner", "by", "[I", true)
  | 4 => ("TermDesk$Scanner", "many", "[I", true)
  | 5 => ("TermDesk$Scanner", "unknowns", "[I", true)
  | 6 => ("TermDesk$Scanner", "size", "I", false)
  | 7 => ("TermDesk$Scanner", "end", "I", false)
  | 8 => ("TermDesk$Scanner", "token", "I", false)
  | 9 => ("TermDesk$Scanner", "place", "I", false)
  | 10 => ("TermDesk$Scanner", "whole", "I", false)
  | 11 => ("TermDesk$Scanner", "itsPrime", "I", false)
  | 12 => ("TermDesk$Scanner", "itsHow", "I", false)
  | 13 => ("TermDesk$Scanner", "polys", "I", false)
  | 14 => ("TermDesk$Scanner", "word", "Ljava/lang/String;", false)
  | 15 => ("TermDesk$Scanner", "hasRing", "Z", false)
  | _ => ("TermDesk$Scanner", "this$0", "LTermDesk;", true)
def tyX4 : Nat → FieldType := fun k => match k with
  | 0 => .object "TermDesk$Refused"
  | 1 => .array .char
  | 2 => .array .int
  | 3 => .array .int
  | 4 => .array .int
  | 5 => .array .int
  | 6 => .int
  | 7 => .int
  | 8 => .int
  | 9 => .int
  | 10 => .int
  | 11 => .int
  | 12 => .int
  | 13 => .int
  | 14 => .object "java/lang/String"
  | 15 => .boolean
  | _ => .object "TermDesk"
abbrev wsX40 : List Cond := u_ws RX4 TX4 17
set_option maxRecDepth 100000 in
theorem nmX4 : ∀ a, a < 17 → ∀ b, b < 17 → a ≠ b → (TX4 a).2.1 ≠ (TX4 b).2.1 := by decide +kernel
set_option maxRecDepth 100000 in
theorem tyX4_ok : ∀ k, k < 17 → parseFieldDescriptor (TX4 k).2.2.1 = some (tyX4 k) := by decide +kernel
abbrev cX4_init : ByteArray := prog_8_method_1_code
def yX4_init : MethodName := ⟨RX4, "<init>", "(LTermDesk;)V"⟩
def dkwX4_init_2 : List UInt8 := [181, 0, 33, 42, 6, 188, 10, 181, 0, 36, 177]
abbrev dktX4_init_2 : List UInt8 := dkwX4_init_2 ++ []
def dkwX4_init_1 : List UInt8 := [181, 0, 22, 42, 16, 72, 188, 10, 181, 0, 26, 42, 16, 72, 188, 10, 181, 0, 30, 42, 16, 6, 188, 10]
abbrev dktX4_init_1 : List UInt8 := dkwX4_init_1 ++ dktX4_init_2
def dkwX4_init_0 : List UInt8 := [42, 43, 181, 0, 3, 42, 183, 0, 9, 42, 187, 0, 15, 89, 183, 0, 17, 181, 0, 18, 42, 8, 188, 5]
abbrev dktX4_init_0 : List UInt8 := dkwX4_init_0 ++ dktX4_init_1
theorem dksX4_init_0 : cX4_init.data.toList.drop 0 = dktX4_init_0 := by decide +kernel
theorem dksX4_init_1 : cX4_init.data.toList.drop 24 = dktX4_init_1 := dk_seg dksX4_init_0 24 rfl rfl
theorem dksX4_init_2 : cX4_init.data.toList.drop 48 = dktX4_init_2 := dk_seg dksX4_init_1 24 rfl rfl
theorem dX4_init_0 : decode cX4_init 0 = .ok (.aload_n 0, 1) := dk_42 (dk_at dksX4_init_0 0 rfl rfl)
theorem dX4_init_1 : decode cX4_init 1 = .ok (.aload_n 1, 1) := dk_43 (dk_at dksX4_init_0 1 rfl rfl)
theorem dX4_init_2 : decode cX4_init 2 = .ok (.putfield 3, 3) := dk_181 0 3 (dk_at dksX4_init_0 2 rfl rfl)
theorem dX4_init_5 : decode cX4_init 5 = .ok (.aload_n 0, 1) := dk_42 (dk_at dksX4_init_0 5 rfl rfl)
theorem dX4_init_6 : decode cX4_init 6 = .ok (.invokespecial 9, 3) := dk_183 0 9 (dk_at dksX4_init_0 6 rfl rfl)
theorem dX4_init_9 : decode cX4_init 9 = .ok (.aload_n 0, 1) := dk_42 (dk_at dksX4_init_0 9 rfl rfl)
theorem dX4_init_10 : decode cX4_init 10 = .ok (.new 15, 3) := dk_187 0 15 (dk_at dksX4_init_0 10 rfl rfl)
theorem dX4_init_13 : decode cX4_init 13 = .ok (.dup, 1) := dk_89 (dk_at dksX4_init_0 13 rfl rfl)
theorem dX4_init_14 : decode cX4_init 14 = .ok (.invokespecial 17, 3) := dk_183 0 17 (dk_at dksX4_init_0 14 rfl rfl)
theorem dX4_init_17 : decode cX4_init 17 = .ok (.putfield 18, 3) := dk_181 0 18 (dk_at dksX4_init_0 17 rfl rfl)
theorem dX4_init_20 : decode cX4_init 20 = .ok (.aload_n 0, 1) := dk_42 (dk_at dksX4_init_0 20 rfl rfl)
theorem dX4_init_21 : decode cX4_init 21 = .ok (.iconst 5, 1) := dk_8 (dk_at dksX4_init_0 21 rfl rfl)
theorem dX4_init_22 : decode cX4_init 22 = .ok (.newarray .char, 2) := dk_188_5 (dk_at dksX4_init_0 22 rfl rfl)
theorem dX4_init_24 : decode cX4_init 24 = .ok (.putfield 22, 3) := dk_181 0 22 (dk_at dksX4_init_1 0 rfl rfl)
theorem dX4_init_27 : decode cX4_init 27 = .ok (.aload_n 0, 1) := dk_42 (dk_at dksX4_init_1 3 rfl rfl)
theorem dX4_init_28 : decode cX4_init 28 = .ok (.bipush 72, 2) := dk_16 72 (dk_at dksX4_init_1 4 rfl rfl)
theorem dX4_init_30 : decode cX4_init 30 = .ok (.newarray .int, 2) := dk_188_10 (dk_at dksX4_init_1 6 rfl rfl)
theorem dX4_init_32 : decode cX4_init 32 = .ok (.putfield 26, 3) := dk_181 0 26 (dk_at dksX4_init_1 8 rfl rfl)
theorem dX4_init_35 : decode cX4_init 35 = .ok (.aload_n 0, 1) := dk_42 (dk_at dksX4_init_1 11 rfl rfl)
theorem dX4_init_36 : decode cX4_init 36 = .ok (.bipush 72, 2) := dk_16 72 (dk_at dksX4_init_1 12 rfl rfl)
theorem dX4_init_38 : decode cX4_init 38 = .ok (.newarray .int, 2) := dk_188_10 (dk_at dksX4_init_1 14 rfl rfl)
theorem dX4_init_40 : decode cX4_init 40 = .ok (.putfield 30, 3) := dk_181 0 30 (dk_at dksX4_init_1 16 rfl rfl)
theorem dX4_init_43 : decode cX4_init 43 = .ok (.aload_n 0, 1) := dk_42 (dk_at dksX4_init_1 19 rfl rfl)
theorem dX4_init_44 : decode cX4_init 44 = .ok (.bipush 6, 2) := dk_16 6 (dk_at dksX4_init_1 20 rfl rfl)
theorem dX4_init_46 : decode cX4_init 46 = .ok (.newarray .int, 2) := dk_188_10 (dk_at dksX4_init_1 22 rfl rfl)
theorem dX4_init_48 : decode cX4_init 48 = .ok (.putfield 33, 3) := dk_181 0 33 (dk_at dksX4_init_2 0 rfl rfl)
theorem dX4_init_51 : decode cX4_init 51 = .ok (.aload_n 0, 1) := dk_42 (dk_at dksX4_init_2 3 rfl rfl)
theorem dX4_init_52 : decode cX4_init 52 = .ok (.iconst 3, 1) := dk_6 (dk_at dksX4_init_2 4 rfl rfl)
theorem dX4_init_53 : decode cX4_init 53 = .ok (.newarray .int, 2) := dk_188_10 (dk_at dksX4_init_2 5 rfl rfl)
theorem dX4_init_55 : decode cX4_init 55 = .ok (.putfield 36, 3) := dk_181 0 36 (dk_at dksX4_init_2 7 rfl rfl)
theorem dX4_init_58 : decode cX4_init 58 = .ok (.return_, 1) := dk_177 (dk_at dksX4_init_2 10 rfl rfl)
abbrev cX4_read : ByteArray := prog_8_method_12_code
def yX4_read : MethodName := ⟨RX4, "read", "(I)V"⟩
def dkwX4_read_3 : List UInt8 := [182, 0, 123, 177]
abbrev dktX4_read_3 : List UInt8 := dkwX4_read_3 ++ []
def dkwX4_read_2 : List UInt8 := [42, 42, 180, 0, 64, 154, 0, 7, 4, 167, 0, 4, 3, 182, 0, 100, 42, 42, 180, 0, 113, 16, 6]
abbrev dktX4_read_2 : List UInt8 := dkwX4_read_2 ++ dktX4_read_3
def dkwX4_read_1 : List UInt8 := [42, 182, 0, 120, 42, 180, 0, 64, 16, 59, 160, 0, 14, 42, 182, 0, 104, 42, 182, 0, 120, 167, 255, 239]
abbrev dktX4_read_1 : List UInt8 := dkwX4_read_1 ++ dktX4_read_2
def dkwX4_read_0 : List UInt8 := [42, 27, 181, 0, 46, 42, 3, 181, 0, 57, 42, 3, 181, 0, 113, 42, 3, 181, 0, 117, 42, 182, 0, 104]
abbrev dktX4_read_0 : List UInt8 := dkwX4_read_0 ++ dktX4_read_1
theorem dksX4_read_0 : cX4_read.data.toList.drop 0 = dktX4_read_0 := by decide +kernel
theorem dksX4_read_1 : cX4_read.data.toList.drop 24 = dktX4_read_1 := dk_seg dksX4_read_0 24 rfl rfl
theorem dksX4_read_2 : cX4_read.data.toList.drop 48 = dktX4_read_2 := dk_seg dksX4_read_1 24 rfl rfl
theorem dksX4_read_3 : cX4_read.data.toList.drop 71 = dktX4_read_3 := dk_seg dksX4_read_2 23 rfl rfl
theorem dX4_read_0 : decode cX4_read 0 = .ok (.aload_n 0, 1) := dk_42 (dk_at dksX4_read_0 0 rfl rfl)
theorem dX4_read_1 : decode cX4_read 1 = .ok (.iload_n 1, 1) := dk_27 (dk_at dksX4_read_0 1 rfl rfl)
theorem dX4_read_2 : decode cX4_read 2 = .ok (.putfield 46, 3) := dk_181 0 46 (dk_at dksX4_read_0 2 rfl rfl)
theorem dX4_read_5 : decode cX4_read 5 = .ok (.aload_n 0, 1) := dk_42 (dk_at dksX4_read_0 5 rfl rfl)
theorem dX4_read_6 : decode cX4_read 6 = .ok (.iconst 0, 1) := dk_3 (dk_at dksX4_read_0 6 rfl rfl)
theorem dX4_read_7 : decode cX4_read 7 = .ok (.putfield 57, 3) := dk_181 0 57 (dk_at dksX4_read_0 7 rfl rfl)
theorem dX4_read_10 : decode cX4_read 10 = .ok (.aload_n 0, 1) := dk_42 (dk_at dksX4_read_0 10 rfl rfl)
theorem dX4_read_11 : decode cX4_read 11 = .ok (.iconst 0, 1) := dk_3 (dk_at dksX4_read_0 11 rfl rfl)
theorem dX4_read_12 : decode cX4_read 12 = .ok (.putfield 113, 3) := dk_181 0 113 (dk_at dksX4_read_0 12 rfl rfl)
theorem dX4_read_15 : decode cX4_read 15 = .ok (.aload_n 0, 1) := dk_42 (dk_at dksX4_read_0 15 rfl rfl)
theorem dX4_read_16 : decode cX4_read 16 = .ok (.iconst 0, 1) := dk_3 (dk_at dksX4_read_0 16 rfl rfl)
theorem dX4_read_17 : decode cX4_read 17 = .ok (.putfield 117, 3) := dk_181 0 117 (dk_at dksX4_read_0 17 rfl rfl)
theorem dX4_read_20 : decode cX4_read 20 = .ok (.aload_n 0, 1) := dk_42 (dk_at dksX4_read_0 20 rfl rfl)
theorem dX4_read_21 : decode cX4_read 21 = .ok (.invokevirtual 104, 3) := dk_182 0 104 (dk_at dksX4_read_0 21 rfl rfl)
theorem dX4_read_24 : decode cX4_read 24 = .ok (.aload_n 0, 1) := dk_42 (dk_at dksX4_read_1 0 rfl rfl)
theorem dX4_read_25 : decode cX4_read 25 = .ok (.invokevirtual 120, 3) := dk_182 0 120 (dk_at dksX4_read_1 1 rfl rfl)
theorem dX4_read_28 : decode cX4_read 28 = .ok (.aload_n 0, 1) := dk_42 (dk_at dksX4_read_1 4 rfl rfl)
theorem dX4_read_29 : decode cX4_read 29 = .ok (.getfield 64, 3) := dk_180 0 64 (dk_at dksX4_read_1 5 rfl rfl)
theorem dX4_read_32 : decode cX4_read 32 = .ok (.bipush 59, 2) := dk_16 59 (dk_at dksX4_read_1 8 rfl rfl)
theorem dX4_read_34 : decode cX4_read 34 = .ok (.if_icmp .ne 14, 3) := dk_160 0 14 (dk_at dksX4_read_1 10 rfl rfl)
theorem dX4_read_37 : decode cX4_read 37 = .ok (.aload_n 0, 1) := dk_42 (dk_at dksX4_read_1 13 rfl rfl)
theorem dX4_read_38 : decode cX4_read 38 = .ok (.invokevirtual 104, 3) := dk_182 0 104 (dk_at dksX4_read_1 14 rfl rfl)
theorem dX4_read_41 : decode cX4_read 41 = .ok (.aload_n 0, 1) := dk_42 (dk_at dksX4_read_1 17 rfl rfl)
theorem dX4_read_42 : decode cX4_read 42 = .ok (.invokevirtual 120, 3) := dk_182 0 120 (dk_at dksX4_read_1 18 rfl rfl)
theorem dX4_read_45 : decode cX4_read 45 = .ok (.goto (-17), 3) := dk_167 255 239 (dk_at dksX4_read_1 21 rfl rfl)
theorem dX4_read_48 : decode cX4_read 48 = .ok (.aload_n 0, 1) := dk_42 (dk_at dksX4_read_2 0 rfl rfl)
theorem dX4_read_49 : decode cX4_read 49 = .ok (.aload_n 0, 1) := dk_42 (dk_at dksX4_read_2 1 rfl rfl)
theorem dX4_read_50 : decode cX4_read 50 = .ok (.getfield 64, 3) := dk_180 0 64 (dk_at dksX4_read_2 2 rfl rfl)
theorem dX4_read_53 : decode cX4_read 53 = .ok (.ifCond .ne 7, 3) := dk_154 0 7 (dk_at dksX4_read_2 5 rfl rfl)
theorem dX4_read_56 : decode cX4_read 56 = .ok (.iconst 1, 1) := dk_4 (dk_at dksX4_read_2 8 rfl rfl)
theorem dX4_read_57 : decode cX4_read 57 = .ok (.goto 4, 3) := dk_167 0 4 (dk_at dksX4_read_2 9 rfl rfl)
theorem dX4_read_60 : decode cX4_read 60 = .ok (.iconst 0, 1) := dk_3 (dk_at dksX4_read_2 12 rfl rfl)
theorem dX4_read_61 : decode cX4_read 61 = .ok (.invokevirtual 100, 3) := dk_182 0 100 (dk_at dksX4_read_2 13 rfl rfl)
theorem dX4_read_64 : decode cX4_read 64 = .ok (.aload_n 0, 1) := dk_42 (dk_at dksX4_read_2 16 rfl rfl)
theorem dX4_read_65 : decode cX4_read 65 = .ok (.aload_n 0, 1) := dk_42 (dk_at dksX4_read_2 17 rfl rfl)
theorem dX4_read_66 : decode cX4_read 66 = .ok (.getfield 113, 3) := dk_180 0 113 (dk_at dksX4_read_2 18 rfl rfl)
theorem dX4_read_69 : decode cX4_read 69 = .ok (.bipush 6, 2) := dk_16 6 (dk_at dksX4_read_2 21 rfl rfl)
theorem dX4_read_71 : decode cX4_read 71 = .ok (.invokevirtual 123, 3) := dk_182 0 123 (dk_at dksX4_read_3 0 rfl rfl)
theorem dX4_read_74 : decode cX4_read 74 = .ok (.return_, 1) := dk_177 (dk_at dksX4_read_3 3 rfl rfl)
abbrev cX4_step : ByteArray := prog_8_method_6_code
def yX4_step : MethodName := ⟨RX4, "step", "()V"⟩
def dkwX4_step_13 : List UInt8 := [160, 0, 7, 28, 167, 0, 4, 4, 181, 0, 64, 177]
abbrev dktX4_step_13 : List UInt8 := dkwX4_step_13 ++ []
def dkwX4_step_12 : List UInt8 := [181, 0, 64, 167, 0, 30, 42, 28, 16, 59, 159, 0, 15, 28, 16, 43, 159, 0, 9, 28, 16, 45]
abbrev dktX4_step_12 : List UInt8 := dkwX4_step_12 ++ dktX4_step_13
def dkwX4_step_11 : List UInt8 := [4, 96, 181, 0, 57, 167, 255, 198, 42, 42, 180, 0, 57, 27, 100, 7, 164, 0, 7, 4, 167, 0, 4, 6]
abbrev dktX4_step_11 : List UInt8 := dkwX4_step_11 ++ dktX4_step_12
def dkwX4_step_10 : List UInt8 := [180, 0, 85, 104, 42, 42, 180, 0, 57, 182, 0, 60, 96, 16, 48, 100, 181, 0, 85, 42, 89, 180, 0, 57]
abbrev dktX4_step_10 : List UInt8 := dkwX4_step_10 ++ dktX4_step_11
def dkwX4_step_9 : List UInt8 := [182, 0, 60, 182, 0, 82, 153, 0, 49, 42, 180, 0, 57, 27, 100, 7, 162, 0, 26, 42, 16, 10, 42]
abbrev dktX4_step_9 : List UInt8 := dkwX4_step_9 ++ dktX4_step_10
def dkwX4_step_8 : List UInt8 := [182, 0, 82, 153, 0, 96, 42, 3, 181, 0, 85, 42, 27, 181, 0, 57, 42, 42, 42, 180, 0, 57]
abbrev dktX4_step_8 : List UInt8 := dkwX4_step_8 ++ dktX4_step_9
def dkwX4_step_7 : List UInt8 := [3, 42, 180, 0, 57, 27, 100, 183, 0, 73, 167, 0, 5, 18, 76, 181, 0, 78, 167, 0, 131, 42, 28]
abbrev dktX4_step_7 : List UInt8 := dkwX4_step_7 ++ dktX4_step_8
def dkwX4_step_6 : List UInt8 := [167, 0, 4, 5, 181, 0, 64, 42, 42, 180, 0, 64, 5, 160, 0, 24, 187, 0, 71, 89, 42, 180, 0, 22]
abbrev dktX4_step_6 : List UInt8 := dkwX4_step_6 ++ dktX4_step_7
def dkwX4_step_5 : List UInt8 := [89, 180, 0, 57, 4, 96, 181, 0, 57, 167, 255, 201, 42, 42, 180, 0, 57, 27, 100, 8, 164, 0, 7, 4]
abbrev dktX4_step_5 : List UInt8 := dkwX4_step_5 ++ dktX4_step_6
def dkwX4_step_4 : List UInt8 := [162, 0, 23, 42, 180, 0, 22, 42, 180, 0, 57, 27, 100, 42, 42, 180, 0, 57, 182, 0, 60, 146, 85, 42]
abbrev dktX4_step_4 : List UInt8 := dkwX4_step_4 ++ dktX4_step_5
def dkwX4_step_3 : List UInt8 := [42, 42, 42, 180, 0, 57, 182, 0, 60, 182, 0, 67, 153, 0, 46, 42, 180, 0, 57, 27, 100, 8]
abbrev dktX4_step_3 : List UInt8 := dkwX4_step_3 ++ dktX4_step_4
def dkwX4_step_2 : List UInt8 := [181, 0, 64, 42, 27, 181, 0, 57, 167, 1, 3, 42, 28, 182, 0, 67, 153, 0, 123, 42, 27, 181, 0, 57]
abbrev dktX4_step_2 : List UInt8 := dkwX4_step_2 ++ dktX4_step_3
def dkwX4_step_1 : List UInt8 := [181, 0, 39, 42, 27, 4, 96, 181, 0, 57, 42, 27, 182, 0, 60, 61, 28, 2, 160, 0, 16, 42, 3]
abbrev dktX4_step_1 : List UInt8 := dkwX4_step_1 ++ dktX4_step_2
def dkwX4_step_0 : List UInt8 := [42, 180, 0, 57, 60, 42, 27, 182, 0, 60, 16, 32, 160, 0, 9, 132, 1, 1, 167, 255, 243, 42, 27]
abbrev dktX4_step_0 : List UInt8 := dkwX4_step_0 ++ dktX4_step_1
theorem dksX4_step_0 : cX4_step.data.toList.drop 0 = dktX4_step_0 := by decide +kernel
theorem dksX4_step_1 : cX4_step.data.toList.drop 23 = dktX4_step_1 := dk_seg dksX4_step_0 23 rfl rfl
theorem dksX4_step_2 : cX4_step.data.toList.drop 46 = dktX4_step_2 := dk_seg dksX4_step_1 23 rfl rfl
theorem dksX4_step_3 : cX4_step.data.toList.drop 70 = dktX4_step_3 := dk_seg dksX4_step_2 24 rfl rfl
theorem dksX4_step_4 : cX4_step.data.toList.drop 92 = dktX4_step_4 := dk_seg dksX4_step_3 22 rfl rfl
theorem dksX4_step_5 : cX4_step.data.toList.drop 116 = dktX4_step_5 := dk_seg dksX4_step_4 24 rfl rfl
theorem dksX4_step_6 : cX4_step.data.toList.drop 140 = dktX4_step_6 := dk_seg dksX4_step_5 24 rfl rfl
theorem dksX4_step_7 : cX4_step.data.toList.drop 164 = dktX4_step_7 := dk_seg dksX4_step_6 24 rfl rfl
theorem dksX4_step_8 : cX4_step.data.toList.drop 187 = dktX4_step_8 := dk_seg dksX4_step_7 23 rfl rfl
theorem dksX4_step_9 : cX4_step.data.toList.drop 209 = dktX4_step_9 := dk_seg dksX4_step_8 22 rfl rfl
theorem dksX4_step_10 : cX4_step.data.toList.drop 232 = dktX4_step_10 := dk_seg dksX4_step_9 23 rfl rfl
theorem dksX4_step_11 : cX4_step.data.toList.drop 256 = dktX4_step_11 := dk_seg dksX4_step_10 24 rfl rfl
theorem dksX4_step_12 : cX4_step.data.toList.drop 280 = dktX4_step_12 := dk_seg dksX4_step_11 24 rfl rfl
theorem dksX4_step_13 : cX4_step.data.toList.drop 302 = dktX4_step_13 := dk_seg dksX4_step_12 22 rfl rfl
theorem dX4_step_0 : decode cX4_step 0 = .ok (.aload_n 0, 1) := dk_42 (dk_at dksX4_step_0 0 rfl rfl)
theorem dX4_step_1 : decode cX4_step 1 = .ok (.getfield 57, 3) := dk_180 0 57 (dk_at dksX4_step_0 1 rfl rfl)
theorem dX4_step_4 : decode cX4_step 4 = .ok (.istore_n 1, 1) := dk_60 (dk_at dksX4_step_0 4 rfl rfl)
theorem dX4_step_5 : decode cX4_step 5 = .ok (.aload_n 0, 1) := dk_42 (dk_at dksX4_step_0 5 rfl rfl)
theorem dX4_step_6 : decode cX4_step 6 = .ok (.iload_n 1, 1) := dk_27 (dk_at dksX4_step_0 6 rfl rfl)
theorem dX4_step_7 : decode cX4_step 7 = .ok (.invokevirtual 60, 3) := dk_182 0 60 (dk_at dksX4_step_0 7 rfl rfl)
theorem dX4_step_10 : decode cX4_step 10 = .ok (.bipush 32, 2) := dk_16 32 (dk_at dksX4_step_0 10 rfl rfl)
theorem dX4_step_12 : decode cX4_step 12 = .ok (.if_icmp .ne 9, 3) := dk_160 0 9 (dk_at dksX4_step_0 12 rfl rfl)
theorem dX4_step_15 : decode cX4_step 15 = .ok (.iinc 1 1, 3) := dk_132 1 1 (dk_at dksX4_step_0 15 rfl rfl)
theorem dX4_step_18 : decode cX4_step 18 = .ok (.goto (-13), 3) := dk_167 255 243 (dk_at dksX4_step_0 18 rfl rfl)
theorem dX4_step_21 : decode cX4_step 21 = .ok (.aload_n 0, 1) := dk_42 (dk_at dksX4_step_0 21 rfl rfl)
theorem dX4_step_22 : decode cX4_step 22 = .ok (.iload_n 1, 1) := dk_27 (dk_at dksX4_step_0 22 rfl rfl)
theorem dX4_step_23 : decode cX4_step 23 = .ok (.putfield 39, 3) := dk_181 0 39 (dk_at dksX4_step_1 0 rfl rfl)
theorem dX4_step_26 : decode cX4_step 26 = .ok (.aload_n 0, 1) := dk_42 (dk_at dksX4_step_1 3 rfl rfl)
theorem dX4_step_27 : decode cX4_step 27 = .ok (.iload_n 1, 1) := dk_27 (dk_at dksX4_step_1 4 rfl rfl)
theorem dX4_step_28 : decode cX4_step 28 = .ok (.iconst 1, 1) := dk_4 (dk_at dksX4_step_1 5 rfl rfl)
theorem dX4_step_29 : decode cX4_step 29 = .ok (.iadd, 1) := dk_96 (dk_at dksX4_step_1 6 rfl rfl)
theorem dX4_step_30 : decode cX4_step 30 = .ok (.putfield 57, 3) := dk_181 0 57 (dk_at dksX4_step_1 7 rfl rfl)
theorem dX4_step_33 : decode cX4_step 33 = .ok (.aload_n 0, 1) := dk_42 (dk_at dksX4_step_1 10 rfl rfl)
theorem dX4_step_34 : decode cX4_step 34 = .ok (.iload_n 1, 1) := dk_27 (dk_at dksX4_step_1 11 rfl rfl)
theorem dX4_step_35 : decode cX4_step 35 = .ok (.invokevirtual 60, 3) := dk_182 0 60 (dk_at dksX4_step_1 12 rfl rfl)
theorem dX4_step_38 : decode cX4_step 38 = .ok (.istore_n 2, 1) := dk_61 (dk_at dksX4_step_1 15 rfl rfl)
theorem dX4_step_39 : decode cX4_step 39 = .ok (.iload_n 2, 1) := dk_28 (dk_at dksX4_step_1 16 rfl rfl)
theorem dX4_step_40 : decode cX4_step 40 = .ok (.iconst (-1), 1) := dk_2 (dk_at dksX4_step_1 17 rfl rfl)
theorem dX4_step_41 : decode cX4_step 41 = .ok (.if_icmp .ne 16, 3) := dk_160 0 16 (dk_at dksX4_step_1 18 rfl rfl)
theorem dX4_step_44 : decode cX4_step 44 = .ok (.aload_n 0, 1) := dk_42 (dk_at dksX4_step_1 21 rfl rfl)
theorem dX4_step_45 : decode cX4_step 45 = .ok (.iconst 0, 1) := dk_3 (dk_at dksX4_step_1 22 rfl rfl)
theorem dX4_step_46 : decode cX4_step 46 = .ok (.putfield 64, 3) := dk_181 0 64 (dk_at dksX4_step_2 0 rfl rfl)
theorem dX4_step_49 : decode cX4_step 49 = .ok (.aload_n 0, 1) := dk_42 (dk_at dksX4_step_2 3 rfl rfl)
theorem dX4_step_50 : decode cX4_step 50 = .ok (.iload_n 1, 1) := dk_27 (dk_at dksX4_step_2 4 rfl rfl)
theorem dX4_step_51 : decode cX4_step 51 = .ok (.putfield 57, 3) := dk_181 0 57 (dk_at dksX4_step_2 5 rfl rfl)
theorem dX4_step_54 : decode cX4_step 54 = .ok (.goto 259, 3) := dk_167 1 3 (dk_at dksX4_step_2 8 rfl rfl)
theorem dX4_step_57 : decode cX4_step 57 = .ok (.aload_n 0, 1) := dk_42 (dk_at dksX4_step_2 11 rfl rfl)
theorem dX4_step_58 : decode cX4_step 58 = .ok (.iload_n 2, 1) := dk_28 (dk_at dksX4_step_2 12 rfl rfl)
theorem dX4_step_59 : decode cX4_step 59 = .ok (.invokevirtual 67, 3) := dk_182 0 67 (dk_at dksX4_step_2 13 rfl rfl)
theorem dX4_step_62 : decode cX4_step 62 = .ok (.ifCond .eq 123, 3) := dk_153 0 123 (dk_at dksX4_step_2 16 rfl rfl)
theorem dX4_step_65 : decode cX4_step 65 = .ok (.aload_n 0, 1) := dk_42 (dk_at dksX4_step_2 19 rfl rfl)
theorem dX4_step_66 : decode cX4_step 66 = .ok (.iload_n 1, 1) := dk_27 (dk_at dksX4_step_2 20 rfl rfl)
theorem dX4_step_67 : decode cX4_step 67 = .ok (.putfield 57, 3) := dk_181 0 57 (dk_at dksX4_step_2 21 rfl rfl)
theorem dX4_step_70 : decode cX4_step 70 = .ok (.aload_n 0, 1) := dk_42 (dk_at dksX4_step_3 0 rfl rfl)
theorem dX4_step_71 : decode cX4_step 71 = .ok (.aload_n 0, 1) := dk_42 (dk_at dksX4_step_3 1 rfl rfl)
theorem dX4_step_72 : decode cX4_step 72 = .ok (.aload_n 0, 1) := dk_42 (dk_at dksX4_step_3 2 rfl rfl)
theorem dX4_step_73 : decode cX4_step 73 = .ok (.getfield 57, 3) := dk_180 0 57 (dk_at dksX4_step_3 3 rfl rfl)
theorem dX4_step_76 : decode cX4_step 76 = .ok (.invokevirtual 60, 3) := dk_182 0 60 (dk_at dksX4_step_3 6 rfl rfl)
theorem dX4_step_79 : decode cX4_step 79 = .ok (.invokevirtual 67, 3) := dk_182 0 67 (dk_at dksX4_step_3 9 rfl rfl)
theorem dX4_step_82 : decode cX4_step 82 = .ok (.ifCond .eq 46, 3) := dk_153 0 46 (dk_at dksX4_step_3 12 rfl rfl)
theorem dX4_step_85 : decode cX4_step 85 = .ok (.aload_n 0, 1) := dk_42 (dk_at dksX4_step_3 15 rfl rfl)
theorem dX4_step_86 : decode cX4_step 86 = .ok (.getfield 57, 3) := dk_180 0 57 (dk_at dksX4_step_3 16 rfl rfl)
theorem dX4_step_89 : decode cX4_step 89 = .ok (.iload_n 1, 1) := dk_27 (dk_at dksX4_step_3 19 rfl rfl)
theorem dX4_step_90 : decode cX4_step 90 = .ok (.isub, 1) := dk_100 (dk_at dksX4_step_3 20 rfl rfl)
theorem dX4_step_91 : decode cX4_step 91 = .ok (.iconst 5, 1) := dk_8 (dk_at dksX4_step_3 21 rfl rfl)
theorem dX4_step_92 : decode cX4_step 92 = .ok (.if_icmp .ge 23, 3) := dk_162 0 23 (dk_at dksX4_step_4 0 rfl rfl)
theorem dX4_step_95 : decode cX4_step 95 = .ok (.aload_n 0, 1) := dk_42 (dk_at dksX4_step_4 3 rfl rfl)
theorem dX4_step_96 : decode cX4_step 96 = .ok (.getfield 22, 3) := dk_180 0 22 (dk_at dksX4_step_4 4 rfl rfl)
theorem dX4_step_99 : decode cX4_step 99 = .ok (.aload_n 0, 1) := dk_42 (dk_at dksX4_step_4 7 rfl rfl)
theorem dX4_step_100 : decode cX4_step 100 = .ok (.getfield 57, 3) := dk_180 0 57 (dk_at dksX4_step_4 8 rfl rfl)
theorem dX4_step_103 : decode cX4_step 103 = .ok (.iload_n 1, 1) := dk_27 (dk_at dksX4_step_4 11 rfl rfl)
theorem dX4_step_104 : decode cX4_step 104 = .ok (.isub, 1) := dk_100 (dk_at dksX4_step_4 12 rfl rfl)
theorem dX4_step_105 : decode cX4_step 105 = .ok (.aload_n 0, 1) := dk_42 (dk_at dksX4_step_4 13 rfl rfl)
theorem dX4_step_106 : decode cX4_step 106 = .ok (.aload_n 0, 1) := dk_42 (dk_at dksX4_step_4 14 rfl rfl)
theorem dX4_step_107 : decode cX4_step 107 = .ok (.getfield 57, 3) := dk_180 0 57 (dk_at dksX4_step_4 15 rfl rfl)
theorem dX4_step_110 : decode cX4_step 110 = .ok (.invokevirtual 60, 3) := dk_182 0 60 (dk_at dksX4_step_4 18 rfl rfl)
theorem dX4_step_113 : decode cX4_step 113 = .ok (.i2c, 1) := dk_146 (dk_at dksX4_step_4 21 rfl rfl)
theorem dX4_step_114 : decode cX4_step 114 = .ok (.castore, 1) := dk_85 (dk_at dksX4_step_4 22 rfl rfl)
theorem dX4_step_115 : decode cX4_step 115 = .ok (.aload_n 0, 1) := dk_42 (dk_at dksX4_step_4 23 rfl rfl)
theorem dX4_step_116 : decode cX4_step 116 = .ok (.dup, 1) := dk_89 (dk_at dksX4_step_5 0 rfl rfl)
theorem dX4_step_117 : decode cX4_step 117 = .ok (.getfield 57, 3) := dk_180 0 57 (dk_at dksX4_step_5 1 rfl rfl)
theorem dX4_step_120 : decode cX4_step 120 = .ok (.iconst 1, 1) := dk_4 (dk_at dksX4_step_5 4 rfl rfl)
theorem dX4_step_121 : decode cX4_step 121 = .ok (.iadd, 1) := dk_96 (dk_at dksX4_step_5 5 rfl rfl)
theorem dX4_step_122 : decode cX4_step 122 = .ok (.putfield 57, 3) := dk_181 0 57 (dk_at dksX4_step_5 6 rfl rfl)
theorem dX4_step_125 : decode cX4_step 125 = .ok (.goto (-55), 3) := dk_167 255 201 (dk_at dksX4_step_5 9 rfl rfl)
theorem dX4_step_128 : decode cX4_step 128 = .ok (.aload_n 0, 1) := dk_42 (dk_at dksX4_step_5 12 rfl rfl)
theorem dX4_step_129 : decode cX4_step 129 = .ok (.aload_n 0, 1) := dk_42 (dk_at dksX4_step_5 13 rfl rfl)
theorem dX4_step_130 : decode cX4_step 130 = .ok (.getfield 57, 3) := dk_180 0 57 (dk_at dksX4_step_5 14 rfl rfl)
theorem dX4_step_133 : decode cX4_step 133 = .ok (.iload_n 1, 1) := dk_27 (dk_at dksX4_step_5 17 rfl rfl)
theorem dX4_step_134 : decode cX4_step 134 = .ok (.isub, 1) := dk_100 (dk_at dksX4_step_5 18 rfl rfl)
theorem dX4_step_135 : decode cX4_step 135 = .ok (.iconst 5, 1) := dk_8 (dk_at dksX4_step_5 19 rfl rfl)
theorem dX4_step_136 : decode cX4_step 136 = .ok (.if_icmp .le 7, 3) := dk_164 0 7 (dk_at dksX4_step_5 20 rfl rfl)
theorem dX4_step_139 : decode cX4_step 139 = .ok (.iconst 1, 1) := dk_4 (dk_at dksX4_step_5 23 rfl rfl)
theorem dX4_step_140 : decode cX4_step 140 = .ok (.goto 4, 3) := dk_167 0 4 (dk_at dksX4_step_6 0 rfl rfl)
theorem dX4_step_143 : decode cX4_step 143 = .ok (.iconst 2, 1) := dk_5 (dk_at dksX4_step_6 3 rfl rfl)
theorem dX4_step_144 : decode cX4_step 144 = .ok (.putfield 64, 3) := dk_181 0 64 (dk_at dksX4_step_6 4 rfl rfl)
theorem dX4_step_147 : decode cX4_step 147 = .ok (.aload_n 0, 1) := dk_42 (dk_at dksX4_step_6 7 rfl rfl)
theorem dX4_step_148 : decode cX4_step 148 = .ok (.aload_n 0, 1) := dk_42 (dk_at dksX4_step_6 8 rfl rfl)
theorem dX4_step_149 : decode cX4_step 149 = .ok (.getfield 64, 3) := dk_180 0 64 (dk_at dksX4_step_6 9 rfl rfl)
theorem dX4_step_152 : decode cX4_step 152 = .ok (.iconst 2, 1) := dk_5 (dk_at dksX4_step_6 12 rfl rfl)
theorem dX4_step_153 : decode cX4_step 153 = .ok (.if_icmp .ne 24, 3) := dk_160 0 24 (dk_at dksX4_step_6 13 rfl rfl)
theorem dX4_step_156 : decode cX4_step 156 = .ok (.new 71, 3) := dk_187 0 71 (dk_at dksX4_step_6 16 rfl rfl)
theorem dX4_step_159 : decode cX4_step 159 = .ok (.dup, 1) := dk_89 (dk_at dksX4_step_6 19 rfl rfl)
theorem dX4_step_160 : decode cX4_step 160 = .ok (.aload_n 0, 1) := dk_42 (dk_at dksX4_step_6 20 rfl rfl)
theorem dX4_step_161 : decode cX4_step 161 = .ok (.getfield 22, 3) := dk_180 0 22 (dk_at dksX4_step_6 21 rfl rfl)
theorem dX4_step_164 : decode cX4_step 164 = .ok (.iconst 0, 1) := dk_3 (dk_at dksX4_step_7 0 rfl rfl)
theorem dX4_step_165 : decode cX4_step 165 = .ok (.aload_n 0, 1) := dk_42 (dk_at dksX4_step_7 1 rfl rfl)
theorem dX4_step_166 : decode cX4_step 166 = .ok (.getfield 57, 3) := dk_180 0 57 (dk_at dksX4_step_7 2 rfl rfl)
theorem dX4_step_169 : decode cX4_step 169 = .ok (.iload_n 1, 1) := dk_27 (dk_at dksX4_step_7 5 rfl rfl)
theorem dX4_step_170 : decode cX4_step 170 = .ok (.isub, 1) := dk_100 (dk_at dksX4_step_7 6 rfl rfl)
theorem dX4_step_171 : decode cX4_step 171 = .ok (.invokespecial 73, 3) := dk_183 0 73 (dk_at dksX4_step_7 7 rfl rfl)
theorem dX4_step_174 : decode cX4_step 174 = .ok (.goto 5, 3) := dk_167 0 5 (dk_at dksX4_step_7 10 rfl rfl)
theorem dX4_step_177 : decode cX4_step 177 = .ok (.ldc 76, 2) := dk_18 76 (dk_at dksX4_step_7 13 rfl rfl)
theorem dX4_step_179 : decode cX4_step 179 = .ok (.putfield 78, 3) := dk_181 0 78 (dk_at dksX4_step_7 15 rfl rfl)
theorem dX4_step_182 : decode cX4_step 182 = .ok (.goto 131, 3) := dk_167 0 131 (dk_at dksX4_step_7 18 rfl rfl)
theorem dX4_step_185 : decode cX4_step 185 = .ok (.aload_n 0, 1) := dk_42 (dk_at dksX4_step_7 21 rfl rfl)
theorem dX4_step_186 : decode cX4_step 186 = .ok (.iload_n 2, 1) := dk_28 (dk_at dksX4_step_7 22 rfl rfl)
theorem dX4_step_187 : decode cX4_step 187 = .ok (.invokevirtual 82, 3) := dk_182 0 82 (dk_at dksX4_step_8 0 rfl rfl)
theorem dX4_step_190 : decode cX4_step 190 = .ok (.ifCond .eq 96, 3) := dk_153 0 96 (dk_at dksX4_step_8 3 rfl rfl)
theorem dX4_step_193 : decode cX4_step 193 = .ok (.aload_n 0, 1) := dk_42 (dk_at dksX4_step_8 6 rfl rfl)
theorem dX4_step_194 : decode cX4_step 194 = .ok (.iconst 0, 1) := dk_3 (dk_at dksX4_step_8 7 rfl rfl)
theorem dX4_step_195 : decode cX4_step 195 = .ok (.putfield 85, 3) := dk_181 0 85 (dk_at dksX4_step_8 8 rfl rfl)
theorem dX4_step_198 : decode cX4_step 198 = .ok (.aload_n 0, 1) := dk_42 (dk_at dksX4_step_8 11 rfl rfl)
theorem dX4_step_199 : decode cX4_step 199 = .ok (.iload_n 1, 1) := dk_27 (dk_at dksX4_step_8 12 rfl rfl)
theorem dX4_step_200 : decode cX4_step 200 = .ok (.putfield 57, 3) := dk_181 0 57 (dk_at dksX4_step_8 13 rfl rfl)
theorem dX4_step_203 : decode cX4_step 203 = .ok (.aload_n 0, 1) := dk_42 (dk_at dksX4_step_8 16 rfl rfl)
theorem dX4_step_204 : decode cX4_step 204 = .ok (.aload_n 0, 1) := dk_42 (dk_at dksX4_step_8 17 rfl rfl)
theorem dX4_step_205 : decode cX4_step 205 = .ok (.aload_n 0, 1) := dk_42 (dk_at dksX4_step_8 18 rfl rfl)
theorem dX4_step_206 : decode cX4_step 206 = .ok (.getfield 57, 3) := dk_180 0 57 (dk_at dksX4_step_8 19 rfl rfl)
theorem dX4_step_209 : decode cX4_step 209 = .ok (.invokevirtual 60, 3) := dk_182 0 60 (dk_at dksX4_step_9 0 rfl rfl)
theorem dX4_step_212 : decode cX4_step 212 = .ok (.invokevirtual 82, 3) := dk_182 0 82 (dk_at dksX4_step_9 3 rfl rfl)
theorem dX4_step_215 : decode cX4_step 215 = .ok (.ifCond .eq 49, 3) := dk_153 0 49 (dk_at dksX4_step_9 6 rfl rfl)
theorem dX4_step_218 : decode cX4_step 218 = .ok (.aload_n 0, 1) := dk_42 (dk_at dksX4_step_9 9 rfl rfl)
theorem dX4_step_219 : decode cX4_step 219 = .ok (.getfield 57, 3) := dk_180 0 57 (dk_at dksX4_step_9 10 rfl rfl)
theorem dX4_step_222 : decode cX4_step 222 = .ok (.iload_n 1, 1) := dk_27 (dk_at dksX4_step_9 13 rfl rfl)
theorem dX4_step_223 : decode cX4_step 223 = .ok (.isub, 1) := dk_100 (dk_at dksX4_step_9 14 rfl rfl)
theorem dX4_step_224 : decode cX4_step 224 = .ok (.iconst 4, 1) := dk_7 (dk_at dksX4_step_9 15 rfl rfl)
theorem dX4_step_225 : decode cX4_step 225 = .ok (.if_icmp .ge 26, 3) := dk_162 0 26 (dk_at dksX4_step_9 16 rfl rfl)
theorem dX4_step_228 : decode cX4_step 228 = .ok (.aload_n 0, 1) := dk_42 (dk_at dksX4_step_9 19 rfl rfl)
theorem dX4_step_229 : decode cX4_step 229 = .ok (.bipush 10, 2) := dk_16 10 (dk_at dksX4_step_9 20 rfl rfl)
theorem dX4_step_231 : decode cX4_step 231 = .ok (.aload_n 0, 1) := dk_42 (dk_at dksX4_step_9 22 rfl rfl)
theorem dX4_step_232 : decode cX4_step 232 = .ok (.getfield 85, 3) := dk_180 0 85 (dk_at dksX4_step_10 0 rfl rfl)
theorem dX4_step_235 : decode cX4_step 235 = .ok (.imul, 1) := dk_104 (dk_at dksX4_step_10 3 rfl rfl)
theorem dX4_step_236 : decode cX4_step 236 = .ok (.aload_n 0, 1) := dk_42 (dk_at dksX4_step_10 4 rfl rfl)
theorem dX4_step_237 : decode cX4_step 237 = .ok (.aload_n 0, 1) := dk_42 (dk_at dksX4_step_10 5 rfl rfl)
theorem dX4_step_238 : decode cX4_step 238 = .ok (.getfield 57, 3) := dk_180 0 57 (dk_at dksX4_step_10 6 rfl rfl)
theorem dX4_step_241 : decode cX4_step 241 = .ok (.invokevirtual 60, 3) := dk_182 0 60 (dk_at dksX4_step_10 9 rfl rfl)
theorem dX4_step_244 : decode cX4_step 244 = .ok (.iadd, 1) := dk_96 (dk_at dksX4_step_10 12 rfl rfl)
theorem dX4_step_245 : decode cX4_step 245 = .ok (.bipush 48, 2) := dk_16 48 (dk_at dksX4_step_10 13 rfl rfl)
theorem dX4_step_247 : decode cX4_step 247 = .ok (.isub, 1) := dk_100 (dk_at dksX4_step_10 15 rfl rfl)
theorem dX4_step_248 : decode cX4_step 248 = .ok (.putfield 85, 3) := dk_181 0 85 (dk_at dksX4_step_10 16 rfl rfl)
theorem dX4_step_251 : decode cX4_step 251 = .ok (.aload_n 0, 1) := dk_42 (dk_at dksX4_step_10 19 rfl rfl)
theorem dX4_step_252 : decode cX4_step 252 = .ok (.dup, 1) := dk_89 (dk_at dksX4_step_10 20 rfl rfl)
theorem dX4_step_253 : decode cX4_step 253 = .ok (.getfield 57, 3) := dk_180 0 57 (dk_at dksX4_step_10 21 rfl rfl)
theorem dX4_step_256 : decode cX4_step 256 = .ok (.iconst 1, 1) := dk_4 (dk_at dksX4_step_11 0 rfl rfl)
theorem dX4_step_257 : decode cX4_step 257 = .ok (.iadd, 1) := dk_96 (dk_at dksX4_step_11 1 rfl rfl)
theorem dX4_step_258 : decode cX4_step 258 = .ok (.putfield 57, 3) := dk_181 0 57 (dk_at dksX4_step_11 2 rfl rfl)
theorem dX4_step_261 : decode cX4_step 261 = .ok (.goto (-58), 3) := dk_167 255 198 (dk_at dksX4_step_11 5 rfl rfl)
theorem dX4_step_264 : decode cX4_step 264 = .ok (.aload_n 0, 1) := dk_42 (dk_at dksX4_step_11 8 rfl rfl)
theorem dX4_step_265 : decode cX4_step 265 = .ok (.aload_n 0, 1) := dk_42 (dk_at dksX4_step_11 9 rfl rfl)
theorem dX4_step_266 : decode cX4_step 266 = .ok (.getfield 57, 3) := dk_180 0 57 (dk_at dksX4_step_11 10 rfl rfl)
theorem dX4_step_269 : decode cX4_step 269 = .ok (.iload_n 1, 1) := dk_27 (dk_at dksX4_step_11 13 rfl rfl)
theorem dX4_step_270 : decode cX4_step 270 = .ok (.isub, 1) := dk_100 (dk_at dksX4_step_11 14 rfl rfl)
theorem dX4_step_271 : decode cX4_step 271 = .ok (.iconst 4, 1) := dk_7 (dk_at dksX4_step_11 15 rfl rfl)
theorem dX4_step_272 : decode cX4_step 272 = .ok (.if_icmp .le 7, 3) := dk_164 0 7 (dk_at dksX4_step_11 16 rfl rfl)
theorem dX4_step_275 : decode cX4_step 275 = .ok (.iconst 1, 1) := dk_4 (dk_at dksX4_step_11 19 rfl rfl)
theorem dX4_step_276 : decode cX4_step 276 = .ok (.goto 4, 3) := dk_167 0 4 (dk_at dksX4_step_11 20 rfl rfl)
theorem dX4_step_279 : decode cX4_step 279 = .ok (.iconst 3, 1) := dk_6 (dk_at dksX4_step_11 23 rfl rfl)
theorem dX4_step_280 : decode cX4_step 280 = .ok (.putfield 64, 3) := dk_181 0 64 (dk_at dksX4_step_12 0 rfl rfl)
theorem dX4_step_283 : decode cX4_step 283 = .ok (.goto 30, 3) := dk_167 0 30 (dk_at dksX4_step_12 3 rfl rfl)
theorem dX4_step_286 : decode cX4_step 286 = .ok (.aload_n 0, 1) := dk_42 (dk_at dksX4_step_12 6 rfl rfl)
theorem dX4_step_287 : decode cX4_step 287 = .ok (.iload_n 2, 1) := dk_28 (dk_at dksX4_step_12 7 rfl rfl)
theorem dX4_step_288 : decode cX4_step 288 = .ok (.bipush 59, 2) := dk_16 59 (dk_at dksX4_step_12 8 rfl rfl)
theorem dX4_step_290 : decode cX4_step 290 = .ok (.if_icmp .eq 15, 3) := dk_159 0 15 (dk_at dksX4_step_12 10 rfl rfl)
theorem dX4_step_293 : decode cX4_step 293 = .ok (.iload_n 2, 1) := dk_28 (dk_at dksX4_step_12 13 rfl rfl)
theorem dX4_step_294 : decode cX4_step 294 = .ok (.bipush 43, 2) := dk_16 43 (dk_at dksX4_step_12 14 rfl rfl)
theorem dX4_step_296 : decode cX4_step 296 = .ok (.if_icmp .eq 9, 3) := dk_159 0 9 (dk_at dksX4_step_12 16 rfl rfl)
theorem dX4_step_299 : decode cX4_step 299 = .ok (.iload_n 2, 1) := dk_28 (dk_at dksX4_step_12 19 rfl rfl)
theorem dX4_step_300 : decode cX4_step 300 = .ok (.bipush 45, 2) := dk_16 45 (dk_at dksX4_step_12 20 rfl rfl)
theorem dX4_step_302 : decode cX4_step 302 = .ok (.if_icmp .ne 7, 3) := dk_160 0 7 (dk_at dksX4_step_13 0 rfl rfl)
theorem dX4_step_305 : decode cX4_step 305 = .ok (.iload_n 2, 1) := dk_28 (dk_at dksX4_step_13 3 rfl rfl)
theorem dX4_step_306 : decode cX4_step 306 = .ok (.goto 4, 3) := dk_167 0 4 (dk_at dksX4_step_13 4 rfl rfl)
theorem dX4_step_309 : decode cX4_step 309 = .ok (.iconst 1, 1) := dk_4 (dk_at dksX4_step_13 7 rfl rfl)
theorem dX4_step_310 : decode cX4_step 310 = .ok (.putfield 64, 3) := dk_181 0 64 (dk_at dksX4_step_13 8 rfl rfl)
theorem dX4_step_313 : decode cX4_step 313 = .ok (.return_, 1) := dk_177 (dk_at dksX4_step_13 11 rfl rfl)
abbrev cX4_see : ByteArray := prog_8_method_3_code
def yX4_see : MethodName := ⟨RX4, "see", "(I)I"⟩
def dkwX4_see_1 : List UInt8 := [2, 172]
abbrev dktX4_see_1 : List UInt8 := dkwX4_see_1 ++ []
def dkwX4_see_0 : List UInt8 := [27, 42, 180, 0, 46, 162, 0, 19, 42, 180, 0, 3, 180, 0, 49, 27, 51, 17, 0, 255, 126, 167, 0, 4]
abbrev dktX4_see_0 : List UInt8 := dkwX4_see_0 ++ dktX4_see_1
theorem dksX4_see_0 : cX4_see.data.toList.drop 0 = dktX4_see_0 := by decide +kernel
theorem dksX4_see_1 : cX4_see.data.toList.drop 24 = dktX4_see_1 := dk_seg dksX4_see_0 24 rfl rfl
theorem dX4_see_0 : decode cX4_see 0 = .ok (.iload_n 1, 1) := dk_27 (dk_at dksX4_see_0 0 rfl rfl)
theorem dX4_see_1 : decode cX4_see 1 = .ok (.aload_n 0, 1) := dk_42 (dk_at dksX4_see_0 1 rfl rfl)
theorem dX4_see_2 : decode cX4_see 2 = .ok (.getfield 46, 3) := dk_180 0 46 (dk_at dksX4_see_0 2 rfl rfl)
theorem dX4_see_5 : decode cX4_see 5 = .ok (.if_icmp .ge 19, 3) := dk_162 0 19 (dk_at dksX4_see_0 5 rfl rfl)
theorem dX4_see_8 : decode cX4_see 8 = .ok (.aload_n 0, 1) := dk_42 (dk_at dksX4_see_0 8 rfl rfl)
theorem dX4_see_9 : decode cX4_see 9 = .ok (.getfield 3, 3) := dk_180 0 3 (dk_at dksX4_see_0 9 rfl rfl)
theorem dX4_see_12 : decode cX4_see 12 = .ok (.getfield 49, 3) := dk_180 0 49 (dk_at dksX4_see_0 12 rfl rfl)
theorem dX4_see_15 : decode cX4_see 15 = .ok (.iload_n 1, 1) := dk_27 (dk_at dksX4_see_0 15 rfl rfl)
theorem dX4_see_16 : decode cX4_see 16 = .ok (.baload, 1) := dk_51 (dk_at dksX4_see_0 16 rfl rfl)
theorem dX4_see_17 : decode cX4_see 17 = .ok (.sipush 255, 3) := dk_17 0 255 (dk_at dksX4_see_0 17 rfl rfl)
theorem dX4_see_20 : decode cX4_see 20 = .ok (.iand, 1) := dk_126 (dk_at dksX4_see_0 20 rfl rfl)
theorem dX4_see_21 : decode cX4_see 21 = .ok (.goto 4, 3) := dk_167 0 4 (dk_at dksX4_see_0 21 rfl rfl)
theorem dX4_see_24 : decode cX4_see 24 = .ok (.iconst (-1), 1) := dk_2 (dk_at dksX4_see_1 0 rfl rfl)
theorem dX4_see_25 : decode cX4_see 25 = .ok (.ireturn, 1) := dk_172 (dk_at dksX4_see_1 1 rfl rfl)
abbrev cX4_isSmall : ByteArray := prog_8_method_4_code
def yX4_isSmall : MethodName := ⟨RX4, "isSmall", "(I)Z"⟩
def dkwX4_isSmall_0 : List UInt8 := [27, 16, 97, 16, 122, 184, 0, 53, 172]
abbrev dktX4_isSmall_0 : List UInt8 := dkwX4_isSmall_0 ++ []
theorem dksX4_isSmall_0 : cX4_isSmall.data.toList.drop 0 = dktX4_isSmall_0 := by decide +kernel
theorem dX4_isSmall_0 : decode cX4_isSmall 0 = .ok (.iload_n 1, 1) := dk_27 (dk_at dksX4_isSmall_0 0 rfl rfl)
theorem dX4_isSmall_1 : decode cX4_isSmall 1 = .ok (.bipush 97, 2) := dk_16 97 (dk_at dksX4_isSmall_0 1 rfl rfl)
theorem dX4_isSmall_3 : decode cX4_isSmall 3 = .ok (.bipush 122, 2) := dk_16 122 (dk_at dksX4_isSmall_0 3 rfl rfl)
theorem dX4_isSmall_5 : decode cX4_isSmall 5 = .ok (.invokestatic 53, 3) := dk_184 0 53 (dk_at dksX4_isSmall_0 5 rfl rfl)
theorem dX4_isSmall_8 : decode cX4_isSmall 8 = .ok (.ireturn, 1) := dk_172 (dk_at dksX4_isSmall_0 8 rfl rfl)
abbrev cX4_isDigit : ByteArray := prog_8_method_5_code
def yX4_isDigit : MethodName := ⟨RX4, "isDigit", "(I)Z"⟩
def dkwX4_isDigit_0 : List UInt8 := [27, 16, 48, 16, 57, 184, 0, 53, 172]
abbrev dktX4_isDigit_0 : List UInt8 := dkwX4_isDigit_0 ++ []
theorem dksX4_isDigit_0 : cX4_isDigit.data.toList.drop 0 = dktX4_isDigit_0 := by decide +kernel
theorem dX4_isDigit_0 : decode cX4_isDigit 0 = .ok (.iload_n 1, 1) := dk_27 (dk_at dksX4_isDigit_0 0 rfl rfl)
theorem dX4_isDigit_1 : decode cX4_isDigit 1 = .ok (.bipush 48, 2) := dk_16 48 (dk_at dksX4_isDigit_0 1 rfl rfl)
theorem dX4_isDigit_3 : decode cX4_isDigit 3 = .ok (.bipush 57, 2) := dk_16 57 (dk_at dksX4_isDigit_0 3 rfl rfl)
theorem dX4_isDigit_5 : decode cX4_isDigit 5 = .ok (.invokestatic 53, 3) := dk_184 0 53 (dk_at dksX4_isDigit_0 5 rfl rfl)
theorem dX4_isDigit_8 : decode cX4_isDigit 8 = .ok (.ireturn, 1) := dk_172 (dk_at dksX4_isDigit_0 8 rfl rfl)
abbrev cX4_line : ByteArray := prog_8_method_13_code
def yX4_line : MethodName := ⟨RX4, "line", "()V"⟩
def dkwX4_line_6 : List UInt8 := [42, 182, 0, 135, 167, 0, 16, 42, 182, 0, 138, 167, 0, 9, 42, 4, 182, 0, 92, 191, 177]
abbrev dktX4_line_6 : List UInt8 := dkwX4_line_6 ++ []
def dkwX4_line_5 : List UInt8 := [171, 0, 0, 0, 0, 40, 0, 0, 0, 2, 0, 0, 0, 0, 0, 0, 0, 26, 0, 0, 0, 1, 0, 0, 0, 33]
abbrev dktX4_line_5 : List UInt8 := dkwX4_line_5 ++ dktX4_line_6
def dkwX4_line_4 : List UInt8 := [61, 28]
abbrev dktX4_line_4 : List UInt8 := dkwX4_line_4 ++ dktX4_line_5
def dkwX4_line_3 : List UInt8 := [43, 18, 131, 182, 0, 88, 153, 0, 19, 3, 61, 167, 0, 14, 43, 18, 133, 182, 0, 88, 153, 0, 5, 4]
abbrev dktX4_line_3 : List UInt8 := dkwX4_line_3 ++ dktX4_line_4
def dkwX4_line_2 : List UInt8 := [171, 0, 0, 0, 0, 0, 0, 53, 0, 0, 0, 2, 0, 52, 151, 204, 0, 0, 0, 42, 0, 53, 106, 48, 0, 0, 0, 28]
abbrev dktX4_line_2 : List UInt8 := dkwX4_line_2 ++ dktX4_line_3
def dkwX4_line_1 : List UInt8 := [43, 182, 0, 127]
abbrev dktX4_line_1 : List UInt8 := dkwX4_line_1 ++ dktX4_line_2
def dkwX4_line_0 : List UInt8 := [42, 42, 180, 0, 64, 5, 160, 0, 7, 4, 167, 0, 4, 3, 182, 0, 100, 42, 180, 0, 78, 76, 2, 61]
abbrev dktX4_line_0 : List UInt8 := dkwX4_line_0 ++ dktX4_line_1
theorem dksX4_line_0 : cX4_line.data.toList.drop 0 = dktX4_line_0 := by decide +kernel
theorem dksX4_line_1 : cX4_line.data.toList.drop 24 = dktX4_line_1 := dk_seg dksX4_line_0 24 rfl rfl
theorem dksX4_line_2 : cX4_line.data.toList.drop 28 = dktX4_line_2 := dk_seg dksX4_line_1 4 rfl rfl
theorem dksX4_line_3 : cX4_line.data.toList.drop 56 = dktX4_line_3 := dk_seg dksX4_line_2 28 rfl rfl
theorem dksX4_line_4 : cX4_line.data.toList.drop 80 = dktX4_line_4 := dk_seg dksX4_line_3 24 rfl rfl
theorem dksX4_line_5 : cX4_line.data.toList.drop 82 = dktX4_line_5 := dk_seg dksX4_line_4 2 rfl rfl
theorem dksX4_line_6 : cX4_line.data.toList.drop 108 = dktX4_line_6 := dk_seg dksX4_line_5 26 rfl rfl
theorem dX4_line_0 : decode cX4_line 0 = .ok (.aload_n 0, 1) := dk_42 (dk_at dksX4_line_0 0 rfl rfl)
theorem dX4_line_1 : decode cX4_line 1 = .ok (.aload_n 0, 1) := dk_42 (dk_at dksX4_line_0 1 rfl rfl)
theorem dX4_line_2 : decode cX4_line 2 = .ok (.getfield 64, 3) := dk_180 0 64 (dk_at dksX4_line_0 2 rfl rfl)
theorem dX4_line_5 : decode cX4_line 5 = .ok (.iconst 2, 1) := dk_5 (dk_at dksX4_line_0 5 rfl rfl)
theorem dX4_line_6 : decode cX4_line 6 = .ok (.if_icmp .ne 7, 3) := dk_160 0 7 (dk_at dksX4_line_0 6 rfl rfl)
theorem dX4_line_9 : decode cX4_line 9 = .ok (.iconst 1, 1) := dk_4 (dk_at dksX4_line_0 9 rfl rfl)
theorem dX4_line_10 : decode cX4_line 10 = .ok (.goto 4, 3) := dk_167 0 4 (dk_at dksX4_line_0 10 rfl rfl)
theorem dX4_line_13 : decode cX4_line 13 = .ok (.iconst 0, 1) := dk_3 (dk_at dksX4_line_0 13 rfl rfl)
theorem dX4_line_14 : decode cX4_line 14 = .ok (.invokevirtual 100, 3) := dk_182 0 100 (dk_at dksX4_line_0 14 rfl rfl)
theorem dX4_line_17 : decode cX4_line 17 = .ok (.aload_n 0, 1) := dk_42 (dk_at dksX4_line_0 17 rfl rfl)
theorem dX4_line_18 : decode cX4_line 18 = .ok (.getfield 78, 3) := dk_180 0 78 (dk_at dksX4_line_0 18 rfl rfl)
theorem dX4_line_21 : decode cX4_line 21 = .ok (.astore_n 1, 1) := dk_76 (dk_at dksX4_line_0 21 rfl rfl)
theorem dX4_line_22 : decode cX4_line 22 = .ok (.iconst (-1), 1) := dk_2 (dk_at dksX4_line_0 22 rfl rfl)
theorem dX4_line_23 : decode cX4_line 23 = .ok (.istore_n 2, 1) := dk_61 (dk_at dksX4_line_0 23 rfl rfl)
theorem dX4_line_24 : decode cX4_line 24 = .ok (.aload_n 1, 1) := dk_43 (dk_at dksX4_line_1 0 rfl rfl)
theorem dX4_line_25 : decode cX4_line 25 = .ok (.invokevirtual 127, 3) := dk_182 0 127 (dk_at dksX4_line_1 1 rfl rfl)
theorem dX4_line_28 : decode cX4_line 28 = .ok (.lookupswitch 53 #[(3446732, 42), (3500592, 28)], 28) := by decide +kernel
theorem dX4_line_56 : decode cX4_line 56 = .ok (.aload_n 1, 1) := dk_43 (dk_at dksX4_line_3 0 rfl rfl)
theorem dX4_line_57 : decode cX4_line 57 = .ok (.ldc 131, 2) := dk_18 131 (dk_at dksX4_line_3 1 rfl rfl)
theorem dX4_line_59 : decode cX4_line 59 = .ok (.invokevirtual 88, 3) := dk_182 0 88 (dk_at dksX4_line_3 3 rfl rfl)
theorem dX4_line_62 : decode cX4_line 62 = .ok (.ifCond .eq 19, 3) := dk_153 0 19 (dk_at dksX4_line_3 6 rfl rfl)
theorem dX4_line_65 : decode cX4_line 65 = .ok (.iconst 0, 1) := dk_3 (dk_at dksX4_line_3 9 rfl rfl)
theorem dX4_line_66 : decode cX4_line 66 = .ok (.istore_n 2, 1) := dk_61 (dk_at dksX4_line_3 10 rfl rfl)
theorem dX4_line_67 : decode cX4_line 67 = .ok (.goto 14, 3) := dk_167 0 14 (dk_at dksX4_line_3 11 rfl rfl)
theorem dX4_line_70 : decode cX4_line 70 = .ok (.aload_n 1, 1) := dk_43 (dk_at dksX4_line_3 14 rfl rfl)
theorem dX4_line_71 : decode cX4_line 71 = .ok (.ldc 133, 2) := dk_18 133 (dk_at dksX4_line_3 15 rfl rfl)
theorem dX4_line_73 : decode cX4_line 73 = .ok (.invokevirtual 88, 3) := dk_182 0 88 (dk_at dksX4_line_3 17 rfl rfl)
theorem dX4_line_76 : decode cX4_line 76 = .ok (.ifCond .eq 5, 3) := dk_153 0 5 (dk_at dksX4_line_3 20 rfl rfl)
theorem dX4_line_79 : decode cX4_line 79 = .ok (.iconst 1, 1) := dk_4 (dk_at dksX4_line_3 23 rfl rfl)
theorem dX4_line_80 : decode cX4_line 80 = .ok (.istore_n 2, 1) := dk_61 (dk_at dksX4_line_4 0 rfl rfl)
theorem dX4_line_81 : decode cX4_line 81 = .ok (.iload_n 2, 1) := dk_28 (dk_at dksX4_line_4 1 rfl rfl)
theorem dX4_line_82 : decode cX4_line 82 = .ok (.lookupswitch 40 #[(0, 26), (1, 33)], 26) := by decide +kernel
theorem dX4_line_108 : decode cX4_line 108 = .ok (.aload_n 0, 1) := dk_42 (dk_at dksX4_line_6 0 rfl rfl)
theorem dX4_line_109 : decode cX4_line 109 = .ok (.invokevirtual 135, 3) := dk_182 0 135 (dk_at dksX4_line_6 1 rfl rfl)
theorem dX4_line_112 : decode cX4_line 112 = .ok (.goto 16, 3) := dk_167 0 16 (dk_at dksX4_line_6 4 rfl rfl)
theorem dX4_line_115 : decode cX4_line 115 = .ok (.aload_n 0, 1) := dk_42 (dk_at dksX4_line_6 7 rfl rfl)
theorem dX4_line_116 : decode cX4_line 116 = .ok (.invokevirtual 138, 3) := dk_182 0 138 (dk_at dksX4_line_6 8 rfl rfl)
theorem dX4_line_119 : decode cX4_line 119 = .ok (.goto 9, 3) := dk_167 0 9 (dk_at dksX4_line_6 11 rfl rfl)
theorem dX4_line_122 : decode cX4_line 122 = .ok (.aload_n 0, 1) := dk_42 (dk_at dksX4_line_6 14 rfl rfl)
theorem dX4_line_123 : decode cX4_line 123 = .ok (.iconst 1, 1) := dk_4 (dk_at dksX4_line_6 15 rfl rfl)
theorem dX4_line_124 : decode cX4_line 124 = .ok (.invokevirtual 92, 3) := dk_182 0 92 (dk_at dksX4_line_6 16 rfl rfl)
theorem dX4_line_127 : decode cX4_line 127 = .ok (.athrow, 1) := dk_191 (dk_at dksX4_line_6 19 rfl rfl)
theorem dX4_line_128 : decode cX4_line 128 = .ok (.return_, 1) := dk_177 (dk_at dksX4_line_6 20 rfl rfl)
abbrev cX4_must : ByteArray := prog_8_method_8_code
def yX4_must : MethodName := ⟨RX4, "must", "(Z)V"⟩
def dkwX4_must_0 : List UInt8 := [27, 154, 0, 9, 42, 4, 182, 0, 92, 191, 177]
abbrev dktX4_must_0 : List UInt8 := dkwX4_must_0 ++ []
theorem dksX4_must_0 : cX4_must.data.toList.drop 0 = dktX4_must_0 := by decide +kernel
theorem dX4_must_0 : decode cX4_must 0 = .ok (.iload_n 1, 1) := dk_27 (dk_at dksX4_must_0 0 rfl rfl)
theorem dX4_must_1 : decode cX4_must 1 = .ok (.ifCond .ne 9, 3) := dk_154 0 9 (dk_at dksX4_must_0 1 rfl rfl)
theorem dX4_must_4 : decode cX4_must 4 = .ok (.aload_n 0, 1) := dk_42 (dk_at dksX4_must_0 4 rfl rfl)
theorem dX4_must_5 : decode cX4_must 5 = .ok (.iconst 1, 1) := dk_4 (dk_at dksX4_must_0 5 rfl rfl)
theorem dX4_must_6 : decode cX4_must 6 = .ok (.invokevirtual 92, 3) := dk_182 0 92 (dk_at dksX4_must_0 6 rfl rfl)
theorem dX4_must_9 : decode cX4_must 9 = .ok (.athrow, 1) := dk_191 (dk_at dksX4_must_0 9 rfl rfl)
theorem dX4_must_10 : decode cX4_must 10 = .ok (.return_, 1) := dk_177 (dk_at dksX4_must_0 10 rfl rfl)
abbrev cX4_fail : ByteArray := prog_8_method_2_code
def yX4_fail : MethodName := ⟨RX4, "fail", "(I)LTermDesk$Refused;"⟩
def dkwX4_fail_0 : List UInt8 := [42, 180, 0, 18, 27, 42, 180, 0, 39, 182, 0, 43, 176]
abbrev dktX4_fail_0 : List UInt8 := dkwX4_fail_0 ++ []
theorem dksX4_fail_0 : cX4_fail.data.toList.drop 0 = dktX4_fail_0 := by decide +kernel
theorem dX4_fail_0 : decode cX4_fail 0 = .ok (.aload_n 0, 1) := dk_42 (dk_at dksX4_fail_0 0 rfl rfl)
theorem dX4_fail_1 : decode cX4_fail 1 = .ok (.getfield 18, 3) := dk_180 0 18 (dk_at dksX4_fail_0 1 rfl rfl)
theorem dX4_fail_4 : decode cX4_fail 4 = .ok (.iload_n 1, 1) := dk_27 (dk_at dksX4_fail_0 4 rfl rfl)
theorem dX4_fail_5 : decode cX4_fail 5 = .ok (.aload_n 0, 1) := dk_42 (dk_at dksX4_fail_0 5 rfl rfl)
theorem dX4_fail_6 : decode cX4_fail 6 = .ok (.getfield 39, 3) := dk_180 0 39 (dk_at dksX4_fail_0 6 rfl rfl)
theorem dX4_fail_9 : decode cX4_fail 9 = .ok (.invokevirtual 43, 3) := dk_182 0 43 (dk_at dksX4_fail_0 9 rfl rfl)
theorem dX4_fail_12 : decode cX4_fail 12 = .ok (.areturn, 1) := dk_176 (dk_at dksX4_fail_0 12 rfl rfl)
abbrev cX4_ringLine : ByteArray := prog_8_method_14_code
def yX4_ringLine : MethodName := ⟨RX4, "ringLine", "()V"⟩
def dkwX4_ringLine_10 : List UInt8 := [167, 255, 185, 42, 4, 181, 0, 113, 177]
abbrev dktX4_ringLine_10 : List UInt8 := dkwX4_ringLine_10 ++ []
def dkwX4_ringLine_9 : List UInt8 := [182, 0, 123, 132, 3, 1, 167, 255, 228, 42, 180, 0, 36, 27, 28, 79, 42, 182, 0, 104, 132, 1, 1]
abbrev dktX4_ringLine_9 : List UInt8 := dkwX4_ringLine_9 ++ dktX4_ringLine_10
def dkwX4_ringLine_8 : List UInt8 := [62, 29, 27, 162, 0, 29, 42, 42, 180, 0, 36, 29, 46, 28, 159, 0, 7, 4, 167, 0, 4, 3, 6]
abbrev dktX4_ringLine_8 : List UInt8 := dkwX4_ringLine_8 ++ dktX4_ringLine_9
def dkwX4_ringLine_7 : List UInt8 := [6, 162, 0, 72, 42, 182, 0, 164, 61, 42, 28, 2, 159, 0, 7, 4, 167, 0, 4, 3, 182, 0, 100, 3]
abbrev dktX4_ringLine_7 : List UInt8 := dkwX4_ringLine_7 ++ dktX4_ringLine_8
def dkwX4_ringLine_6 : List UInt8 := [42, 42, 180, 0, 161, 2, 159, 0, 7, 4, 167, 0, 4, 3, 182, 0, 100, 42, 182, 0, 104, 3, 60, 27]
abbrev dktX4_ringLine_6 : List UInt8 := dkwX4_ringLine_6 ++ dktX4_ringLine_7
def dkwX4_ringLine_5 : List UInt8 := [153, 0, 7, 4, 167, 0, 17, 42, 18, 159, 182, 0, 96, 153, 0, 7, 5, 167, 0, 4, 2, 181, 0, 161]
abbrev dktX4_ringLine_5 : List UInt8 := dkwX4_ringLine_5 ++ dktX4_ringLine_6
def dkwX4_ringLine_4 : List UInt8 := [182, 0, 143, 42, 42, 18, 155, 182, 0, 96, 153, 0, 7, 3, 167, 0, 30, 42, 18, 157, 182, 0, 96]
abbrev dktX4_ringLine_4 : List UInt8 := dkwX4_ringLine_4 ++ dktX4_ringLine_5
def dkwX4_ringLine_3 : List UInt8 := [4, 167, 0, 4, 3, 5, 182, 0, 123, 42, 42, 180, 0, 85, 181, 0, 150, 42, 182, 0, 104, 42, 18, 153]
abbrev dktX4_ringLine_3 : List UInt8 := dkwX4_ringLine_3 ++ dktX4_ringLine_4
def dkwX4_ringLine_2 : List UInt8 := [180, 0, 85, 5, 16, 97, 184, 0, 53, 153, 0, 19, 178, 0, 147, 42, 180, 0, 85, 46, 4, 160, 0, 7]
abbrev dktX4_ringLine_2 : List UInt8 := dkwX4_ringLine_2 ++ dktX4_ringLine_3
def dkwX4_ringLine_1 : List UInt8 := [182, 0, 143, 42, 42, 180, 0, 64, 6, 160, 0, 7, 4, 167, 0, 4, 3, 182, 0, 100, 42, 42]
abbrev dktX4_ringLine_1 : List UInt8 := dkwX4_ringLine_1 ++ dktX4_ringLine_2
def dkwX4_ringLine_0 : List UInt8 := [42, 42, 180, 0, 113, 154, 0, 7, 4, 167, 0, 4, 3, 6, 182, 0, 123, 42, 182, 0, 104, 42, 18, 141]
abbrev dktX4_ringLine_0 : List UInt8 := dkwX4_ringLine_0 ++ dktX4_ringLine_1
theorem dksX4_ringLine_0 : cX4_ringLine.data.toList.drop 0 = dktX4_ringLine_0 := by decide +kernel
theorem dksX4_ringLine_1 : cX4_ringLine.data.toList.drop 24 = dktX4_ringLine_1 := dk_seg dksX4_ringLine_0 24 rfl rfl
theorem dksX4_ringLine_2 : cX4_ringLine.data.toList.drop 46 = dktX4_ringLine_2 := dk_seg dksX4_ringLine_1 22 rfl rfl
theorem dksX4_ringLine_3 : cX4_ringLine.data.toList.drop 70 = dktX4_ringLine_3 := dk_seg dksX4_ringLine_2 24 rfl rfl
theorem dksX4_ringLine_4 : cX4_ringLine.data.toList.drop 94 = dktX4_ringLine_4 := dk_seg dksX4_ringLine_3 24 rfl rfl
theorem dksX4_ringLine_5 : cX4_ringLine.data.toList.drop 117 = dktX4_ringLine_5 := dk_seg dksX4_ringLine_4 23 rfl rfl
theorem dksX4_ringLine_6 : cX4_ringLine.data.toList.drop 141 = dktX4_ringLine_6 := dk_seg dksX4_ringLine_5 24 rfl rfl
theorem dksX4_ringLine_7 : cX4_ringLine.data.toList.drop 165 = dktX4_ringLine_7 := dk_seg dksX4_ringLine_6 24 rfl rfl
theorem dksX4_ringLine_8 : cX4_ringLine.data.toList.drop 189 = dktX4_ringLine_8 := dk_seg dksX4_ringLine_7 24 rfl rfl
theorem dksX4_ringLine_9 : cX4_ringLine.data.toList.drop 212 = dktX4_ringLine_9 := dk_seg dksX4_ringLine_8 23 rfl rfl
theorem dksX4_ringLine_10 : cX4_ringLine.data.toList.drop 235 = dktX4_ringLine_10 := dk_seg dksX4_ringLine_9 23 rfl rfl
theorem dX4_ringLine_0 : decode cX4_ringLine 0 = .ok (.aload_n 0, 1) := dk_42 (dk_at dksX4_ringLine_0 0 rfl rfl)
theorem dX4_ringLine_1 : decode cX4_ringLine 1 = .ok (.aload_n 0, 1) := dk_42 (dk_at dksX4_ringLine_0 1 rfl rfl)
theorem dX4_ringLine_2 : decode cX4_ringLine 2 = .ok (.getfield 113, 3) := dk_180 0 113 (dk_at dksX4_ringLine_0 2 rfl rfl)
theorem dX4_ringLine_5 : decode cX4_ringLine 5 = .ok (.ifCond .ne 7, 3) := dk_154 0 7 (dk_at dksX4_ringLine_0 5 rfl rfl)
theorem dX4_ringLine_8 : decode cX4_ringLine 8 = .ok (.iconst 1, 1) := dk_4 (dk_at dksX4_ringLine_0 8 rfl rfl)
theorem dX4_ringLine_9 : decode cX4_ringLine 9 = .ok (.goto 4, 3) := dk_167 0 4 (dk_at dksX4_ringLine_0 9 rfl rfl)
theorem dX4_ringLine_12 : decode cX4_ringLine 12 = .ok (.iconst 0, 1) := dk_3 (dk_at dksX4_ringLine_0 12 rfl rfl)
theorem dX4_ringLine_13 : decode cX4_ringLine 13 = .ok (.iconst 3, 1) := dk_6 (dk_at dksX4_ringLine_0 13 rfl rfl)
theorem dX4_ringLine_14 : decode cX4_ringLine 14 = .ok (.invokevirtual 123, 3) := dk_182 0 123 (dk_at dksX4_ringLine_0 14 rfl rfl)
theorem dX4_ringLine_17 : decode cX4_ringLine 17 = .ok (.aload_n 0, 1) := dk_42 (dk_at dksX4_ringLine_0 17 rfl rfl)
theorem dX4_ringLine_18 : decode cX4_ringLine 18 = .ok (.invokevirtual 104, 3) := dk_182 0 104 (dk_at dksX4_ringLine_0 18 rfl rfl)
theorem dX4_ringLine_21 : decode cX4_ringLine 21 = .ok (.aload_n 0, 1) := dk_42 (dk_at dksX4_ringLine_0 21 rfl rfl)
theorem dX4_ringLine_22 : decode cX4_ringLine 22 = .ok (.ldc 141, 2) := dk_18 141 (dk_at dksX4_ringLine_0 22 rfl rfl)
theorem dX4_ringLine_24 : decode cX4_ringLine 24 = .ok (.invokevirtual 143, 3) := dk_182 0 143 (dk_at dksX4_ringLine_1 0 rfl rfl)
theorem dX4_ringLine_27 : decode cX4_ringLine 27 = .ok (.aload_n 0, 1) := dk_42 (dk_at dksX4_ringLine_1 3 rfl rfl)
theorem dX4_ringLine_28 : decode cX4_ringLine 28 = .ok (.aload_n 0, 1) := dk_42 (dk_at dksX4_ringLine_1 4 rfl rfl)
theorem dX4_ringLine_29 : decode cX4_ringLine 29 = .ok (.getfield 64, 3) := dk_180 0 64 (dk_at dksX4_ringLine_1 5 rfl rfl)
theorem dX4_ringLine_32 : decode cX4_ringLine 32 = .ok (.iconst 3, 1) := dk_6 (dk_at dksX4_ringLine_1 8 rfl rfl)
theorem dX4_ringLine_33 : decode cX4_ringLine 33 = .ok (.if_icmp .ne 7, 3) := dk_160 0 7 (dk_at dksX4_ringLine_1 9 rfl rfl)
theorem dX4_ringLine_36 : decode cX4_ringLine 36 = .ok (.iconst 1, 1) := dk_4 (dk_at dksX4_ringLine_1 12 rfl rfl)
theorem dX4_ringLine_37 : decode cX4_ringLine 37 = .ok (.goto 4, 3) := dk_167 0 4 (dk_at dksX4_ringLine_1 13 rfl rfl)
theorem dX4_ringLine_40 : decode cX4_ringLine 40 = .ok (.iconst 0, 1) := dk_3 (dk_at dksX4_ringLine_1 16 rfl rfl)
theorem dX4_ringLine_41 : decode cX4_ringLine 41 = .ok (.invokevirtual 100, 3) := dk_182 0 100 (dk_at dksX4_ringLine_1 17 rfl rfl)
theorem dX4_ringLine_44 : decode cX4_ringLine 44 = .ok (.aload_n 0, 1) := dk_42 (dk_at dksX4_ringLine_1 20 rfl rfl)
theorem dX4_ringLine_45 : decode cX4_ringLine 45 = .ok (.aload_n 0, 1) := dk_42 (dk_at dksX4_ringLine_1 21 rfl rfl)
theorem dX4_ringLine_46 : decode cX4_ringLine 46 = .ok (.getfield 85, 3) := dk_180 0 85 (dk_at dksX4_ringLine_2 0 rfl rfl)
theorem dX4_ringLine_49 : decode cX4_ringLine 49 = .ok (.iconst 2, 1) := dk_5 (dk_at dksX4_ringLine_2 3 rfl rfl)
theorem dX4_ringLine_50 : decode cX4_ringLine 50 = .ok (.bipush 97, 2) := dk_16 97 (dk_at dksX4_ringLine_2 4 rfl rfl)
theorem dX4_ringLine_52 : decode cX4_ringLine 52 = .ok (.invokestatic 53, 3) := dk_184 0 53 (dk_at dksX4_ringLine_2 6 rfl rfl)
theorem dX4_ringLine_55 : decode cX4_ringLine 55 = .ok (.ifCond .eq 19, 3) := dk_153 0 19 (dk_at dksX4_ringLine_2 9 rfl rfl)
theorem dX4_ringLine_58 : decode cX4_ringLine 58 = .ok (.getstatic 147, 3) := dk_178 0 147 (dk_at dksX4_ringLine_2 12 rfl rfl)
theorem dX4_ringLine_61 : decode cX4_ringLine 61 = .ok (.aload_n 0, 1) := dk_42 (dk_at dksX4_ringLine_2 15 rfl rfl)
theorem dX4_ringLine_62 : decode cX4_ringLine 62 = .ok (.getfield 85, 3) := dk_180 0 85 (dk_at dksX4_ringLine_2 16 rfl rfl)
theorem dX4_ringLine_65 : decode cX4_ringLine 65 = .ok (.iaload, 1) := dk_46 (dk_at dksX4_ringLine_2 19 rfl rfl)
theorem dX4_ringLine_66 : decode cX4_ringLine 66 = .ok (.iconst 1, 1) := dk_4 (dk_at dksX4_ringLine_2 20 rfl rfl)
theorem dX4_ringLine_67 : decode cX4_ringLine 67 = .ok (.if_icmp .ne 7, 3) := dk_160 0 7 (dk_at dksX4_ringLine_2 21 rfl rfl)
theorem dX4_ringLine_70 : decode cX4_ringLine 70 = .ok (.iconst 1, 1) := dk_4 (dk_at dksX4_ringLine_3 0 rfl rfl)
theorem dX4_ringLine_71 : decode cX4_ringLine 71 = .ok (.goto 4, 3) := dk_167 0 4 (dk_at dksX4_ringLine_3 1 rfl rfl)
theorem dX4_ringLine_74 : decode cX4_ringLine 74 = .ok (.iconst 0, 1) := dk_3 (dk_at dksX4_ringLine_3 4 rfl rfl)
theorem dX4_ringLine_75 : decode cX4_ringLine 75 = .ok (.iconst 2, 1) := dk_5 (dk_at dksX4_ringLine_3 5 rfl rfl)
theorem dX4_ringLine_76 : decode cX4_ringLine 76 = .ok (.invokevirtual 123, 3) := dk_182 0 123 (dk_at dksX4_ringLine_3 6 rfl rfl)
theorem dX4_ringLine_79 : decode cX4_ringLine 79 = .ok (.aload_n 0, 1) := dk_42 (dk_at dksX4_ringLine_3 9 rfl rfl)
theorem dX4_ringLine_80 : decode cX4_ringLine 80 = .ok (.aload_n 0, 1) := dk_42 (dk_at dksX4_ringLine_3 10 rfl rfl)
theorem dX4_ringLine_81 : decode cX4_ringLine 81 = .ok (.getfield 85, 3) := dk_180 0 85 (dk_at dksX4_ringLine_3 11 rfl rfl)
theorem dX4_ringLine_84 : decode cX4_ringLine 84 = .ok (.putfield 150, 3) := dk_181 0 150 (dk_at dksX4_ringLine_3 14 rfl rfl)
theorem dX4_ringLine_87 : decode cX4_ringLine 87 = .ok (.aload_n 0, 1) := dk_42 (dk_at dksX4_ringLine_3 17 rfl rfl)
theorem dX4_ringLine_88 : decode cX4_ringLine 88 = .ok (.invokevirtual 104, 3) := dk_182 0 104 (dk_at dksX4_ringLine_3 18 rfl rfl)
theorem dX4_ringLine_91 : decode cX4_ringLine 91 = .ok (.aload_n 0, 1) := dk_42 (dk_at dksX4_ringLine_3 21 rfl rfl)
theorem dX4_ringLine_92 : decode cX4_ringLine 92 = .ok (.ldc 153, 2) := dk_18 153 (dk_at dksX4_ringLine_3 22 rfl rfl)
theorem dX4_ringLine_94 : decode cX4_ringLine 94 = .ok (.invokevirtual 143, 3) := dk_182 0 143 (dk_at dksX4_ringLine_4 0 rfl rfl)
theorem dX4_ringLine_97 : decode cX4_ringLine 97 = .ok (.aload_n 0, 1) := dk_42 (dk_at dksX4_ringLine_4 3 rfl rfl)
theorem dX4_ringLine_98 : decode cX4_ringLine 98 = .ok (.aload_n 0, 1) := dk_42 (dk_at dksX4_ringLine_4 4 rfl rfl)
theorem dX4_ringLine_99 : decode cX4_ringLine 99 = .ok (.ldc 155, 2) := dk_18 155 (dk_at dksX4_ringLine_4 5 rfl rfl)
theorem dX4_ringLine_101 : decode cX4_ringLine 101 = .ok (.invokevirtual 96, 3) := dk_182 0 96 (dk_at dksX4_ringLine_4 7 rfl rfl)
theorem dX4_ringLine_104 : decode cX4_ringLine 104 = .ok (.ifCond .eq 7, 3) := dk_153 0 7 (dk_at dksX4_ringLine_4 10 rfl rfl)
theorem dX4_ringLine_107 : decode cX4_ringLine 107 = .ok (.iconst 0, 1) := dk_3 (dk_at dksX4_ringLine_4 13 rfl rfl)
theorem dX4_ringLine_108 : decode cX4_ringLine 108 = .ok (.goto 30, 3) := dk_167 0 30 (dk_at dksX4_ringLine_4 14 rfl rfl)
theorem dX4_ringLine_111 : decode cX4_ringLine 111 = .ok (.aload_n 0, 1) := dk_42 (dk_at dksX4_ringLine_4 17 rfl rfl)
theorem dX4_ringLine_112 : decode cX4_ringLine 112 = .ok (.ldc 157, 2) := dk_18 157 (dk_at dksX4_ringLine_4 18 rfl rfl)
theorem dX4_ringLine_114 : decode cX4_ringLine 114 = .ok (.invokevirtual 96, 3) := dk_182 0 96 (dk_at dksX4_ringLine_4 20 rfl rfl)
theorem dX4_ringLine_117 : decode cX4_ringLine 117 = .ok (.ifCond .eq 7, 3) := dk_153 0 7 (dk_at dksX4_ringLine_5 0 rfl rfl)
theorem dX4_ringLine_120 : decode cX4_ringLine 120 = .ok (.iconst 1, 1) := dk_4 (dk_at dksX4_ringLine_5 3 rfl rfl)
theorem dX4_ringLine_121 : decode cX4_ringLine 121 = .ok (.goto 17, 3) := dk_167 0 17 (dk_at dksX4_ringLine_5 4 rfl rfl)
theorem dX4_ringLine_124 : decode cX4_ringLine 124 = .ok (.aload_n 0, 1) := dk_42 (dk_at dksX4_ringLine_5 7 rfl rfl)
theorem dX4_ringLine_125 : decode cX4_ringLine 125 = .ok (.ldc 159, 2) := dk_18 159 (dk_at dksX4_ringLine_5 8 rfl rfl)
theorem dX4_ringLine_127 : decode cX4_ringLine 127 = .ok (.invokevirtual 96, 3) := dk_182 0 96 (dk_at dksX4_ringLine_5 10 rfl rfl)
theorem dX4_ringLine_130 : decode cX4_ringLine 130 = .ok (.ifCond .eq 7, 3) := dk_153 0 7 (dk_at dksX4_ringLine_5 13 rfl rfl)
theorem dX4_ringLine_133 : decode cX4_ringLine 133 = .ok (.iconst 2, 1) := dk_5 (dk_at dksX4_ringLine_5 16 rfl rfl)
theorem dX4_ringLine_134 : decode cX4_ringLine 134 = .ok (.goto 4, 3) := dk_167 0 4 (dk_at dksX4_ringLine_5 17 rfl rfl)
theorem dX4_ringLine_137 : decode cX4_ringLine 137 = .ok (.iconst (-1), 1) := dk_2 (dk_at dksX4_ringLine_5 20 rfl rfl)
theorem dX4_ringLine_138 : decode cX4_ringLine 138 = .ok (.putfield 161, 3) := dk_181 0 161 (dk_at dksX4_ringLine_5 21 rfl rfl)
theorem dX4_ringLine_141 : decode cX4_ringLine 141 = .ok (.aload_n 0, 1) := dk_42 (dk_at dksX4_ringLine_6 0 rfl rfl)
theorem dX4_ringLine_142 : decode cX4_ringLine 142 = .ok (.aload_n 0, 1) := dk_42 (dk_at dksX4_ringLine_6 1 rfl rfl)
theorem dX4_ringLine_143 : decode cX4_ringLine 143 = .ok (.getfield 161, 3) := dk_180 0 161 (dk_at dksX4_ringLine_6 2 rfl rfl)
theorem dX4_ringLine_146 : decode cX4_ringLine 146 = .ok (.iconst (-1), 1) := dk_2 (dk_at dksX4_ringLine_6 5 rfl rfl)
theorem dX4_ringLine_147 : decode cX4_ringLine 147 = .ok (.if_icmp .eq 7, 3) := dk_159 0 7 (dk_at dksX4_ringLine_6 6 rfl rfl)
theorem dX4_ringLine_150 : decode cX4_ringLine 150 = .ok (.iconst 1, 1) := dk_4 (dk_at dksX4_ringLine_6 9 rfl rfl)
theorem dX4_ringLine_151 : decode cX4_ringLine 151 = .ok (.goto 4, 3) := dk_167 0 4 (dk_at dksX4_ringLine_6 10 rfl rfl)
theorem dX4_ringLine_154 : decode cX4_ringLine 154 = .ok (.iconst 0, 1) := dk_3 (dk_at dksX4_ringLine_6 13 rfl rfl)
theorem dX4_ringLine_155 : decode cX4_ringLine 155 = .ok (.invokevirtual 100, 3) := dk_182 0 100 (dk_at dksX4_ringLine_6 14 rfl rfl)
theorem dX4_ringLine_158 : decode cX4_ringLine 158 = .ok (.aload_n 0, 1) := dk_42 (dk_at dksX4_ringLine_6 17 rfl rfl)
theorem dX4_ringLine_159 : decode cX4_ringLine 159 = .ok (.invokevirtual 104, 3) := dk_182 0 104 (dk_at dksX4_ringLine_6 18 rfl rfl)
theorem dX4_ringLine_162 : decode cX4_ringLine 162 = .ok (.iconst 0, 1) := dk_3 (dk_at dksX4_ringLine_6 21 rfl rfl)
theorem dX4_ringLine_163 : decode cX4_ringLine 163 = .ok (.istore_n 1, 1) := dk_60 (dk_at dksX4_ringLine_6 22 rfl rfl)
theorem dX4_ringLine_164 : decode cX4_ringLine 164 = .ok (.iload_n 1, 1) := dk_27 (dk_at dksX4_ringLine_6 23 rfl rfl)
theorem dX4_ringLine_165 : decode cX4_ringLine 165 = .ok (.iconst 3, 1) := dk_6 (dk_at dksX4_ringLine_7 0 rfl rfl)
theorem dX4_ringLine_166 : decode cX4_ringLine 166 = .ok (.if_icmp .ge 72, 3) := dk_162 0 72 (dk_at dksX4_ringLine_7 1 rfl rfl)
theorem dX4_ringLine_169 : decode cX4_ringLine 169 = .ok (.aload_n 0, 1) := dk_42 (dk_at dksX4_ringLine_7 4 rfl rfl)
theorem dX4_ringLine_170 : decode cX4_ringLine 170 = .ok (.invokevirtual 164, 3) := dk_182 0 164 (dk_at dksX4_ringLine_7 5 rfl rfl)
theorem dX4_ringLine_173 : decode cX4_ringLine 173 = .ok (.istore_n 2, 1) := dk_61 (dk_at dksX4_ringLine_7 8 rfl rfl)
theorem dX4_ringLine_174 : decode cX4_ringLine 174 = .ok (.aload_n 0, 1) := dk_42 (dk_at dksX4_ringLine_7 9 rfl rfl)
theorem dX4_ringLine_175 : decode cX4_ringLine 175 = .ok (.iload_n 2, 1) := dk_28 (dk_at dksX4_ringLine_7 10 rfl rfl)
theorem dX4_ringLine_176 : decode cX4_ringLine 176 = .ok (.iconst (-1), 1) := dk_2 (dk_at dksX4_ringLine_7 11 rfl rfl)
theorem dX4_ringLine_177 : decode cX4_ringLine 177 = .ok (.if_icmp .eq 7, 3) := dk_159 0 7 (dk_at dksX4_ringLine_7 12 rfl rfl)
theorem dX4_ringLine_180 : decode cX4_ringLine 180 = .ok (.iconst 1, 1) := dk_4 (dk_at dksX4_ringLine_7 15 rfl rfl)
theorem dX4_ringLine_181 : decode cX4_ringLine 181 = .ok (.goto 4, 3) := dk_167 0 4 (dk_at dksX4_ringLine_7 16 rfl rfl)
theorem dX4_ringLine_184 : decode cX4_ringLine 184 = .ok (.iconst 0, 1) := dk_3 (dk_at dksX4_ringLine_7 19 rfl rfl)
theorem dX4_ringLine_185 : decode cX4_ringLine 185 = .ok (.invokevirtual 100, 3) := dk_182 0 100 (dk_at dksX4_ringLine_7 20 rfl rfl)
theorem dX4_ringLine_188 : decode cX4_ringLine 188 = .ok (.iconst 0, 1) := dk_3 (dk_at dksX4_ringLine_7 23 rfl rfl)
theorem dX4_ringLine_189 : decode cX4_ringLine 189 = .ok (.istore_n 3, 1) := dk_62 (dk_at dksX4_ringLine_8 0 rfl rfl)
theorem dX4_ringLine_190 : decode cX4_ringLine 190 = .ok (.iload_n 3, 1) := dk_29 (dk_at dksX4_ringLine_8 1 rfl rfl)
theorem dX4_ringLine_191 : decode cX4_ringLine 191 = .ok (.iload_n 1, 1) := dk_27 (dk_at dksX4_ringLine_8 2 rfl rfl)
theorem dX4_ringLine_192 : decode cX4_ringLine 192 = .ok (.if_icmp .ge 29, 3) := dk_162 0 29 (dk_at dksX4_ringLine_8 3 rfl rfl)
theorem dX4_ringLine_195 : decode cX4_ringLine 195 = .ok (.aload_n 0, 1) := dk_42 (dk_at dksX4_ringLine_8 6 rfl rfl)
theorem dX4_ringLine_196 : decode cX4_ringLine 196 = .ok (.aload_n 0, 1) := dk_42 (dk_at dksX4_ringLine_8 7 rfl rfl)
theorem dX4_ringLine_197 : decode cX4_ringLine 197 = .ok (.getfield 36, 3) := dk_180 0 36 (dk_at dksX4_ringLine_8 8 rfl rfl)
theorem dX4_ringLine_200 : decode cX4_ringLine 200 = .ok (.iload_n 3, 1) := dk_29 (dk_at dksX4_ringLine_8 11 rfl rfl)
theorem dX4_ringLine_201 : decode cX4_ringLine 201 = .ok (.iaload, 1) := dk_46 (dk_at dksX4_ringLine_8 12 rfl rfl)
theorem dX4_ringLine_202 : decode cX4_ringLine 202 = .ok (.iload_n 2, 1) := dk_28 (dk_at dksX4_ringLine_8 13 rfl rfl)
theorem dX4_ringLine_203 : decode cX4_ringLine 203 = .ok (.if_icmp .eq 7, 3) := dk_159 0 7 (dk_at dksX4_ringLine_8 14 rfl rfl)
theorem dX4_ringLine_206 : decode cX4_ringLine 206 = .ok (.iconst 1, 1) := dk_4 (dk_at dksX4_ringLine_8 17 rfl rfl)
theorem dX4_ringLine_207 : decode cX4_ringLine 207 = .ok (.goto 4, 3) := dk_167 0 4 (dk_at dksX4_ringLine_8 18 rfl rfl)
theorem dX4_ringLine_210 : decode cX4_ringLine 210 = .ok (.iconst 0, 1) := dk_3 (dk_at dksX4_ringLine_8 21 rfl rfl)
theorem dX4_ringLine_211 : decode cX4_ringLine 211 = .ok (.iconst 3, 1) := dk_6 (dk_at dksX4_ringLine_8 22 rfl rfl)
theorem dX4_ringLine_212 : decode cX4_ringLine 212 = .ok (.invokevirtual 123, 3) := dk_182 0 123 (dk_at dksX4_ringLine_9 0 rfl rfl)
theorem dX4_ringLine_215 : decode cX4_ringLine 215 = .ok (.iinc 3 1, 3) := dk_132 3 1 (dk_at dksX4_ringLine_9 3 rfl rfl)
theorem dX4_ringLine_218 : decode cX4_ringLine 218 = .ok (.goto (-28), 3) := dk_167 255 228 (dk_at dksX4_ringLine_9 6 rfl rfl)
theorem dX4_ringLine_221 : decode cX4_ringLine 221 = .ok (.aload_n 0, 1) := dk_42 (dk_at dksX4_ringLine_9 9 rfl rfl)
theorem dX4_ringLine_222 : decode cX4_ringLine 222 = .ok (.getfield 36, 3) := dk_180 0 36 (dk_at dksX4_ringLine_9 10 rfl rfl)
theorem dX4_ringLine_225 : decode cX4_ringLine 225 = .ok (.iload_n 1, 1) := dk_27 (dk_at dksX4_ringLine_9 13 rfl rfl)
theorem dX4_ringLine_226 : decode cX4_ringLine 226 = .ok (.iload_n 2, 1) := dk_28 (dk_at dksX4_ringLine_9 14 rfl rfl)
theorem dX4_ringLine_227 : decode cX4_ringLine 227 = .ok (.iastore, 1) := dk_79 (dk_at dksX4_ringLine_9 15 rfl rfl)
theorem dX4_ringLine_228 : decode cX4_ringLine 228 = .ok (.aload_n 0, 1) := dk_42 (dk_at dksX4_ringLine_9 16 rfl rfl)
theorem dX4_ringLine_229 : decode cX4_ringLine 229 = .ok (.invokevirtual 104, 3) := dk_182 0 104 (dk_at dksX4_ringLine_9 17 rfl rfl)
theorem dX4_ringLine_232 : decode cX4_ringLine 232 = .ok (.iinc 1 1, 3) := dk_132 1 1 (dk_at dksX4_ringLine_9 20 rfl rfl)
theorem dX4_ringLine_235 : decode cX4_ringLine 235 = .ok (.goto (-71), 3) := dk_167 255 185 (dk_at dksX4_ringLine_10 0 rfl rfl)
theorem dX4_ringLine_238 : decode cX4_ringLine 238 = .ok (.aload_n 0, 1) := dk_42 (dk_at dksX4_ringLine_10 3 rfl rfl)
theorem dX4_ringLine_239 : decode cX4_ringLine 239 = .ok (.iconst 1, 1) := dk_4 (dk_at dksX4_ringLine_10 4 rfl rfl)
theorem dX4_ringLine_240 : decode cX4_ringLine 240 = .ok (.putfield 113, 3) := dk_181 0 113 (dk_at dksX4_ringLine_10 5 rfl rfl)
theorem dX4_ringLine_243 : decode cX4_ringLine 243 = .ok (.return_, 1) := dk_177 (dk_at dksX4_ringLine_10 8 rfl rfl)
abbrev cX4_good : ByteArray := prog_8_method_9_code
def yX4_good : MethodName := ⟨RX4, "good", "(ZI)V"⟩
def dkwX4_good_0 : List UInt8 := [27, 154, 0, 9, 42, 28, 182, 0, 92, 191, 177]
abbrev dktX4_good_0 : List UInt8 := dkwX4_good_0 ++ []
theorem dksX4_good_0 : cX4_good.data.toList.drop 0 = dktX4_good_0 := by decide +kernel
theorem dX4_good_0 : decode cX4_good 0 = .ok (.iload_n 1, 1) := dk_27 (dk_at dksX4_good_0 0 rfl rfl)
theorem dX4_good_1 : decode cX4_good 1 = .ok (.ifCond .ne 9, 3) := dk_154 0 9 (dk_at dksX4_good_0 1 rfl rfl)
theorem dX4_good_4 : decode cX4_good 4 = .ok (.aload_n 0, 1) := dk_42 (dk_at dksX4_good_0 4 rfl rfl)
theorem dX4_good_5 : decode cX4_good 5 = .ok (.iload_n 2, 1) := dk_28 (dk_at dksX4_good_0 5 rfl rfl)
theorem dX4_good_6 : decode cX4_good 6 = .ok (.invokevirtual 92, 3) := dk_182 0 92 (dk_at dksX4_good_0 6 rfl rfl)
theorem dX4_good_9 : decode cX4_good 9 = .ok (.athrow, 1) := dk_191 (dk_at dksX4_good_0 9 rfl rfl)
theorem dX4_good_10 : decode cX4_good 10 = .ok (.return_, 1) := dk_177 (dk_at dksX4_good_0 10 rfl rfl)
abbrev cX4_takes : ByteArray := prog_8_method_10_code
def yX4_takes : MethodName := ⟨RX4, "takes", "(Ljava/lang/String;)V"⟩
def dkwX4_takes_0 : List UInt8 := [42, 42, 43, 182, 0, 96, 182, 0, 100, 42, 182, 0, 104, 177]
abbrev dktX4_takes_0 : List UInt8 := dkwX4_takes_0 ++ []
theorem dksX4_takes_0 : cX4_takes.data.toList.drop 0 = dktX4_takes_0 := by decide +kernel
theorem dX4_takes_0 : decode cX4_takes 0 = .ok (.aload_n 0, 1) := dk_42 (dk_at dksX4_takes_0 0 rfl rfl)
theorem dX4_takes_1 : decode cX4_takes 1 = .ok (.aload_n 0, 1) := dk_42 (dk_at dksX4_takes_0 1 rfl rfl)
theorem dX4_takes_2 : decode cX4_takes 2 = .ok (.aload_n 1, 1) := dk_43 (dk_at dksX4_takes_0 2 rfl rfl)
theorem dX4_takes_3 : decode cX4_takes 3 = .ok (.invokevirtual 96, 3) := dk_182 0 96 (dk_at dksX4_takes_0 3 rfl rfl)
theorem dX4_takes_6 : decode cX4_takes 6 = .ok (.invokevirtual 100, 3) := dk_182 0 100 (dk_at dksX4_takes_0 6 rfl rfl)
theorem dX4_takes_9 : decode cX4_takes 9 = .ok (.aload_n 0, 1) := dk_42 (dk_at dksX4_takes_0 9 rfl rfl)
theorem dX4_takes_10 : decode cX4_takes 10 = .ok (.invokevirtual 104, 3) := dk_182 0 104 (dk_at dksX4_takes_0 10 rfl rfl)
theorem dX4_takes_13 : decode cX4_takes 13 = .ok (.return_, 1) := dk_177 (dk_at dksX4_takes_0 13 rfl rfl)
abbrev cX4_is : ByteArray := prog_8_method_7_code
def yX4_is : MethodName := ⟨RX4, "is", "(Ljava/lang/String;)Z"⟩
def dkwX4_is_1 : List UInt8 := [172]
abbrev dktX4_is_1 : List UInt8 := dkwX4_is_1 ++ []
def dkwX4_is_0 : List UInt8 := [42, 180, 0, 64, 5, 160, 0, 18, 42, 180, 0, 78, 43, 182, 0, 88, 153, 0, 7, 4, 167, 0, 4, 3]
abbrev dktX4_is_0 : List UInt8 := dkwX4_is_0 ++ dktX4_is_1
theorem dksX4_is_0 : cX4_is.data.toList.drop 0 = dktX4_is_0 := by decide +kernel
theorem dksX4_is_1 : cX4_is.data.toList.drop 24 = dktX4_is_1 := dk_seg dksX4_is_0 24 rfl rfl
theorem dX4_is_0 : decode cX4_is 0 = .ok (.aload_n 0, 1) := dk_42 (dk_at dksX4_is_0 0 rfl rfl)
theorem dX4_is_1 : decode cX4_is 1 = .ok (.getfield 64, 3) := dk_180 0 64 (dk_at dksX4_is_0 1 rfl rfl)
theorem dX4_is_4 : decode cX4_is 4 = .ok (.iconst 2, 1) := dk_5 (dk_at dksX4_is_0 4 rfl rfl)
theorem dX4_is_5 : decode cX4_is 5 = .ok (.if_icmp .ne 18, 3) := dk_160 0 18 (dk_at dksX4_is_0 5 rfl rfl)
theorem dX4_is_8 : decode cX4_is 8 = .ok (.aload_n 0, 1) := dk_42 (dk_at dksX4_is_0 8 rfl rfl)
theorem dX4_is_9 : decode cX4_is 9 = .ok (.getfield 78, 3) := dk_180 0 78 (dk_at dksX4_is_0 9 rfl rfl)
theorem dX4_is_12 : decode cX4_is 12 = .ok (.aload_n 1, 1) := dk_43 (dk_at dksX4_is_0 12 rfl rfl)
theorem dX4_is_13 : decode cX4_is 13 = .ok (.invokevirtual 88, 3) := dk_182 0 88 (dk_at dksX4_is_0 13 rfl rfl)
theorem dX4_is_16 : decode cX4_is 16 = .ok (.ifCond .eq 7, 3) := dk_153 0 7 (dk_at dksX4_is_0 16 rfl rfl)
theorem dX4_is_19 : decode cX4_is 19 = .ok (.iconst 1, 1) := dk_4 (dk_at dksX4_is_0 19 rfl rfl)
theorem dX4_is_20 : decode cX4_is 20 = .ok (.goto 4, 3) := dk_167 0 4 (dk_at dksX4_is_0 20 rfl rfl)
theorem dX4_is_23 : decode cX4_is 23 = .ok (.iconst 0, 1) := dk_3 (dk_at dksX4_is_0 23 rfl rfl)
theorem dX4_is_24 : decode cX4_is 24 = .ok (.ireturn, 1) := dk_172 (dk_at dksX4_is_1 0 rfl rfl)
abbrev cX4_unknown : ByteArray := prog_8_method_11_code
def yX4_unknown : MethodName := ⟨RX4, "unknown", "()I"⟩
def dkwX4_unknown_1 : List UInt8 := [167, 0, 17, 42, 18, 111, 182, 0, 96, 153, 0, 7, 5, 167, 0, 4, 2, 172]
abbrev dktX4_unknown_1 : List UInt8 := dkwX4_unknown_1 ++ []
def dkwX4_unknown_0 : List UInt8 := [42, 18, 107, 182, 0, 96, 153, 0, 7, 3, 167, 0, 30, 42, 18, 109, 182, 0, 96, 153, 0, 7, 4]
abbrev dktX4_unknown_0 : List UInt8 := dkwX4_unknown_0 ++ dktX4_unknown_1
theorem dksX4_unknown_0 : cX4_unknown.data.toList.drop 0 = dktX4_unknown_0 := by decide +kernel
theorem dksX4_unknown_1 : cX4_unknown.data.toList.drop 23 = dktX4_unknown_1 := dk_seg dksX4_unknown_0 23 rfl rfl
theorem dX4_unknown_0 : decode cX4_unknown 0 = .ok (.aload_n 0, 1) := dk_42 (dk_at dksX4_unknown_0 0 rfl rfl)
theorem dX4_unknown_1 : decode cX4_unknown 1 = .ok (.ldc 107, 2) := dk_18 107 (dk_at dksX4_unknown_0 1 rfl rfl)
theorem dX4_unknown_3 : decode cX4_unknown 3 = .ok (.invokevirtual 96, 3) := dk_182 0 96 (dk_at dksX4_unknown_0 3 rfl rfl)
theorem dX4_unknown_6 : decode cX4_unknown 6 = .ok (.ifCond .eq 7, 3) := dk_153 0 7 (dk_at dksX4_unknown_0 6 rfl rfl)
theorem dX4_unknown_9 : decode cX4_unknown 9 = .ok (.iconst 0, 1) := dk_3 (dk_at dksX4_unknown_0 9 rfl rfl)
theorem dX4_unknown_10 : decode cX4_unknown 10 = .ok (.goto 30, 3) := dk_167 0 30 (dk_at dksX4_unknown_0 10 rfl rfl)
theorem dX4_unknown_13 : decode cX4_unknown 13 = .ok (.aload_n 0, 1) := dk_42 (dk_at dksX4_unknown_0 13 rfl rfl)
theorem dX4_unknown_14 : decode cX4_unknown 14 = .ok (.ldc 109, 2) := dk_18 109 (dk_at dksX4_unknown_0 14 rfl rfl)
theorem dX4_unknown_16 : decode cX4_unknown 16 = .ok (.invokevirtual 96, 3) := dk_182 0 96 (dk_at dksX4_unknown_0 16 rfl rfl)
theorem dX4_unknown_19 : decode cX4_unknown 19 = .ok (.ifCond .eq 7, 3) := dk_153 0 7 (dk_at dksX4_unknown_0 19 rfl rfl)
theorem dX4_unknown_22 : decode cX4_unknown 22 = .ok (.iconst 1, 1) := dk_4 (dk_at dksX4_unknown_0 22 rfl rfl)
theorem dX4_unknown_23 : decode cX4_unknown 23 = .ok (.goto 17, 3) := dk_167 0 17 (dk_at dksX4_unknown_1 0 rfl rfl)
theorem dX4_unknown_26 : decode cX4_unknown 26 = .ok (.aload_n 0, 1) := dk_42 (dk_at dksX4_unknown_1 3 rfl rfl)
theorem dX4_unknown_27 : decode cX4_unknown 27 = .ok (.ldc 111, 2) := dk_18 111 (dk_at dksX4_unknown_1 4 rfl rfl)
theorem dX4_unknown_29 : decode cX4_unknown 29 = .ok (.invokevirtual 96, 3) := dk_182 0 96 (dk_at dksX4_unknown_1 6 rfl rfl)
theorem dX4_unknown_32 : decode cX4_unknown 32 = .ok (.ifCond .eq 7, 3) := dk_153 0 7 (dk_at dksX4_unknown_1 9 rfl rfl)
theorem dX4_unknown_35 : decode cX4_unknown 35 = .ok (.iconst 2, 1) := dk_5 (dk_at dksX4_unknown_1 12 rfl rfl)
theorem dX4_unknown_36 : decode cX4_unknown 36 = .ok (.goto 4, 3) := dk_167 0 4 (dk_at dksX4_unknown_1 13 rfl rfl)
theorem dX4_unknown_39 : decode cX4_unknown 39 = .ok (.iconst (-1), 1) := dk_2 (dk_at dksX4_unknown_1 16 rfl rfl)
theorem dX4_unknown_40 : decode cX4_unknown 40 = .ok (.ireturn, 1) := dk_172 (dk_at dksX4_unknown_1 17 rfl rfl)
abbrev cX4_polyLine : ByteArray := prog_8_method_15_code
def yX4_polyLine : MethodName := ⟨RX4, "polyLine", "()V"⟩
def dkwX4_polyLine_6 : List UInt8 := [180, 0, 117, 4, 96, 181, 0, 117, 177]
abbrev dktX4_polyLine_6 : List UInt8 := dkwX4_polyLine_6 ++ []
def dkwX4_polyLine_5 : List UInt8 := [160, 0, 7, 4, 167, 0, 4, 3, 60, 42, 182, 0, 104, 42, 27, 182, 0, 167, 167, 255, 190, 42, 89]
abbrev dktX4_polyLine_5 : List UInt8 := dkwX4_polyLine_5 ++ dktX4_polyLine_6
def dkwX4_polyLine_4 : List UInt8 := [180, 0, 117, 46, 16, 12, 162, 0, 7, 4, 167, 0, 4, 3, 8, 182, 0, 123, 42, 180, 0, 64, 16, 45]
abbrev dktX4_polyLine_4 : List UInt8 := dkwX4_polyLine_4 ++ dktX4_polyLine_5
def dkwX4_polyLine_3 : List UInt8 := [42, 180, 0, 64, 16, 43, 159, 0, 12, 42, 180, 0, 64, 16, 45, 160, 0, 54, 42, 42, 180, 0, 33, 42]
abbrev dktX4_polyLine_3 : List UInt8 := dkwX4_polyLine_3 ++ dktX4_polyLine_4
def dkwX4_polyLine_2 : List UInt8 := [16, 45, 160, 0, 7, 4, 167, 0, 4, 3, 60, 27, 153, 0, 7, 42, 182, 0, 104, 42, 27, 182, 0, 167]
abbrev dktX4_polyLine_2 : List UInt8 := dkwX4_polyLine_2 ++ dktX4_polyLine_3
def dkwX4_polyLine_1 : List UInt8 := [16, 6, 182, 0, 123, 42, 182, 0, 104, 42, 180, 0, 33, 42, 180, 0, 117, 3, 79, 42, 180, 0, 64]
abbrev dktX4_polyLine_1 : List UInt8 := dkwX4_polyLine_1 ++ dktX4_polyLine_2
def dkwX4_polyLine_0 : List UInt8 := [42, 42, 180, 0, 117, 16, 6, 162, 0, 7, 4, 167, 0, 4, 3, 8, 182, 0, 123, 42, 42, 180, 0, 113]
abbrev dktX4_polyLine_0 : List UInt8 := dkwX4_polyLine_0 ++ dktX4_polyLine_1
theorem dksX4_polyLine_0 : cX4_polyLine.data.toList.drop 0 = dktX4_polyLine_0 := by decide +kernel
theorem dksX4_polyLine_1 : cX4_polyLine.data.toList.drop 24 = dktX4_polyLine_1 := dk_seg dksX4_polyLine_0 24 rfl rfl
theorem dksX4_polyLine_2 : cX4_polyLine.data.toList.drop 47 = dktX4_polyLine_2 := dk_seg dksX4_polyLine_1 23 rfl rfl
theorem dksX4_polyLine_3 : cX4_polyLine.data.toList.drop 71 = dktX4_polyLine_3 := dk_seg dksX4_polyLine_2 24 rfl rfl
theorem dksX4_polyLine_4 : cX4_polyLine.data.toList.drop 95 = dktX4_polyLine_4 := dk_seg dksX4_polyLine_3 24 rfl rfl
theorem dksX4_polyLine_5 : cX4_polyLine.data.toList.drop 119 = dktX4_polyLine_5 := dk_seg dksX4_polyLine_4 24 rfl rfl
theorem dksX4_polyLine_6 : cX4_polyLine.data.toList.drop 142 = dktX4_polyLine_6 := dk_seg dksX4_polyLine_5 23 rfl rfl
theorem dX4_polyLine_0 : decode cX4_polyLine 0 = .ok (.aload_n 0, 1) := dk_42 (dk_at dksX4_polyLine_0 0 rfl rfl)
theorem dX4_polyLine_1 : decode cX4_polyLine 1 = .ok (.aload_n 0, 1) := dk_42 (dk_at dksX4_polyLine_0 1 rfl rfl)
theorem dX4_polyLine_2 : decode cX4_polyLine 2 = .ok (.getfield 117, 3) := dk_180 0 117 (dk_at dksX4_polyLine_0 2 rfl rfl)
theorem dX4_polyLine_5 : decode cX4_polyLine 5 = .ok (.bipush 6, 2) := dk_16 6 (dk_at dksX4_polyLine_0 5 rfl rfl)
theorem dX4_polyLine_7 : decode cX4_polyLine 7 = .ok (.if_icmp .ge 7, 3) := dk_162 0 7 (dk_at dksX4_polyLine_0 7 rfl rfl)
theorem dX4_polyLine_10 : decode cX4_polyLine 10 = .ok (.iconst 1, 1) := dk_4 (dk_at dksX4_polyLine_0 10 rfl rfl)
theorem dX4_polyLine_11 : decode cX4_polyLine 11 = .ok (.goto 4, 3) := dk_167 0 4 (dk_at dksX4_polyLine_0 11 rfl rfl)
theorem dX4_polyLine_14 : decode cX4_polyLine 14 = .ok (.iconst 0, 1) := dk_3 (dk_at dksX4_polyLine_0 14 rfl rfl)
theorem dX4_polyLine_15 : decode cX4_polyLine 15 = .ok (.iconst 5, 1) := dk_8 (dk_at dksX4_polyLine_0 15 rfl rfl)
theorem dX4_polyLine_16 : decode cX4_polyLine 16 = .ok (.invokevirtual 123, 3) := dk_182 0 123 (dk_at dksX4_polyLine_0 16 rfl rfl)
theorem dX4_polyLine_19 : decode cX4_polyLine 19 = .ok (.aload_n 0, 1) := dk_42 (dk_at dksX4_polyLine_0 19 rfl rfl)
theorem dX4_polyLine_20 : decode cX4_polyLine 20 = .ok (.aload_n 0, 1) := dk_42 (dk_at dksX4_polyLine_0 20 rfl rfl)
theorem dX4_polyLine_21 : decode cX4_polyLine 21 = .ok (.getfield 113, 3) := dk_180 0 113 (dk_at dksX4_polyLine_0 21 rfl rfl)
theorem dX4_polyLine_24 : decode cX4_polyLine 24 = .ok (.bipush 6, 2) := dk_16 6 (dk_at dksX4_polyLine_1 0 rfl rfl)
theorem dX4_polyLine_26 : decode cX4_polyLine 26 = .ok (.invokevirtual 123, 3) := dk_182 0 123 (dk_at dksX4_polyLine_1 2 rfl rfl)
theorem dX4_polyLine_29 : decode cX4_polyLine 29 = .ok (.aload_n 0, 1) := dk_42 (dk_at dksX4_polyLine_1 5 rfl rfl)
theorem dX4_polyLine_30 : decode cX4_polyLine 30 = .ok (.invokevirtual 104, 3) := dk_182 0 104 (dk_at dksX4_polyLine_1 6 rfl rfl)
theorem dX4_polyLine_33 : decode cX4_polyLine 33 = .ok (.aload_n 0, 1) := dk_42 (dk_at dksX4_polyLine_1 9 rfl rfl)
theorem dX4_polyLine_34 : decode cX4_polyLine 34 = .ok (.getfield 33, 3) := dk_180 0 33 (dk_at dksX4_polyLine_1 10 rfl rfl)
theorem dX4_polyLine_37 : decode cX4_polyLine 37 = .ok (.aload_n 0, 1) := dk_42 (dk_at dksX4_polyLine_1 13 rfl rfl)
theorem dX4_polyLine_38 : decode cX4_polyLine 38 = .ok (.getfield 117, 3) := dk_180 0 117 (dk_at dksX4_polyLine_1 14 rfl rfl)
theorem dX4_polyLine_41 : decode cX4_polyLine 41 = .ok (.iconst 0, 1) := dk_3 (dk_at dksX4_polyLine_1 17 rfl rfl)
theorem dX4_polyLine_42 : decode cX4_polyLine 42 = .ok (.iastore, 1) := dk_79 (dk_at dksX4_polyLine_1 18 rfl rfl)
theorem dX4_polyLine_43 : decode cX4_polyLine 43 = .ok (.aload_n 0, 1) := dk_42 (dk_at dksX4_polyLine_1 19 rfl rfl)
theorem dX4_polyLine_44 : decode cX4_polyLine 44 = .ok (.getfield 64, 3) := dk_180 0 64 (dk_at dksX4_polyLine_1 20 rfl rfl)
theorem dX4_polyLine_47 : decode cX4_polyLine 47 = .ok (.bipush 45, 2) := dk_16 45 (dk_at dksX4_polyLine_2 0 rfl rfl)
theorem dX4_polyLine_49 : decode cX4_polyLine 49 = .ok (.if_icmp .ne 7, 3) := dk_160 0 7 (dk_at dksX4_polyLine_2 2 rfl rfl)
theorem dX4_polyLine_52 : decode cX4_polyLine 52 = .ok (.iconst 1, 1) := dk_4 (dk_at dksX4_polyLine_2 5 rfl rfl)
theorem dX4_polyLine_53 : decode cX4_polyLine 53 = .ok (.goto 4, 3) := dk_167 0 4 (dk_at dksX4_polyLine_2 6 rfl rfl)
theorem dX4_polyLine_56 : decode cX4_polyLine 56 = .ok (.iconst 0, 1) := dk_3 (dk_at dksX4_polyLine_2 9 rfl rfl)
theorem dX4_polyLine_57 : decode cX4_polyLine 57 = .ok (.istore_n 1, 1) := dk_60 (dk_at dksX4_polyLine_2 10 rfl rfl)
theorem dX4_polyLine_58 : decode cX4_polyLine 58 = .ok (.iload_n 1, 1) := dk_27 (dk_at dksX4_polyLine_2 11 rfl rfl)
theorem dX4_polyLine_59 : decode cX4_polyLine 59 = .ok (.ifCond .eq 7, 3) := dk_153 0 7 (dk_at dksX4_polyLine_2 12 rfl rfl)
theorem dX4_polyLine_62 : decode cX4_polyLine 62 = .ok (.aload_n 0, 1) := dk_42 (dk_at dksX4_polyLine_2 15 rfl rfl)
theorem dX4_polyLine_63 : decode cX4_polyLine 63 = .ok (.invokevirtual 104, 3) := dk_182 0 104 (dk_at dksX4_polyLine_2 16 rfl rfl)
theorem dX4_polyLine_66 : decode cX4_polyLine 66 = .ok (.aload_n 0, 1) := dk_42 (dk_at dksX4_polyLine_2 19 rfl rfl)
theorem dX4_polyLine_67 : decode cX4_polyLine 67 = .ok (.iload_n 1, 1) := dk_27 (dk_at dksX4_polyLine_2 20 rfl rfl)
theorem dX4_polyLine_68 : decode cX4_polyLine 68 = .ok (.invokevirtual 167, 3) := dk_182 0 167 (dk_at dksX4_polyLine_2 21 rfl rfl)
theorem dX4_polyLine_71 : decode cX4_polyLine 71 = .ok (.aload_n 0, 1) := dk_42 (dk_at dksX4_polyLine_3 0 rfl rfl)
theorem dX4_polyLine_72 : decode cX4_polyLine 72 = .ok (.getfield 64, 3) := dk_180 0 64 (dk_at dksX4_polyLine_3 1 rfl rfl)
theorem dX4_polyLine_75 : decode cX4_polyLine 75 = .ok (.bipush 43, 2) := dk_16 43 (dk_at dksX4_polyLine_3 4 rfl rfl)
theorem dX4_polyLine_77 : decode cX4_polyLine 77 = .ok (.if_icmp .eq 12, 3) := dk_159 0 12 (dk_at dksX4_polyLine_3 6 rfl rfl)
theorem dX4_polyLine_80 : decode cX4_polyLine 80 = .ok (.aload_n 0, 1) := dk_42 (dk_at dksX4_polyLine_3 9 rfl rfl)
theorem dX4_polyLine_81 : decode cX4_polyLine 81 = .ok (.getfield 64, 3) := dk_180 0 64 (dk_at dksX4_polyLine_3 10 rfl rfl)
theorem dX4_polyLine_84 : decode cX4_polyLine 84 = .ok (.bipush 45, 2) := dk_16 45 (dk_at dksX4_polyLine_3 13 rfl rfl)
theorem dX4_polyLine_86 : decode cX4_polyLine 86 = .ok (.if_icmp .ne 54, 3) := dk_160 0 54 (dk_at dksX4_polyLine_3 15 rfl rfl)
theorem dX4_polyLine_89 : decode cX4_polyLine 89 = .ok (.aload_n 0, 1) := dk_42 (dk_at dksX4_polyLine_3 18 rfl rfl)
theorem dX4_polyLine_90 : decode cX4_polyLine 90 = .ok (.aload_n 0, 1) := dk_42 (dk_at dksX4_polyLine_3 19 rfl rfl)
theorem dX4_polyLine_91 : decode cX4_polyLine 91 = .ok (.getfield 33, 3) := dk_180 0 33 (dk_at dksX4_polyLine_3 20 rfl rfl)
theorem dX4_polyLine_94 : decode cX4_polyLine 94 = .ok (.aload_n 0, 1) := dk_42 (dk_at dksX4_polyLine_3 23 rfl rfl)
theorem dX4_polyLine_95 : decode cX4_polyLine 95 = .ok (.getfield 117, 3) := dk_180 0 117 (dk_at dksX4_polyLine_4 0 rfl rfl)
theorem dX4_polyLine_98 : decode cX4_polyLine 98 = .ok (.iaload, 1) := dk_46 (dk_at dksX4_polyLine_4 3 rfl rfl)
theorem dX4_polyLine_99 : decode cX4_polyLine 99 = .ok (.bipush 12, 2) := dk_16 12 (dk_at dksX4_polyLine_4 4 rfl rfl)
theorem dX4_polyLine_101 : decode cX4_polyLine 101 = .ok (.if_icmp .ge 7, 3) := dk_162 0 7 (dk_at dksX4_polyLine_4 6 rfl rfl)
theorem dX4_polyLine_104 : decode cX4_polyLine 104 = .ok (.iconst 1, 1) := dk_4 (dk_at dksX4_polyLine_4 9 rfl rfl)
theorem dX4_polyLine_105 : decode cX4_polyLine 105 = .ok (.goto 4, 3) := dk_167 0 4 (dk_at dksX4_polyLine_4 10 rfl rfl)
theorem dX4_polyLine_108 : decode cX4_polyLine 108 = .ok (.iconst 0, 1) := dk_3 (dk_at dksX4_polyLine_4 13 rfl rfl)
theorem dX4_polyLine_109 : decode cX4_polyLine 109 = .ok (.iconst 5, 1) := dk_8 (dk_at dksX4_polyLine_4 14 rfl rfl)
theorem dX4_polyLine_110 : decode cX4_polyLine 110 = .ok (.invokevirtual 123, 3) := dk_182 0 123 (dk_at dksX4_polyLine_4 15 rfl rfl)
theorem dX4_polyLine_113 : decode cX4_polyLine 113 = .ok (.aload_n 0, 1) := dk_42 (dk_at dksX4_polyLine_4 18 rfl rfl)
theorem dX4_polyLine_114 : decode cX4_polyLine 114 = .ok (.getfield 64, 3) := dk_180 0 64 (dk_at dksX4_polyLine_4 19 rfl rfl)
theorem dX4_polyLine_117 : decode cX4_polyLine 117 = .ok (.bipush 45, 2) := dk_16 45 (dk_at dksX4_polyLine_4 22 rfl rfl)
theorem dX4_polyLine_119 : decode cX4_polyLine 119 = .ok (.if_icmp .ne 7, 3) := dk_160 0 7 (dk_at dksX4_polyLine_5 0 rfl rfl)
theorem dX4_polyLine_122 : decode cX4_polyLine 122 = .ok (.iconst 1, 1) := dk_4 (dk_at dksX4_polyLine_5 3 rfl rfl)
theorem dX4_polyLine_123 : decode cX4_polyLine 123 = .ok (.goto 4, 3) := dk_167 0 4 (dk_at dksX4_polyLine_5 4 rfl rfl)
theorem dX4_polyLine_126 : decode cX4_polyLine 126 = .ok (.iconst 0, 1) := dk_3 (dk_at dksX4_polyLine_5 7 rfl rfl)
theorem dX4_polyLine_127 : decode cX4_polyLine 127 = .ok (.istore_n 1, 1) := dk_60 (dk_at dksX4_polyLine_5 8 rfl rfl)
theorem dX4_polyLine_128 : decode cX4_polyLine 128 = .ok (.aload_n 0, 1) := dk_42 (dk_at dksX4_polyLine_5 9 rfl rfl)
theorem dX4_polyLine_129 : decode cX4_polyLine 129 = .ok (.invokevirtual 104, 3) := dk_182 0 104 (dk_at dksX4_polyLine_5 10 rfl rfl)
theorem dX4_polyLine_132 : decode cX4_polyLine 132 = .ok (.aload_n 0, 1) := dk_42 (dk_at dksX4_polyLine_5 13 rfl rfl)
theorem dX4_polyLine_133 : decode cX4_polyLine 133 = .ok (.iload_n 1, 1) := dk_27 (dk_at dksX4_polyLine_5 14 rfl rfl)
theorem dX4_polyLine_134 : decode cX4_polyLine 134 = .ok (.invokevirtual 167, 3) := dk_182 0 167 (dk_at dksX4_polyLine_5 15 rfl rfl)
theorem dX4_polyLine_137 : decode cX4_polyLine 137 = .ok (.goto (-66), 3) := dk_167 255 190 (dk_at dksX4_polyLine_5 18 rfl rfl)
theorem dX4_polyLine_140 : decode cX4_polyLine 140 = .ok (.aload_n 0, 1) := dk_42 (dk_at dksX4_polyLine_5 21 rfl rfl)
theorem dX4_polyLine_141 : decode cX4_polyLine 141 = .ok (.dup, 1) := dk_89 (dk_at dksX4_polyLine_5 22 rfl rfl)
theorem dX4_polyLine_142 : decode cX4_polyLine 142 = .ok (.getfield 117, 3) := dk_180 0 117 (dk_at dksX4_polyLine_6 0 rfl rfl)
theorem dX4_polyLine_145 : decode cX4_polyLine 145 = .ok (.iconst 1, 1) := dk_4 (dk_at dksX4_polyLine_6 3 rfl rfl)
theorem dX4_polyLine_146 : decode cX4_polyLine 146 = .ok (.iadd, 1) := dk_96 (dk_at dksX4_polyLine_6 4 rfl rfl)
theorem dX4_polyLine_147 : decode cX4_polyLine 147 = .ok (.putfield 117, 3) := dk_181 0 117 (dk_at dksX4_polyLine_6 5 rfl rfl)
theorem dX4_polyLine_150 : decode cX4_polyLine 150 = .ok (.return_, 1) := dk_177 (dk_at dksX4_polyLine_6 8 rfl rfl)
abbrev cX4_termHere : ByteArray := prog_8_method_16_code
def yX4_termHere : MethodName := ⟨RX4, "termHere", "(Z)V"⟩
def dkwX4_termHere_8 : List UInt8 := [153, 0, 8, 29, 116, 167, 0, 4, 29, 79, 42, 180, 0, 33, 42, 180, 0, 117, 92, 46, 4, 96, 79, 177]
abbrev dktX4_termHere_8 : List UInt8 := dkwX4_termHere_8 ++ []
def dkwX4_termHere_7 : List UInt8 := [182, 0, 164, 54, 6, 167, 255, 163, 42, 180, 0, 26, 28, 21, 5, 79, 42, 180, 0, 30, 28, 27]
abbrev dktX4_termHere_7 : List UInt8 := dkwX4_termHere_7 ++ dktX4_termHere_8
def dkwX4_termHere_6 : List UInt8 := [180, 0, 85, 54, 7, 42, 182, 0, 104, 21, 5, 21, 7, 7, 21, 6, 104, 120, 128, 54, 5, 42]
abbrev dktX4_termHere_6 : List UInt8 := dkwX4_termHere_6 ++ dktX4_termHere_7
def dkwX4_termHere_5 : List UInt8 := [42, 180, 0, 64, 6, 160, 0, 28, 42, 42, 180, 0, 85, 4, 16, 15, 184, 0, 53, 7, 182, 0, 123, 42]
abbrev dktX4_termHere_5 : List UInt8 := dkwX4_termHere_5 ++ dktX4_termHere_6
def dkwX4_termHere_4 : List UInt8 := [167, 0, 4, 3, 6, 182, 0, 123, 21, 4, 4, 21, 6, 120, 128, 54, 4, 42, 182, 0, 104, 4, 54, 7]
abbrev dktX4_termHere_4 : List UInt8 := dkwX4_termHere_4 ++ dktX4_termHere_5
def dkwX4_termHere_3 : List UInt8 := [182, 0, 164, 54, 6, 21, 6, 2, 159, 0, 93, 42, 21, 4, 21, 6, 122, 4, 126, 154, 0, 7, 4]
abbrev dktX4_termHere_3 : List UInt8 := dkwX4_termHere_3 ++ dktX4_termHere_4
def dkwX4_termHere_2 : List UInt8 := [180, 0, 64, 6, 160, 0, 12, 42, 180, 0, 85, 62, 42, 182, 0, 104, 3, 54, 4, 3, 54, 5, 42]
abbrev dktX4_termHere_2 : List UInt8 := dkwX4_termHere_2 ++ dktX4_termHere_3
def dkwX4_termHere_1 : List UInt8 := [180, 0, 64, 6, 159, 0, 11, 42, 182, 0, 164, 2, 159, 0, 7, 4, 167, 0, 4, 3, 182, 0, 100, 42]
abbrev dktX4_termHere_1 : List UInt8 := dkwX4_termHere_1 ++ dktX4_termHere_2
def dkwX4_termHere_0 : List UInt8 := [16, 12, 42, 180, 0, 117, 104, 42, 180, 0, 33, 42, 180, 0, 117, 46, 96, 61, 4, 62, 42, 42]
abbrev dktX4_termHere_0 : List UInt8 := dkwX4_termHere_0 ++ dktX4_termHere_1
theorem dksX4_termHere_0 : cX4_termHere.data.toList.drop 0 = dktX4_termHere_0 := by decide +kernel
theorem dksX4_termHere_1 : cX4_termHere.data.toList.drop 22 = dktX4_termHere_1 := dk_seg dksX4_termHere_0 22 rfl rfl
theorem dksX4_termHere_2 : cX4_termHere.data.toList.drop 46 = dktX4_termHere_2 := dk_seg dksX4_termHere_1 24 rfl rfl
theorem dksX4_termHere_3 : cX4_termHere.data.toList.drop 69 = dktX4_termHere_3 := dk_seg dksX4_termHere_2 23 rfl rfl
theorem dksX4_termHere_4 : cX4_termHere.data.toList.drop 92 = dktX4_termHere_4 := dk_seg dksX4_termHere_3 23 rfl rfl
theorem dksX4_termHere_5 : cX4_termHere.data.toList.drop 116 = dktX4_termHere_5 := dk_seg dksX4_termHere_4 24 rfl rfl
theorem dksX4_termHere_6 : cX4_termHere.data.toList.drop 140 = dktX4_termHere_6 := dk_seg dksX4_termHere_5 24 rfl rfl
theorem dksX4_termHere_7 : cX4_termHere.data.toList.drop 162 = dktX4_termHere_7 := dk_seg dksX4_termHere_6 22 rfl rfl
theorem dksX4_termHere_8 : cX4_termHere.data.toList.drop 184 = dktX4_termHere_8 := dk_seg dksX4_termHere_7 22 rfl rfl
theorem dX4_termHere_0 : decode cX4_termHere 0 = .ok (.bipush 12, 2) := dk_16 12 (dk_at dksX4_termHere_0 0 rfl rfl)
theorem dX4_termHere_2 : decode cX4_termHere 2 = .ok (.aload_n 0, 1) := dk_42 (dk_at dksX4_termHere_0 2 rfl rfl)
theorem dX4_termHere_3 : decode cX4_termHere 3 = .ok (.getfield 117, 3) := dk_180 0 117 (dk_at dksX4_termHere_0 3 rfl rfl)
theorem dX4_termHere_6 : decode cX4_termHere 6 = .ok (.imul, 1) := dk_104 (dk_at dksX4_termHere_0 6 rfl rfl)
theorem dX4_termHere_7 : decode cX4_termHere 7 = .ok (.aload_n 0, 1) := dk_42 (dk_at dksX4_termHere_0 7 rfl rfl)
theorem dX4_termHere_8 : decode cX4_termHere 8 = .ok (.getfield 33, 3) := dk_180 0 33 (dk_at dksX4_termHere_0 8 rfl rfl)
theorem dX4_termHere_11 : decode cX4_termHere 11 = .ok (.aload_n 0, 1) := dk_42 (dk_at dksX4_termHere_0 11 rfl rfl)
theorem dX4_termHere_12 : decode cX4_termHere 12 = .ok (.getfield 117, 3) := dk_180 0 117 (dk_at dksX4_termHere_0 12 rfl rfl)
theorem dX4_termHere_15 : decode cX4_termHere 15 = .ok (.iaload, 1) := dk_46 (dk_at dksX4_termHere_0 15 rfl rfl)
theorem dX4_termHere_16 : decode cX4_termHere 16 = .ok (.iadd, 1) := dk_96 (dk_at dksX4_termHere_0 16 rfl rfl)
theorem dX4_termHere_17 : decode cX4_termHere 17 = .ok (.istore_n 2, 1) := dk_61 (dk_at dksX4_termHere_0 17 rfl rfl)
theorem dX4_termHere_18 : decode cX4_termHere 18 = .ok (.iconst 1, 1) := dk_4 (dk_at dksX4_termHere_0 18 rfl rfl)
theorem dX4_termHere_19 : decode cX4_termHere 19 = .ok (.istore_n 3, 1) := dk_62 (dk_at dksX4_termHere_0 19 rfl rfl)
theorem dX4_termHere_20 : decode cX4_termHere 20 = .ok (.aload_n 0, 1) := dk_42 (dk_at dksX4_termHere_0 20 rfl rfl)
theorem dX4_termHere_21 : decode cX4_termHere 21 = .ok (.aload_n 0, 1) := dk_42 (dk_at dksX4_termHere_0 21 rfl rfl)
theorem dX4_termHere_22 : decode cX4_termHere 22 = .ok (.getfield 64, 3) := dk_180 0 64 (dk_at dksX4_termHere_1 0 rfl rfl)
theorem dX4_termHere_25 : decode cX4_termHere 25 = .ok (.iconst 3, 1) := dk_6 (dk_at dksX4_termHere_1 3 rfl rfl)
theorem dX4_termHere_26 : decode cX4_termHere 26 = .ok (.if_icmp .eq 11, 3) := dk_159 0 11 (dk_at dksX4_termHere_1 4 rfl rfl)
theorem dX4_termHere_29 : decode cX4_termHere 29 = .ok (.aload_n 0, 1) := dk_42 (dk_at dksX4_termHere_1 7 rfl rfl)
theorem dX4_termHere_30 : decode cX4_termHere 30 = .ok (.invokevirtual 164, 3) := dk_182 0 164 (dk_at dksX4_termHere_1 8 rfl rfl)
theorem dX4_termHere_33 : decode cX4_termHere 33 = .ok (.iconst (-1), 1) := dk_2 (dk_at dksX4_termHere_1 11 rfl rfl)
theorem dX4_termHere_34 : decode cX4_termHere 34 = .ok (.if_icmp .eq 7, 3) := dk_159 0 7 (dk_at dksX4_termHere_1 12 rfl rfl)
theorem dX4_termHere_37 : decode cX4_termHere 37 = .ok (.iconst 1, 1) := dk_4 (dk_at dksX4_termHere_1 15 rfl rfl)
theorem dX4_termHere_38 : decode cX4_termHere 38 = .ok (.goto 4, 3) := dk_167 0 4 (dk_at dksX4_termHere_1 16 rfl rfl)
theorem dX4_termHere_41 : decode cX4_termHere 41 = .ok (.iconst 0, 1) := dk_3 (dk_at dksX4_termHere_1 19 rfl rfl)
theorem dX4_termHere_42 : decode cX4_termHere 42 = .ok (.invokevirtual 100, 3) := dk_182 0 100 (dk_at dksX4_termHere_1 20 rfl rfl)
theorem dX4_termHere_45 : decode cX4_termHere 45 = .ok (.aload_n 0, 1) := dk_42 (dk_at dksX4_termHere_1 23 rfl rfl)
theorem dX4_termHere_46 : decode cX4_termHere 46 = .ok (.getfield 64, 3) := dk_180 0 64 (dk_at dksX4_termHere_2 0 rfl rfl)
theorem dX4_termHere_49 : decode cX4_termHere 49 = .ok (.iconst 3, 1) := dk_6 (dk_at dksX4_termHere_2 3 rfl rfl)
theorem dX4_termHere_50 : decode cX4_termHere 50 = .ok (.if_icmp .ne 12, 3) := dk_160 0 12 (dk_at dksX4_termHere_2 4 rfl rfl)
theorem dX4_termHere_53 : decode cX4_termHere 53 = .ok (.aload_n 0, 1) := dk_42 (dk_at dksX4_termHere_2 7 rfl rfl)
theorem dX4_termHere_54 : decode cX4_termHere 54 = .ok (.getfield 85, 3) := dk_180 0 85 (dk_at dksX4_termHere_2 8 rfl rfl)
theorem dX4_termHere_57 : decode cX4_termHere 57 = .ok (.istore_n 3, 1) := dk_62 (dk_at dksX4_termHere_2 11 rfl rfl)
theorem dX4_termHere_58 : decode cX4_termHere 58 = .ok (.aload_n 0, 1) := dk_42 (dk_at dksX4_termHere_2 12 rfl rfl)
theorem dX4_termHere_59 : decode cX4_termHere 59 = .ok (.invokevirtual 104, 3) := dk_182 0 104 (dk_at dksX4_termHere_2 13 rfl rfl)
theorem dX4_termHere_62 : decode cX4_termHere 62 = .ok (.iconst 0, 1) := dk_3 (dk_at dksX4_termHere_2 16 rfl rfl)
theorem dX4_termHere_63 : decode cX4_termHere 63 = .ok (.istore 4, 2) := dk_54 4 (dk_at dksX4_termHere_2 17 rfl rfl)
theorem dX4_termHere_65 : decode cX4_termHere 65 = .ok (.iconst 0, 1) := dk_3 (dk_at dksX4_termHere_2 19 rfl rfl)
theorem dX4_termHere_66 : decode cX4_termHere 66 = .ok (.istore 5, 2) := dk_54 5 (dk_at dksX4_termHere_2 20 rfl rfl)
theorem dX4_termHere_68 : decode cX4_termHere 68 = .ok (.aload_n 0, 1) := dk_42 (dk_at dksX4_termHere_2 22 rfl rfl)
theorem dX4_termHere_69 : decode cX4_termHere 69 = .ok (.invokevirtual 164, 3) := dk_182 0 164 (dk_at dksX4_termHere_3 0 rfl rfl)
theorem dX4_termHere_72 : decode cX4_termHere 72 = .ok (.istore 6, 2) := dk_54 6 (dk_at dksX4_termHere_3 3 rfl rfl)
theorem dX4_termHere_74 : decode cX4_termHere 74 = .ok (.iload 6, 2) := dk_21 6 (dk_at dksX4_termHere_3 5 rfl rfl)
theorem dX4_termHere_76 : decode cX4_termHere 76 = .ok (.iconst (-1), 1) := dk_2 (dk_at dksX4_termHere_3 7 rfl rfl)
theorem dX4_termHere_77 : decode cX4_termHere 77 = .ok (.if_icmp .eq 93, 3) := dk_159 0 93 (dk_at dksX4_termHere_3 8 rfl rfl)
theorem dX4_termHere_80 : decode cX4_termHere 80 = .ok (.aload_n 0, 1) := dk_42 (dk_at dksX4_termHere_3 11 rfl rfl)
theorem dX4_termHere_81 : decode cX4_termHere 81 = .ok (.iload 4, 2) := dk_21 4 (dk_at dksX4_termHere_3 12 rfl rfl)
theorem dX4_termHere_83 : decode cX4_termHere 83 = .ok (.iload 6, 2) := dk_21 6 (dk_at dksX4_termHere_3 14 rfl rfl)
theorem dX4_termHere_85 : decode cX4_termHere 85 = .ok (.ishr, 1) := dk_122 (dk_at dksX4_termHere_3 16 rfl rfl)
theorem dX4_termHere_86 : decode cX4_termHere 86 = .ok (.iconst 1, 1) := dk_4 (dk_at dksX4_termHere_3 17 rfl rfl)
theorem dX4_termHere_87 : decode cX4_termHere 87 = .ok (.iand, 1) := dk_126 (dk_at dksX4_termHere_3 18 rfl rfl)
theorem dX4_termHere_88 : decode cX4_termHere 88 = .ok (.ifCond .ne 7, 3) := dk_154 0 7 (dk_at dksX4_termHere_3 19 rfl rfl)
theorem dX4_termHere_91 : decode cX4_termHere 91 = .ok (.iconst 1, 1) := dk_4 (dk_at dksX4_termHere_3 22 rfl rfl)
theorem dX4_termHere_92 : decode cX4_termHere 92 = .ok (.goto 4, 3) := dk_167 0 4 (dk_at dksX4_termHere_4 0 rfl rfl)
theorem dX4_termHere_95 : decode cX4_termHere 95 = .ok (.iconst 0, 1) := dk_3 (dk_at dksX4_termHere_4 3 rfl rfl)
theorem dX4_termHere_96 : decode cX4_termHere 96 = .ok (.iconst 3, 1) := dk_6 (dk_at dksX4_termHere_4 4 rfl rfl)
theorem dX4_termHere_97 : decode cX4_termHere 97 = .ok (.invokevirtual 123, 3) := dk_182 0 123 (dk_at dksX4_termHere_4 5 rfl rfl)
theorem dX4_termHere_100 : decode cX4_termHere 100 = .ok (.iload 4, 2) := dk_21 4 (dk_at dksX4_termHere_4 8 rfl rfl)
theorem dX4_termHere_102 : decode cX4_termHere 102 = .ok (.iconst 1, 1) := dk_4 (dk_at dksX4_termHere_4 10 rfl rfl)
theorem dX4_termHere_103 : decode cX4_termHere 103 = .ok (.iload 6, 2) := dk_21 6 (dk_at dksX4_termHere_4 11 rfl rfl)
theorem dX4_termHere_105 : decode cX4_termHere 105 = .ok (.ishl, 1) := dk_120 (dk_at dksX4_termHere_4 13 rfl rfl)
theorem dX4_termHere_106 : decode cX4_termHere 106 = .ok (.ior, 1) := dk_128 (dk_at dksX4_termHere_4 14 rfl rfl)
theorem dX4_termHere_107 : decode cX4_termHere 107 = .ok (.istore 4, 2) := dk_54 4 (dk_at dksX4_termHere_4 15 rfl rfl)
theorem dX4_termHere_109 : decode cX4_termHere 109 = .ok (.aload_n 0, 1) := dk_42 (dk_at dksX4_termHere_4 17 rfl rfl)
theorem dX4_termHere_110 : decode cX4_termHere 110 = .ok (.invokevirtual 104, 3) := dk_182 0 104 (dk_at dksX4_termHere_4 18 rfl rfl)
theorem dX4_termHere_113 : decode cX4_termHere 113 = .ok (.iconst 1, 1) := dk_4 (dk_at dksX4_termHere_4 21 rfl rfl)
theorem dX4_termHere_114 : decode cX4_termHere 114 = .ok (.istore 7, 2) := dk_54 7 (dk_at dksX4_termHere_4 22 rfl rfl)
theorem dX4_termHere_116 : decode cX4_termHere 116 = .ok (.aload_n 0, 1) := dk_42 (dk_at dksX4_termHere_5 0 rfl rfl)
theorem dX4_termHere_117 : decode cX4_termHere 117 = .ok (.getfield 64, 3) := dk_180 0 64 (dk_at dksX4_termHere_5 1 rfl rfl)
theorem dX4_termHere_120 : decode cX4_termHere 120 = .ok (.iconst 3, 1) := dk_6 (dk_at dksX4_termHere_5 4 rfl rfl)
theorem dX4_termHere_121 : decode cX4_termHere 121 = .ok (.if_icmp .ne 28, 3) := dk_160 0 28 (dk_at dksX4_termHere_5 5 rfl rfl)
theorem dX4_termHere_124 : decode cX4_termHere 124 = .ok (.aload_n 0, 1) := dk_42 (dk_at dksX4_termHere_5 8 rfl rfl)
theorem dX4_termHere_125 : decode cX4_termHere 125 = .ok (.aload_n 0, 1) := dk_42 (dk_at dksX4_termHere_5 9 rfl rfl)
theorem dX4_termHere_126 : decode cX4_termHere 126 = .ok (.getfield 85, 3) := dk_180 0 85 (dk_at dksX4_termHere_5 10 rfl rfl)
theorem dX4_termHere_129 : decode cX4_termHere 129 = .ok (.iconst 1, 1) := dk_4 (dk_at dksX4_termHere_5 13 rfl rfl)
theorem dX4_termHere_130 : decode cX4_termHere 130 = .ok (.bipush 15, 2) := dk_16 15 (dk_at dksX4_termHere_5 14 rfl rfl)
theorem dX4_termHere_132 : decode cX4_termHere 132 = .ok (.invokestatic 53, 3) := dk_184 0 53 (dk_at dksX4_termHere_5 16 rfl rfl)
theorem dX4_termHere_135 : decode cX4_termHere 135 = .ok (.iconst 4, 1) := dk_7 (dk_at dksX4_termHere_5 19 rfl rfl)
theorem dX4_termHere_136 : decode cX4_termHere 136 = .ok (.invokevirtual 123, 3) := dk_182 0 123 (dk_at dksX4_termHere_5 20 rfl rfl)
theorem dX4_termHere_139 : decode cX4_termHere 139 = .ok (.aload_n 0, 1) := dk_42 (dk_at dksX4_termHere_5 23 rfl rfl)
theorem dX4_termHere_140 : decode cX4_termHere 140 = .ok (.getfield 85, 3) := dk_180 0 85 (dk_at dksX4_termHere_6 0 rfl rfl)
theorem dX4_termHere_143 : decode cX4_termHere 143 = .ok (.istore 7, 2) := dk_54 7 (dk_at dksX4_termHere_6 3 rfl rfl)
theorem dX4_termHere_145 : decode cX4_termHere 145 = .ok (.aload_n 0, 1) := dk_42 (dk_at dksX4_termHere_6 5 rfl rfl)
theorem dX4_termHere_146 : decode cX4_termHere 146 = .ok (.invokevirtual 104, 3) := dk_182 0 104 (dk_at dksX4_termHere_6 6 rfl rfl)
theorem dX4_termHere_149 : decode cX4_termHere 149 = .ok (.iload 5, 2) := dk_21 5 (dk_at dksX4_termHere_6 9 rfl rfl)
theorem dX4_termHere_151 : decode cX4_termHere 151 = .ok (.iload 7, 2) := dk_21 7 (dk_at dksX4_termHere_6 11 rfl rfl)
theorem dX4_termHere_153 : decode cX4_termHere 153 = .ok (.iconst 4, 1) := dk_7 (dk_at dksX4_termHere_6 13 rfl rfl)
theorem dX4_termHere_154 : decode cX4_termHere 154 = .ok (.iload 6, 2) := dk_21 6 (dk_at dksX4_termHere_6 14 rfl rfl)
theorem dX4_termHere_156 : decode cX4_termHere 156 = .ok (.imul, 1) := dk_104 (dk_at dksX4_termHere_6 16 rfl rfl)
theorem dX4_termHere_157 : decode cX4_termHere 157 = .ok (.ishl, 1) := dk_120 (dk_at dksX4_termHere_6 17 rfl rfl)
theorem dX4_termHere_158 : decode cX4_termHere 158 = .ok (.ior, 1) := dk_128 (dk_at dksX4_termHere_6 18 rfl rfl)
theorem dX4_termHere_159 : decode cX4_termHere 159 = .ok (.istore 5, 2) := dk_54 5 (dk_at dksX4_termHere_6 19 rfl rfl)
theorem dX4_termHere_161 : decode cX4_termHere 161 = .ok (.aload_n 0, 1) := dk_42 (dk_at dksX4_termHere_6 21 rfl rfl)
theorem dX4_termHere_162 : decode cX4_termHere 162 = .ok (.invokevirtual 164, 3) := dk_182 0 164 (dk_at dksX4_termHere_7 0 rfl rfl)
theorem dX4_termHere_165 : decode cX4_termHere 165 = .ok (.istore 6, 2) := dk_54 6 (dk_at dksX4_termHere_7 3 rfl rfl)
theorem dX4_termHere_167 : decode cX4_termHere 167 = .ok (.goto (-93), 3) := dk_167 255 163 (dk_at dksX4_termHere_7 5 rfl rfl)
theorem dX4_termHere_170 : decode cX4_termHere 170 = .ok (.aload_n 0, 1) := dk_42 (dk_at dksX4_termHere_7 8 rfl rfl)
theorem dX4_termHere_171 : decode cX4_termHere 171 = .ok (.getfield 26, 3) := dk_180 0 26 (dk_at dksX4_termHere_7 9 rfl rfl)
theorem dX4_termHere_174 : decode cX4_termHere 174 = .ok (.iload_n 2, 1) := dk_28 (dk_at dksX4_termHere_7 12 rfl rfl)
theorem dX4_termHere_175 : decode cX4_termHere 175 = .ok (.iload 5, 2) := dk_21 5 (dk_at dksX4_termHere_7 13 rfl rfl)
theorem dX4_termHere_177 : decode cX4_termHere 177 = .ok (.iastore, 1) := dk_79 (dk_at dksX4_termHere_7 15 rfl rfl)
theorem dX4_termHere_178 : decode cX4_termHere 178 = .ok (.aload_n 0, 1) := dk_42 (dk_at dksX4_termHere_7 16 rfl rfl)
theorem dX4_termHere_179 : decode cX4_termHere 179 = .ok (.getfield 30, 3) := dk_180 0 30 (dk_at dksX4_termHere_7 17 rfl rfl)
theorem dX4_termHere_182 : decode cX4_termHere 182 = .ok (.iload_n 2, 1) := dk_28 (dk_at dksX4_termHere_7 20 rfl rfl)
theorem dX4_termHere_183 : decode cX4_termHere 183 = .ok (.iload_n 1, 1) := dk_27 (dk_at dksX4_termHere_7 21 rfl rfl)
theorem dX4_termHere_184 : decode cX4_termHere 184 = .ok (.ifCond .eq 8, 3) := dk_153 0 8 (dk_at dksX4_termHere_8 0 rfl rfl)
theorem dX4_termHere_187 : decode cX4_termHere 187 = .ok (.iload_n 3, 1) := dk_29 (dk_at dksX4_termHere_8 3 rfl rfl)
theorem dX4_termHere_188 : decode cX4_termHere 188 = .ok (.ineg, 1) := dk_116 (dk_at dksX4_termHere_8 4 rfl rfl)
theorem dX4_termHere_189 : decode cX4_termHere 189 = .ok (.goto 4, 3) := dk_167 0 4 (dk_at dksX4_termHere_8 5 rfl rfl)
theorem dX4_termHere_192 : decode cX4_termHere 192 = .ok (.iload_n 3, 1) := dk_29 (dk_at dksX4_termHere_8 8 rfl rfl)
theorem dX4_termHere_193 : decode cX4_termHere 193 = .ok (.iastore, 1) := dk_79 (dk_at dksX4_termHere_8 9 rfl rfl)
theorem dX4_termHere_194 : decode cX4_termHere 194 = .ok (.aload_n 0, 1) := dk_42 (dk_at dksX4_termHere_8 10 rfl rfl)
theorem dX4_termHere_195 : decode cX4_termHere 195 = .ok (.getfield 33, 3) := dk_180 0 33 (dk_at dksX4_termHere_8 11 rfl rfl)
theorem dX4_termHere_198 : decode cX4_termHere 198 = .ok (.aload_n 0, 1) := dk_42 (dk_at dksX4_termHere_8 14 rfl rfl)
theorem dX4_termHere_199 : decode cX4_termHere 199 = .ok (.getfield 117, 3) := dk_180 0 117 (dk_at dksX4_termHere_8 15 rfl rfl)
theorem dX4_termHere_202 : decode cX4_termHere 202 = .ok (.dup2, 1) := dk_92 (dk_at dksX4_termHere_8 18 rfl rfl)
theorem dX4_termHere_203 : decode cX4_termHere 203 = .ok (.iaload, 1) := dk_46 (dk_at dksX4_termHere_8 19 rfl rfl)
theorem dX4_termHere_204 : decode cX4_termHere 204 = .ok (.iconst 1, 1) := dk_4 (dk_at dksX4_termHere_8 20 rfl rfl)
theorem dX4_termHere_205 : decode cX4_termHere 205 = .ok (.iadd, 1) := dk_96 (dk_at dksX4_termHere_8 21 rfl rfl)
theorem dX4_termHere_206 : decode cX4_termHere 206 = .ok (.iastore, 1) := dk_79 (dk_at dksX4_termHere_8 22 rfl rfl)
theorem dX4_termHere_207 : decode cX4_termHere 207 = .ok (.return_, 1) := dk_177 (dk_at dksX4_termHere_8 23 rfl rfl)
abbrev cX4_poly : ByteArray := prog_8_method_17_code
def yX4_poly : MethodName := ⟨RX4, "poly", "(I)LTermDesk$Poly;"⟩
def dkwX4_poly_3 : List UInt8 := [176]
abbrev dktX4_poly_3 : List UInt8 := dkwX4_poly_3 ++ []
def dkwX4_poly_2 : List UInt8 := [180, 0, 30, 29, 46, 96, 182, 0, 174, 79, 132, 3, 1, 167, 255, 208, 42, 180, 0, 3, 44, 182, 0, 177]
abbrev dktX4_poly_2 : List UInt8 := dkwX4_poly_2 ++ dktX4_poly_3
def dkwX4_poly_1 : List UInt8 := [96, 162, 0, 39, 44, 42, 180, 0, 26, 29, 46, 42, 180, 0, 3, 44, 42, 180, 0, 26, 29, 46, 46, 42]
abbrev dktX4_poly_1 : List UInt8 := dkwX4_poly_1 ++ dktX4_poly_2
def dkwX4_poly_0 : List UInt8 := [42, 180, 0, 3, 182, 0, 170, 77, 16, 12, 27, 104, 62, 29, 16, 12, 27, 104, 42, 180, 0, 33, 27, 46]
abbrev dktX4_poly_0 : List UInt8 := dkwX4_poly_0 ++ dktX4_poly_1
theorem dksX4_poly_0 : cX4_poly.data.toList.drop 0 = dktX4_poly_0 := by decide +kernel
theorem dksX4_poly_1 : cX4_poly.data.toList.drop 24 = dktX4_poly_1 := dk_seg dksX4_poly_0 24 rfl rfl
theorem dksX4_poly_2 : cX4_poly.data.toList.drop 48 = dktX4_poly_2 := dk_seg dksX4_poly_1 24 rfl rfl
theorem dksX4_poly_3 : cX4_poly.data.toList.drop 72 = dktX4_poly_3 := dk_seg dksX4_poly_2 24 rfl rfl
theorem dX4_poly_0 : decode cX4_poly 0 = .ok (.aload_n 0, 1) := dk_42 (dk_at dksX4_poly_0 0 rfl rfl)
theorem dX4_poly_1 : decode cX4_poly 1 = .ok (.getfield 3, 3) := dk_180 0 3 (dk_at dksX4_poly_0 1 rfl rfl)
theorem dX4_poly_4 : decode cX4_poly 4 = .ok (.invokevirtual 170, 3) := dk_182 0 170 (dk_at dksX4_poly_0 4 rfl rfl)
theorem dX4_poly_7 : decode cX4_poly 7 = .ok (.astore_n 2, 1) := dk_77 (dk_at dksX4_poly_0 7 rfl rfl)
theorem dX4_poly_8 : decode cX4_poly 8 = .ok (.bipush 12, 2) := dk_16 12 (dk_at dksX4_poly_0 8 rfl rfl)
theorem dX4_poly_10 : decode cX4_poly 10 = .ok (.iload_n 1, 1) := dk_27 (dk_at dksX4_poly_0 10 rfl rfl)
theorem dX4_poly_11 : decode cX4_poly 11 = .ok (.imul, 1) := dk_104 (dk_at dksX4_poly_0 11 rfl rfl)
theorem dX4_poly_12 : decode cX4_poly 12 = .ok (.istore_n 3, 1) := dk_62 (dk_at dksX4_poly_0 12 rfl rfl)
theorem dX4_poly_13 : decode cX4_poly 13 = .ok (.iload_n 3, 1) := dk_29 (dk_at dksX4_poly_0 13 rfl rfl)
theorem dX4_poly_14 : decode cX4_poly 14 = .ok (.bipush 12, 2) := dk_16 12 (dk_at dksX4_poly_0 14 rfl rfl)
theorem dX4_poly_16 : decode cX4_poly 16 = .ok (.iload_n 1, 1) := dk_27 (dk_at dksX4_poly_0 16 rfl rfl)
theorem dX4_poly_17 : decode cX4_poly 17 = .ok (.imul, 1) := dk_104 (dk_at dksX4_poly_0 17 rfl rfl)
theorem dX4_poly_18 : decode cX4_poly 18 = .ok (.aload_n 0, 1) := dk_42 (dk_at dksX4_poly_0 18 rfl rfl)
theorem dX4_poly_19 : decode cX4_poly 19 = .ok (.getfield 33, 3) := dk_180 0 33 (dk_at dksX4_poly_0 19 rfl rfl)
theorem dX4_poly_22 : decode cX4_poly 22 = .ok (.iload_n 1, 1) := dk_27 (dk_at dksX4_poly_0 22 rfl rfl)
theorem dX4_poly_23 : decode cX4_poly 23 = .ok (.iaload, 1) := dk_46 (dk_at dksX4_poly_0 23 rfl rfl)
theorem dX4_poly_24 : decode cX4_poly 24 = .ok (.iadd, 1) := dk_96 (dk_at dksX4_poly_1 0 rfl rfl)
theorem dX4_poly_25 : decode cX4_poly 25 = .ok (.if_icmp .ge 39, 3) := dk_162 0 39 (dk_at dksX4_poly_1 1 rfl rfl)
theorem dX4_poly_28 : decode cX4_poly 28 = .ok (.aload_n 2, 1) := dk_44 (dk_at dksX4_poly_1 4 rfl rfl)
theorem dX4_poly_29 : decode cX4_poly 29 = .ok (.aload_n 0, 1) := dk_42 (dk_at dksX4_poly_1 5 rfl rfl)
theorem dX4_poly_30 : decode cX4_poly 30 = .ok (.getfield 26, 3) := dk_180 0 26 (dk_at dksX4_poly_1 6 rfl rfl)
theorem dX4_poly_33 : decode cX4_poly 33 = .ok (.iload_n 3, 1) := dk_29 (dk_at dksX4_poly_1 9 rfl rfl)
theorem dX4_poly_34 : decode cX4_poly 34 = .ok (.iaload, 1) := dk_46 (dk_at dksX4_poly_1 10 rfl rfl)
theorem dX4_poly_35 : decode cX4_poly 35 = .ok (.aload_n 0, 1) := dk_42 (dk_at dksX4_poly_1 11 rfl rfl)
theorem dX4_poly_36 : decode cX4_poly 36 = .ok (.getfield 3, 3) := dk_180 0 3 (dk_at dksX4_poly_1 12 rfl rfl)
theorem dX4_poly_39 : decode cX4_poly 39 = .ok (.aload_n 2, 1) := dk_44 (dk_at dksX4_poly_1 15 rfl rfl)
theorem dX4_poly_40 : decode cX4_poly 40 = .ok (.aload_n 0, 1) := dk_42 (dk_at dksX4_poly_1 16 rfl rfl)
theorem dX4_poly_41 : decode cX4_poly 41 = .ok (.getfield 26, 3) := dk_180 0 26 (dk_at dksX4_poly_1 17 rfl rfl)
theorem dX4_poly_44 : decode cX4_poly 44 = .ok (.iload_n 3, 1) := dk_29 (dk_at dksX4_poly_1 20 rfl rfl)
theorem dX4_poly_45 : decode cX4_poly 45 = .ok (.iaload, 1) := dk_46 (dk_at dksX4_poly_1 21 rfl rfl)
theorem dX4_poly_46 : decode cX4_poly 46 = .ok (.iaload, 1) := dk_46 (dk_at dksX4_poly_1 22 rfl rfl)
theorem dX4_poly_47 : decode cX4_poly 47 = .ok (.aload_n 0, 1) := dk_42 (dk_at dksX4_poly_1 23 rfl rfl)
theorem dX4_poly_48 : decode cX4_poly 48 = .ok (.getfield 30, 3) := dk_180 0 30 (dk_at dksX4_poly_2 0 rfl rfl)
theorem dX4_poly_51 : decode cX4_poly 51 = .ok (.iload_n 3, 1) := dk_29 (dk_at dksX4_poly_2 3 rfl rfl)
theorem dX4_poly_52 : decode cX4_poly 52 = .ok (.iaload, 1) := dk_46 (dk_at dksX4_poly_2 4 rfl rfl)
theorem dX4_poly_53 : decode cX4_poly 53 = .ok (.iadd, 1) := dk_96 (dk_at dksX4_poly_2 5 rfl rfl)
theorem dX4_poly_54 : decode cX4_poly 54 = .ok (.invokevirtual 174, 3) := dk_182 0 174 (dk_at dksX4_poly_2 6 rfl rfl)
theorem dX4_poly_57 : decode cX4_poly 57 = .ok (.iastore, 1) := dk_79 (dk_at dksX4_poly_2 9 rfl rfl)
theorem dX4_poly_58 : decode cX4_poly 58 = .ok (.iinc 3 1, 3) := dk_132 3 1 (dk_at dksX4_poly_2 10 rfl rfl)
theorem dX4_poly_61 : decode cX4_poly 61 = .ok (.goto (-48), 3) := dk_167 255 208 (dk_at dksX4_poly_2 13 rfl rfl)
theorem dX4_poly_64 : decode cX4_poly 64 = .ok (.aload_n 0, 1) := dk_42 (dk_at dksX4_poly_2 16 rfl rfl)
theorem dX4_poly_65 : decode cX4_poly 65 = .ok (.getfield 3, 3) := dk_180 0 3 (dk_at dksX4_poly_2 17 rfl rfl)
theorem dX4_poly_68 : decode cX4_poly 68 = .ok (.aload_n 2, 1) := dk_44 (dk_at dksX4_poly_2 20 rfl rfl)
theorem dX4_poly_69 : decode cX4_poly 69 = .ok (.invokevirtual 177, 3) := dk_182 0 177 (dk_at dksX4_poly_2 21 rfl rfl)
theorem dX4_poly_72 : decode cX4_poly 72 = .ok (.areturn, 1) := dk_176 (dk_at dksX4_poly_3 0 rfl rfl)
theorem q121 : (Jvm.Cond.initialized "TermDesk$Scanner") ∈ lw_all := lw_g (lw_at lw_m1 4 rfl) rfl
theorem q216 : (Jvm.Cond.instantiable "TermDesk$Scanner" (17 : Nat)) ∈ lw_all := lw_g (lw_at lw_m1 99 rfl) rfl
theorem q218 : (Jvm.Cond.instanceMethod ({ cls := "TermDesk$Scanner", name := "<init>", desc := "(LTermDesk;)V" } : Jvm.MethodName)) ∈ lw_all := lw_g (lw_at lw_m1 101 rfl) rfl
theorem q219 : (Jvm.Cond.code ({ cls := "TermDesk$Scanner", name := "<init>", desc := "(LTermDesk;)V" } : Jvm.MethodName) prog_8_method_1_code (2 : Nat) (Option.none : Option Jvm.ClassFile.FieldType)) ∈ lw_all := lw_g (lw_at lw_m1 102 rfl) rfl
theorem q220 : (Jvm.Cond.methodLink "TermDesk$Scanner" (9 : Nat) ({ cls := "java/lang/Object", name := "<init>", desc := "()V" } : Jvm.MethodName)) ∈ lw_all := lw_g (lw_at lw_m1 103 rfl) rfl
theorem q221 : (Jvm.Cond.classLink "TermDesk$Scanner" (15 : Nat) "TermDesk$Refused") ∈ lw_all := lw_g (lw_at lw_m1 104 rfl) rfl
theorem q261 : (Jvm.Cond.methodLink "TermDesk$Scanner" (17 : Nat) ({ cls := "TermDesk$Refused", name := "<init>", desc := "()V" } : Jvm.MethodName)) ∈ lw_all := lw_g (lw_at lw_m1 144 rfl) rfl
theorem q295 : (Jvm.Cond.fieldLink "TermDesk$Scanner" (18 : Nat) "TermDesk$Scanner" "wrong" "LTermDesk$Refused;") ∈ lw_all := lw_g (lw_at lw_m1 178 rfl) rfl
theorem q296 : (Jvm.Cond.fieldLink "TermDesk$Scanner" (22 : Nat) "TermDesk$Scanner" "signs" "[C") ∈ lw_all := lw_g (lw_at lw_m1 179 rfl) rfl
theorem q297 : (Jvm.Cond.fieldLink "TermDesk$Scanner" (26 : Nat) "TermDesk$Scanner" "at" "[I") ∈ lw_all := lw_g (lw_at lw_m1 180 rfl) rfl
theorem q298 : (Jvm.Cond.fieldLink "TermDesk$Scanner" (30 : Nat) "TermDesk$Scanner" "by" "[I") ∈ lw_all := lw_g (lw_at lw_m1 181 rfl) rfl
theorem q299 : (Jvm.Cond.fieldLink "TermDesk$Scanner" (33 : Nat) "TermDesk$Scanner" "many" "[I") ∈ lw_all := lw_g (lw_at lw_m1 182 rfl) rfl
theorem q300 : (Jvm.Cond.fieldLink "TermDesk$Scanner" (36 : Nat) "TermDesk$Scanner" "unknowns" "[I") ∈ lw_all := lw_g (lw_at lw_m1 183 rfl) rfl
theorem q302 : (Jvm.Cond.fieldLink "TermDesk$Scanner" (46 : Nat) "TermDesk$Scanner" "size" "I") ∈ lw_all := lw_g (lw_at lw_m1 185 rfl) rfl
theorem q303 : (Jvm.Cond.fieldLink "TermDesk$Scanner" (57 : Nat) "TermDesk$Scanner" "end" "I") ∈ lw_all := lw_g (lw_at lw_m1 186 rfl) rfl
theorem q304 : (Jvm.Cond.fieldLink "TermDesk$Scanner" (64 : Nat) "TermDesk$Scanner" "token" "I") ∈ lw_all := lw_g (lw_at lw_m1 187 rfl) rfl
theorem q305 : (Jvm.Cond.fieldLink "TermDesk$Scanner" (39 : Nat) "TermDesk$Scanner" "place" "I") ∈ lw_all := lw_g (lw_at lw_m1 188 rfl) rfl
theorem q306 : (Jvm.Cond.fieldLink "TermDesk$Scanner" (85 : Nat) "TermDesk$Scanner" "whole" "I") ∈ lw_all := lw_g (lw_at lw_m1 189 rfl) rfl
theorem q307 : (Jvm.Cond.fieldLink "TermDesk$Scanner" (150 : Nat) "TermDesk$Scanner" "itsPrime" "I") ∈ lw_all := lw_g (lw_at lw_m1 190 rfl) rfl
theorem q309 : (Jvm.Cond.fieldLink "TermDesk$Scanner" (161 : Nat) "TermDesk$Scanner" "itsHow" "I") ∈ lw_all := lw_g (lw_at lw_m1 192 rfl) rfl
theorem q311 : (Jvm.Cond.fieldLink "TermDesk$Scanner" (117 : Nat) "TermDesk$Scanner" "polys" "I") ∈ lw_all := lw_g (lw_at lw_m1 194 rfl) rfl
theorem q313 : (Jvm.Cond.fieldLink "TermDesk$Scanner" (78 : Nat) "TermDesk$Scanner" "word" "Ljava/lang/String;") ∈ lw_all := lw_g (lw_at lw_m1 196 rfl) rfl
theorem q314 : (Jvm.Cond.fieldLink "TermDesk$Scanner" (113 : Nat) "TermDesk$Scanner" "hasRing" "Z") ∈ lw_all := lw_g (lw_at lw_m1 197 rfl) rfl
theorem q315 : (Jvm.Cond.fieldLink "TermDesk$Scanner" (3 : Nat) "TermDesk$Scanner" "this$0" "LTermDesk;") ∈ lw_all := lw_g (lw_at lw_m1 198 rfl) rfl
theorem q316 : (Jvm.Cond.laysFinal "TermDesk$Scanner" "TermDesk$Scanner" "wrong" "LTermDesk$Refused;") ∈ lw_all := lw_g (lw_at lw_m1 199 rfl) rfl
theorem q317 : (Jvm.Cond.soleField "TermDesk$Scanner" "wrong") ∈ lw_all := lw_g (lw_at lw_m1 200 rfl) rfl
theorem q318 : (Jvm.Cond.laysFinal "TermDesk$Scanner" "TermDesk$Scanner" "signs" "[C") ∈ lw_all := lw_g (lw_at lw_m1 201 rfl) rfl
theorem q319 : (Jvm.Cond.soleField "TermDesk$Scanner" "signs") ∈ lw_all := lw_g (lw_at lw_m1 202 rfl) rfl
theorem q320 : (Jvm.Cond.laysFinal "TermDesk$Scanner" "TermDesk$Scanner" "at" "[I") ∈ lw_all := lw_g (lw_at lw_m1 203 rfl) rfl
theorem q321 : (Jvm.Cond.soleField "TermDesk$Scanner" "at") ∈ lw_all := lw_g (lw_at lw_m1 204 rfl) rfl
theorem q322 : (Jvm.Cond.laysFinal "TermDesk$Scanner" "TermDesk$Scanner" "by" "[I") ∈ lw_all := lw_g (lw_at lw_m1 205 rfl) rfl
theorem q323 : (Jvm.Cond.soleField "TermDesk$Scanner" "by") ∈ lw_all := lw_g (lw_at lw_m1 206 rfl) rfl
theorem q324 : (Jvm.Cond.laysFinal "TermDesk$Scanner" "TermDesk$Scanner" "many" "[I") ∈ lw_all := lw_g (lw_at lw_m1 207 rfl) rfl
theorem q325 : (Jvm.Cond.soleField "TermDesk$Scanner" "many") ∈ lw_all := lw_g (lw_at lw_m1 208 rfl) rfl
theorem q326 : (Jvm.Cond.laysFinal "TermDesk$Scanner" "TermDesk$Scanner" "unknowns" "[I") ∈ lw_all := lw_g (lw_at lw_m1 209 rfl) rfl
theorem q327 : (Jvm.Cond.soleField "TermDesk$Scanner" "unknowns") ∈ lw_all := lw_g (lw_at lw_m1 210 rfl) rfl
theorem q328 : (Jvm.Cond.lays "TermDesk$Scanner" "TermDesk$Scanner" "size" "I") ∈ lw_all := lw_g (lw_at lw_m1 211 rfl) rfl
theorem q329 : (Jvm.Cond.soleField "TermDesk$Scanner" "size") ∈ lw_all := lw_g (lw_at lw_m1 212 rfl) rfl
theorem q330 : (Jvm.Cond.lays "TermDesk$Scanner" "TermDesk$Scanner" "end" "I") ∈ lw_all := lw_g (lw_at lw_m1 213 rfl) rfl
theorem q331 : (Jvm.Cond.soleField "TermDesk$Scanner" "end") ∈ lw_all := lw_g (lw_at lw_m1 214 rfl) rfl
theorem q332 : (Jvm.Cond.lays "TermDesk$Scanner" "TermDesk$Scanner" "token" "I") ∈ lw_all := lw_g (lw_at lw_m1 215 rfl) rfl
theorem q333 : (Jvm.Cond.soleField "TermDesk$Scanner" "token") ∈ lw_all := lw_g (lw_at lw_m1 216 rfl) rfl
theorem q334 : (Jvm.Cond.lays "TermDesk$Scanner" "TermDesk$Scanner" "place" "I") ∈ lw_all := lw_g (lw_at lw_m1 217 rfl) rfl
theorem q335 : (Jvm.Cond.soleField "TermDesk$Scanner" "place") ∈ lw_all := lw_g (lw_at lw_m1 218 rfl) rfl
theorem q336 : (Jvm.Cond.lays "TermDesk$Scanner" "TermDesk$Scanner" "whole" "I") ∈ lw_all := lw_g (lw_at lw_m1 219 rfl) rfl
theorem q337 : (Jvm.Cond.soleField "TermDesk$Scanner" "whole") ∈ lw_all := lw_g (lw_at lw_m1 220 rfl) rfl
theorem q338 : (Jvm.Cond.lays "TermDesk$Scanner" "TermDesk$Scanner" "itsPrime" "I") ∈ lw_all := lw_g (lw_at lw_m1 221 rfl) rfl
theorem q339 : (Jvm.Cond.soleField "TermDesk$Scanner" "itsPrime") ∈ lw_all := lw_g (lw_at lw_m1 222 rfl) rfl
theorem q340 : (Jvm.Cond.lays "TermDesk$Scanner" "TermDesk$Scanner" "itsHow" "I") ∈ lw_all := lw_g (lw_at lw_m1 223 rfl) rfl
theorem q341 : (Jvm.Cond.soleField "TermDesk$Scanner" "itsHow") ∈ lw_all := lw_g (lw_at lw_m1 224 rfl) rfl
theorem q342 : (Jvm.Cond.lays "TermDesk$Scanner" "TermDesk$Scanner" "polys" "I") ∈ lw_all := lw_g (lw_at lw_m1 225 rfl) rfl
theorem q343 : (Jvm.Cond.soleField "TermDesk$Scanner" "polys") ∈ lw_all := lw_g (lw_at lw_m1 226 rfl) rfl
theorem q344 : (Jvm.Cond.lays "TermDesk$Scanner" "TermDesk$Scanner" "word" "Ljava/lang/String;") ∈ lw_all := lw_g (lw_at lw_m1 227 rfl) rfl
theorem q345 : (Jvm.Cond.soleField "TermDesk$Scanner" "word") ∈ lw_all := lw_g (lw_at lw_m1 228 rfl) rfl
theorem q346 : (Jvm.Cond.lays "TermDesk$Scanner" "TermDesk$Scanner" "hasRing" "Z") ∈ lw_all := lw_g (lw_at lw_m1 229 rfl) rfl
theorem q347 : (Jvm.Cond.soleField "TermDesk$Scanner" "hasRing") ∈ lw_all := lw_g (lw_at lw_m1 230 rfl) rfl
theorem q348 : (Jvm.Cond.laysFinal "TermDesk$Scanner" "TermDesk$Scanner" "this$0" "LTermDesk;") ∈ lw_all := lw_g (lw_at lw_m1 231 rfl) rfl
theorem q349 : (Jvm.Cond.soleField "TermDesk$Scanner" "this$0") ∈ lw_all := lw_g (lw_at lw_m1 232 rfl) rfl
theorem q350 : (Jvm.Cond.superclass "TermDesk$Scanner" "java/lang/Object") ∈ lw_all := lw_g (lw_at lw_m1 233 rfl) rfl
theorem q400 : (Jvm.Cond.fieldLinkNest "TermDesk$Scanner" (49 : Nat) "TermDesk" "tape" "[B" "TermDesk") ∈ lw_tbl := lw_at lw_m2 43 rfl
theorem q491 : (Jvm.Cond.instanceMethod ({ cls := "TermDesk$Scanner", name := "read", desc := "(I)V" } : Jvm.MethodName)) ∈ lw_all := lw_g (lw_at lw_m2 134 rfl) rfl
theorem q492 : (Jvm.Cond.selects "TermDesk$Scanner" ({ cls := "TermDesk$Scanner", name := "read", desc := "(I)V" } : Jvm.MethodName) ({ cls := "TermDesk$Scanner", name := "read", desc := "(I)V" } : Jvm.MethodName)) ∈ lw_all := lw_g (lw_at lw_m2 135 rfl) rfl
theorem q493 : (Jvm.Cond.code ({ cls := "TermDesk$Scanner", name := "read", desc := "(I)V" } : Jvm.MethodName) prog_8_method_12_code (2 : Nat) (Option.none : Option Jvm.ClassFile.FieldType)) ∈ lw_all := lw_g (lw_at lw_m2 136 rfl) rfl
theorem q494 : (Jvm.Cond.methodLink "TermDesk$Scanner" (104 : Nat) ({ cls := "TermDesk$Scanner", name := "step", desc := "()V" } : Jvm.MethodName)) ∈ lw_all := lw_g (lw_at lw_m2 137 rfl) rfl
theorem q495 : (Jvm.Cond.privateMethod ({ cls := "TermDesk$Scanner", name := "step", desc := "()V" } : Jvm.MethodName)) ∈ lw_tbl := lw_at lw_m2 138 rfl
theorem q496 : (Jvm.Cond.instanceMethod ({ cls := "TermDesk$Scanner", name := "step", desc := "()V" } : Jvm.MethodName)) ∈ lw_all := lw_g (lw_at lw_m2 139 rfl) rfl
theorem q497 : (Jvm.Cond.code ({ cls := "TermDesk$Scanner", name := "step", desc := "()V" } : Jvm.MethodName) prog_8_method_6_code (3 : Nat) (Option.none : Option Jvm.ClassFile.FieldType)) ∈ lw_all := lw_g (lw_at lw_m2 140 rfl) rfl
theorem q498 : (Jvm.Cond.methodLink "TermDesk$Scanner" (60 : Nat) ({ cls := "TermDesk$Scanner", name := "see", desc := "(I)I" } : Jvm.MethodName)) ∈ lw_all := lw_g (lw_at lw_m2 141 rfl) rfl
theorem q499 : (Jvm.Cond.privateMethod ({ cls := "TermDesk$Scanner", name := "see", desc := "(I)I" } : Jvm.MethodName)) ∈ lw_tbl := lw_at lw_m2 142 rfl
theorem q500 : (Jvm.Cond.instanceMethod ({ cls := "TermDesk$Scanner", name := "see", desc := "(I)I" } : Jvm.MethodName)) ∈ lw_all := lw_g (lw_at lw_m2 143 rfl) rfl
theorem q501 : (Jvm.Cond.code ({ cls := "TermDesk$Scanner", name := "see", desc := "(I)I" } : Jvm.MethodName) prog_8_method_3_code (2 : Nat) (Option.some Jvm.ClassFile.FieldType.int)) ∈ lw_all := lw_g (lw_at lw_m2 144 rfl) rfl
theorem q502 : (Jvm.Cond.methodLink "TermDesk$Scanner" (67 : Nat) ({ cls := "TermDesk$Scanner", name := "isSmall", desc := "(I)Z" } : Jvm.MethodName)) ∈ lw_all := lw_g (lw_at lw_m2 145 rfl) rfl
theorem q503 : (Jvm.Cond.privateMethod ({ cls := "TermDesk$Scanner", name := "isSmall", desc := "(I)Z" } : Jvm.MethodName)) ∈ lw_tbl := lw_at lw_m2 146 rfl
theorem q504 : (Jvm.Cond.instanceMethod ({ cls := "TermDesk$Scanner", name := "isSmall", desc := "(I)Z" } : Jvm.MethodName)) ∈ lw_all := lw_g (lw_at lw_m2 147 rfl) rfl
theorem q505 : (Jvm.Cond.code ({ cls := "TermDesk$Scanner", name := "isSmall", desc := "(I)Z" } : Jvm.MethodName) prog_8_method_4_code (2 : Nat) (Option.some Jvm.ClassFile.FieldType.boolean)) ∈ lw_all := lw_g (lw_at lw_m2 148 rfl) rfl
theorem q506 : (Jvm.Cond.methodLinkNest "TermDesk$Scanner" (53 : Nat) ({ cls := "TermDesk", name := "in", desc := "(III)Z" } : Jvm.MethodName) "TermDesk") ∈ lw_tbl := lw_at lw_m2 149 rfl
theorem q507 : (Jvm.Cond.classLink "TermDesk$Scanner" (71 : Nat) "java/lang/String") ∈ lw_all := lw_g (lw_at lw_m2 150 rfl) rfl
theorem q509 : (Jvm.Cond.methodLink "TermDesk$Scanner" (73 : Nat) ({ cls := "java/lang/String", name := "<init>", desc := "([CII)V" } : Jvm.MethodName)) ∈ lw_all := lw_g (lw_at lw_m2 152 rfl) rfl
theorem q585 : (Jvm.Cond.stringRef "TermDesk$Scanner" (76 : Nat) "") ∈ lw_tbl := lw_at lw_m2 228 rfl
theorem q586 : (Jvm.Cond.methodLink "TermDesk$Scanner" (82 : Nat) ({ cls := "TermDesk$Scanner", name := "isDigit", desc := "(I)Z" } : Jvm.MethodName)) ∈ lw_all := lw_g (lw_at lw_m2 229 rfl) rfl
theorem q587 : (Jvm.Cond.privateMethod ({ cls := "TermDesk$Scanner", name := "isDigit", desc := "(I)Z" } : Jvm.MethodName)) ∈ lw_tbl := lw_at lw_m2 230 rfl
theorem q588 : (Jvm.Cond.instanceMethod ({ cls := "TermDesk$Scanner", name := "isDigit", desc := "(I)Z" } : Jvm.MethodName)) ∈ lw_all := lw_g (lw_at lw_m2 231 rfl) rfl
theorem q589 : (Jvm.Cond.code ({ cls := "TermDesk$Scanner", name := "isDigit", desc := "(I)Z" } : Jvm.MethodName) prog_8_method_5_code (2 : Nat) (Option.some Jvm.ClassFile.FieldType.boolean)) ∈ lw_all := lw_g (lw_at lw_m2 232 rfl) rfl
theorem q590 : (Jvm.Cond.methodLink "TermDesk$Scanner" (120 : Nat) ({ cls := "TermDesk$Scanner", name := "line", desc := "()V" } : Jvm.MethodName)) ∈ lw_all := lw_g (lw_at lw_m2 233 rfl) rfl
theorem q591 : (Jvm.Cond.privateMethod ({ cls := "TermDesk$Scanner", name := "line", desc := "()V" } : Jvm.MethodName)) ∈ lw_tbl := lw_at lw_m2 234 rfl
theorem q592 : (Jvm.Cond.instanceMethod ({ cls := "TermDesk$Scanner", name := "line", desc := "()V" } : Jvm.MethodName)) ∈ lw_all := lw_g (lw_at lw_m2 235 rfl) rfl
theorem q593 : (Jvm.Cond.code ({ cls := "TermDesk$Scanner", name := "line", desc := "()V" } : Jvm.MethodName) prog_8_method_13_code (3 : Nat) (Option.none : Option Jvm.ClassFile.FieldType)) ∈ lw_all := lw_g (lw_at lw_m2 236 rfl) rfl
theorem q594 : (Jvm.Cond.methodLink "TermDesk$Scanner" (100 : Nat) ({ cls := "TermDesk$Scanner", name := "must", desc := "(Z)V" } : Jvm.MethodName)) ∈ lw_all := lw_g (lw_at lw_m2 237 rfl) rfl
theorem q595 : (Jvm.Cond.privateMethod ({ cls := "TermDesk$Scanner", name := "must", desc := "(Z)V" } : Jvm.MethodName)) ∈ lw_tbl := lw_at lw_m2 238 rfl
theorem q596 : (Jvm.Cond.instanceMethod ({ cls := "TermDesk$Scanner", name := "must", desc := "(Z)V" } : Jvm.MethodName)) ∈ lw_all := lw_g (lw_at lw_m2 239 rfl) rfl
theorem q597 : (Jvm.Cond.code ({ cls := "TermDesk$Scanner", name := "must", desc := "(Z)V" } : Jvm.MethodName) prog_8_method_8_code (2 : Nat) (Option.none : Option Jvm.ClassFile.FieldType)) ∈ lw_all := lw_g (lw_at lw_m3 0 rfl) rfl
theorem q598 : (Jvm.Cond.methodLink "TermDesk$Scanner" (92 : Nat) ({ cls := "TermDesk$Scanner", name := "fail", desc := "(I)LTermDesk$Refused;" } : Jvm.MethodName)) ∈ lw_all := lw_g (lw_at lw_m3 1 rfl) rfl
theorem q599 : (Jvm.Cond.privateMethod ({ cls := "TermDesk$Scanner", name := "fail", desc := "(I)LTermDesk$Refused;" } : Jvm.MethodName)) ∈ lw_tbl := lw_at lw_m3 2 rfl
theorem q600 : (Jvm.Cond.instanceMethod ({ cls := "TermDesk$Scanner", name := "fail", desc := "(I)LTermDesk$Refused;" } : Jvm.MethodName)) ∈ lw_all := lw_g (lw_at lw_m3 3 rfl) rfl
theorem q601 : (Jvm.Cond.code ({ cls := "TermDesk$Scanner", name := "fail", desc := "(I)LTermDesk$Refused;" } : Jvm.MethodName) prog_8_method_2_code (2 : Nat) (Option.some (Jvm.ClassFile.FieldType.object "TermDesk$Refused"))) ∈ lw_all := lw_g (lw_at lw_m3 4 rfl) rfl
theorem q602 : (Jvm.Cond.methodLink "TermDesk$Scanner" (43 : Nat) ({ cls := "TermDesk$Refused", name := "at", desc := "(II)LTermDesk$Refused;" } : Jvm.MethodName)) ∈ lw_all := lw_g (lw_at lw_m3 5 rfl) rfl
theorem q606 : (Jvm.Cond.methodLink "TermDesk$Scanner" (127 : Nat) ({ cls := "java/lang/String", name := "hashCode", desc := "()I" } : Jvm.MethodName)) ∈ lw_all := lw_g (lw_at lw_m3 9 rfl) rfl
theorem q659 : (Jvm.Cond.stringRef "TermDesk$Scanner" (131 : Nat) "ring") ∈ lw_tbl := lw_at lw_m3 62 rfl
theorem q660 : (Jvm.Cond.methodLink "TermDesk$Scanner" (88 : Nat) ({ cls := "java/lang/String", name := "equals", desc := "(Ljava/lang/Object;)Z" } : Jvm.MethodName)) ∈ lw_all := lw_g (lw_at lw_m3 63 rfl) rfl
theorem q668 : (Jvm.Cond.stringRef "TermDesk$Scanner" (133 : Nat) "poly") ∈ lw_tbl := lw_at lw_m3 71 rfl
theorem q669 : (Jvm.Cond.methodLink "TermDesk$Scanner" (135 : Nat) ({ cls := "TermDesk$Scanner", name := "ringLine", desc := "()V" } : Jvm.MethodName)) ∈ lw_all := lw_g (lw_at lw_m3 72 rfl) rfl
theorem q670 : (Jvm.Cond.privateMethod ({ cls := "TermDesk$Scanner", name := "ringLine", desc := "()V" } : Jvm.MethodName)) ∈ lw_tbl := lw_at lw_m3 73 rfl
theorem q671 : (Jvm.Cond.instanceMethod ({ cls := "TermDesk$Scanner", name := "ringLine", desc := "()V" } : Jvm.MethodName)) ∈ lw_all := lw_g (lw_at lw_m3 74 rfl) rfl
theorem q672 : (Jvm.Cond.code ({ cls := "TermDesk$Scanner", name := "ringLine", desc := "()V" } : Jvm.MethodName) prog_8_method_14_code (4 : Nat) (Option.none : Option Jvm.ClassFile.FieldType)) ∈ lw_all := lw_g (lw_at lw_m3 75 rfl) rfl
theorem q673 : (Jvm.Cond.methodLink "TermDesk$Scanner" (123 : Nat) ({ cls := "TermDesk$Scanner", name := "good", desc := "(ZI)V" } : Jvm.MethodName)) ∈ lw_all := lw_g (lw_at lw_m3 76 rfl) rfl
theorem q674 : (Jvm.Cond.privateMethod ({ cls := "TermDesk$Scanner", name := "good", desc := "(ZI)V" } : Jvm.MethodName)) ∈ lw_tbl := lw_at lw_m3 77 rfl
theorem q675 : (Jvm.Cond.instanceMethod ({ cls := "TermDesk$Scanner", name := "good", desc := "(ZI)V" } : Jvm.MethodName)) ∈ lw_all := lw_g (lw_at lw_m3 78 rfl) rfl
theorem q676 : (Jvm.Cond.code ({ cls := "TermDesk$Scanner", name := "good", desc := "(ZI)V" } : Jvm.MethodName) prog_8_method_9_code (3 : Nat) (Option.none : Option Jvm.ClassFile.FieldType)) ∈ lw_all := lw_g (lw_at lw_m3 79 rfl) rfl
theorem q677 : (Jvm.Cond.stringRef "TermDesk$Scanner" (141 : Nat) "prime") ∈ lw_tbl := lw_at lw_m3 80 rfl
theorem q678 : (Jvm.Cond.methodLink "TermDesk$Scanner" (143 : Nat) ({ cls := "TermDesk$Scanner", name := "takes", desc := "(Ljava/lang/String;)V" } : Jvm.MethodName)) ∈ lw_all := lw_g (lw_at lw_m3 81 rfl) rfl
theorem q679 : (Jvm.Cond.privateMethod ({ cls := "TermDesk$Scanner", name := "takes", desc := "(Ljava/lang/String;)V" } : Jvm.MethodName)) ∈ lw_tbl := lw_at lw_m3 82 rfl
theorem q680 : (Jvm.Cond.instanceMethod ({ cls := "TermDesk$Scanner", name := "takes", desc := "(Ljava/lang/String;)V" } : Jvm.MethodName)) ∈ lw_all := lw_g (lw_at lw_m3 83 rfl) rfl
theorem q681 : (Jvm.Cond.code ({ cls := "TermDesk$Scanner", name := "takes", desc := "(Ljava/lang/String;)V" } : Jvm.MethodName) prog_8_method_10_code (2 : Nat) (Option.none : Option Jvm.ClassFile.FieldType)) ∈ lw_all := lw_g (lw_at lw_m3 84 rfl) rfl
theorem q682 : (Jvm.Cond.methodLink "TermDesk$Scanner" (96 : Nat) ({ cls := "TermDesk$Scanner", name := "is", desc := "(Ljava/lang/String;)Z" } : Jvm.MethodName)) ∈ lw_all := lw_g (lw_at lw_m3 85 rfl) rfl
theorem q683 : (Jvm.Cond.privateMethod ({ cls := "TermDesk$Scanner", name := "is", desc := "(Ljava/lang/String;)Z" } : Jvm.MethodName)) ∈ lw_tbl := lw_at lw_m3 86 rfl
theorem q684 : (Jvm.Cond.instanceMethod ({ cls := "TermDesk$Scanner", name := "is", desc := "(Ljava/lang/String;)Z" } : Jvm.MethodName)) ∈ lw_all := lw_g (lw_at lw_m3 87 rfl) rfl
theorem q685 : (Jvm.Cond.code ({ cls := "TermDesk$Scanner", name := "is", desc := "(Ljava/lang/String;)Z" } : Jvm.MethodName) prog_8_method_7_code (2 : Nat) (Option.some Jvm.ClassFile.FieldType.boolean)) ∈ lw_all := lw_g (lw_at lw_m3 88 rfl) rfl
theorem q686 : (Jvm.Cond.fieldLinkNest "TermDesk$Scanner" (147 : Nat) "TermDesk" "PRIME" "[I" "TermDesk") ∈ lw_tbl := lw_at lw_m3 89 rfl
theorem q688 : (Jvm.Cond.stringRef "TermDesk$Scanner" (153 : Nat) "order") ∈ lw_tbl := lw_at lw_m3 91 rfl
theorem q689 : (Jvm.Cond.stringRef "TermDesk$Scanner" (155 : Nat) "lex") ∈ lw_tbl := lw_at lw_m3 92 rfl
theorem q690 : (Jvm.Cond.stringRef "TermDesk$Scanner" (157 : Nat) "deg") ∈ lw_tbl := lw_at lw_m3 93 rfl
theorem q691 : (Jvm.Cond.stringRef "TermDesk$Scanner" (159 : Nat) "rev") ∈ lw_tbl := lw_at lw_m3 94 rfl
theorem q692 : (Jvm.Cond.methodLink "TermDesk$Scanner" (164 : Nat) ({ cls := "TermDesk$Scanner", name := "unknown", desc := "()I" } : Jvm.MethodName)) ∈ lw_all := lw_g (lw_at lw_m3 95 rfl) rfl
theorem q693 : (Jvm.Cond.privateMethod ({ cls := "TermDesk$Scanner", name := "unknown", desc := "()I" } : Jvm.MethodName)) ∈ lw_tbl := lw_at lw_m3 96 rfl
theorem q694 : (Jvm.Cond.instanceMethod ({ cls := "TermDesk$Scanner", name := "unknown", desc := "()I" } : Jvm.MethodName)) ∈ lw_all := lw_g (lw_at lw_m3 97 rfl) rfl
theorem q695 : (Jvm.Cond.code ({ cls := "TermDesk$Scanner", name := "unknown", desc := "()I" } : Jvm.MethodName) prog_8_method_11_code (1 : Nat) (Option.some Jvm.ClassFile.FieldType.int)) ∈ lw_all := lw_g (lw_at lw_m3 98 rfl) rfl
theorem q696 : (Jvm.Cond.stringRef "TermDesk$Scanner" (107 : Nat) "x") ∈ lw_tbl := lw_at lw_m3 99 rfl
theorem q697 : (Jvm.Cond.stringRef "TermDesk$Scanner" (109 : Nat) "y") ∈ lw_tbl := lw_at lw_m3 100 rfl
theorem q698 : (Jvm.Cond.stringRef "TermDesk$Scanner" (111 : Nat) "z") ∈ lw_tbl := lw_at lw_m3 101 rfl
theorem q699 : (Jvm.Cond.methodLink "TermDesk$Scanner" (138 : Nat) ({ cls := "TermDesk$Scanner", name := "polyLine", desc := "()V" } : Jvm.MethodName)) ∈ lw_all := lw_g (lw_at lw_m3 102 rfl) rfl
theorem q700 : (Jvm.Cond.privateMethod ({ cls := "TermDesk$Scanner", name := "polyLine", desc := "()V" } : Jvm.MethodName)) ∈ lw_tbl := lw_at lw_m3 103 rfl
theorem q701 : (Jvm.Cond.instanceMethod ({ cls := "TermDesk$Scanner", name := "polyLine", desc := "()V" } : Jvm.MethodName)) ∈ lw_all := lw_g (lw_at lw_m3 104 rfl) rfl
theorem q702 : (Jvm.Cond.code ({ cls := "TermDesk$Scanner", name := "polyLine", desc := "()V" } : Jvm.MethodName) prog_8_method_15_code (2 : Nat) (Option.none : Option Jvm.ClassFile.FieldType)) ∈ lw_all := lw_g (lw_at lw_m3 105 rfl) rfl
theorem q703 : (Jvm.Cond.methodLink "TermDesk$Scanner" (167 : Nat) ({ cls := "TermDesk$Scanner", name := "termHere", desc := "(Z)V" } : Jvm.MethodName)) ∈ lw_all := lw_g (lw_at lw_m3 106 rfl) rfl
theorem q704 : (Jvm.Cond.privateMethod ({ cls := "TermDesk$Scanner", name := "termHere", desc := "(Z)V" } : Jvm.MethodName)) ∈ lw_tbl := lw_at lw_m3 107 rfl
theorem q705 : (Jvm.Cond.instanceMethod ({ cls := "TermDesk$Scanner", name := "termHere", desc := "(Z)V" } : Jvm.MethodName)) ∈ lw_all := lw_g (lw_at lw_m3 108 rfl) rfl
theorem q706 : (Jvm.Cond.code ({ cls := "TermDesk$Scanner", name := "termHere", desc := "(Z)V" } : Jvm.MethodName) prog_8_method_16_code (8 : Nat) (Option.none : Option Jvm.ClassFile.FieldType)) ∈ lw_all := lw_g (lw_at lw_m3 109 rfl) rfl
theorem q734 : (Jvm.Cond.privateMethod ({ cls := "TermDesk$Scanner", name := "poly", desc := "(I)LTermDesk$Poly;" } : Jvm.MethodName)) ∈ lw_tbl := lw_at lw_m3 137 rfl
theorem q735 : (Jvm.Cond.instanceMethod ({ cls := "TermDesk$Scanner", name := "poly", desc := "(I)LTermDesk$Poly;" } : Jvm.MethodName)) ∈ lw_all := lw_g (lw_at lw_m3 138 rfl) rfl
theorem q736 : (Jvm.Cond.code ({ cls := "TermDesk$Scanner", name := "poly", desc := "(I)LTermDesk$Poly;" } : Jvm.MethodName) prog_8_method_17_code (4 : Nat) (Option.some (Jvm.ClassFile.FieldType.object "TermDesk$Poly"))) ∈ lw_all := lw_g (lw_at lw_m3 139 rfl) rfl
theorem q737 : (Jvm.Cond.methodLinkNest "TermDesk$Scanner" (170 : Nat) ({ cls := "TermDesk", name := "blank", desc := "()[I" } : Jvm.MethodName) "TermDesk") ∈ lw_tbl := lw_at lw_m3 140 rfl
theorem q744 : (Jvm.Cond.methodLinkNest "TermDesk$Scanner" (174 : Nat) ({ cls := "TermDesk", name := "reduced", desc := "(I)I" } : Jvm.MethodName) "TermDesk") ∈ lw_tbl := lw_at lw_m3 147 rfl
theorem q748 : (Jvm.Cond.methodLinkNest "TermDesk$Scanner" (177 : Nat) ({ cls := "TermDesk", name := "sorted", desc := "([I)LTermDesk$Poly;" } : Jvm.MethodName) "TermDesk") ∈ lw_tbl := lw_at lw_m3 151 rfl
theorem q1847 : (Jvm.Cond.castable "TermDesk$Scanner" "java/lang/Object") ∈ lw_tbl := lw_at lw_m8 50 rfl
theorem in_X4 : ∀ w ∈ wsX40, w ∈ lw_all := lw_in wsX40 [316, 318, 320, 322, 324, 326, 328, 330, 332, 334, 336, 338, 340, 342, 344, 346, 348] (by decide +kernel) (by decide +kernel)

/-! TermDesk$Refused -/
set_option maxRecDepth 100000
def RX5 : String := "TermDesk$Refused"
def TX5 : u_T := fun k => match k with
  | 0 => ("java/lang/Throwable", "cause", "Ljava/lang/Throwable;", false)
  | 1 => ("java/lang/Throwable", "stackTrace", "[Ljava/lang/StackTraceElement;", false)
  | 2 => ("java/lang/Throwable", "suppressedExceptions", "Ljava/util/List;", false)
  | 3 => ("java/lang/Throwable", "detailMessage", "Ljava/lang/String;", false)
  | 4 => ("java/lang/Throwable", "backtrace", "Ljava/lang/Object;", false)
  | 5 => ("java/lang/Throwable", "depth", "I", false)
  | 6 => ("TermDesk$Refused", "fault", "I", false)
  | _ => ("TermDesk$Refused", "place", "I", false)
def tyX5 : Nat → FieldType := fun k => match k with
  | 0 => .object "java/lang/Throwable"
  | 1 => .array (.object "java/lang/StackTraceElement")
  | 2 => .object "java/util/List"
  | 3 => .object "java/lang/String"
  | 4 => .object "java/lang/Object"
  | 5 => .int
  | 6 => .int
  | _ => .int
abbrev wsX50 : List Cond := u_ws RX5 TX5 8
theorem nmX5 : ∀ a, a < 8 → ∀ b, b < 8 → a ≠ b → (TX5 a).2.1 ≠ (TX5 b).2.1 := by decide +kernel
theorem tyX5_ok : ∀ k, k < 8 → parseFieldDescriptor (TX5 k).2.2.1 = some (tyX5 k) := by decide +kernel
abbrev cX5_init : ByteArray := prog_6_method_1_code
def yX5_init : MethodName := ⟨RX5, "<init>", "()V"⟩
def dkwX5_init_0 : List UInt8 := [42, 1, 1, 3, 3, 183, 0, 3, 42, 2, 181, 0, 9, 177]
abbrev dktX5_init_0 : List UInt8 := dkwX5_init_0 ++ []
theorem dksX5_init_0 : cX5_init.data.toList.drop 0 = dktX5_init_0 := by decide +kernel
theorem dX5_init_0 : decode cX5_init 0 = .ok (.aload_n 0, 1) := dk_42 (dk_at dksX5_init_0 0 rfl rfl)
theorem dX5_init_1 : decode cX5_init 1 = .ok (.aconst_null, 1) := dk_1 (dk_at dksX5_init_0 1 rfl rfl)
theorem dX5_init_2 : decode cX5_init 2 = .ok (.aconst_null, 1) := dk_1 (dk_at dksX5_init_0 2 rfl rfl)
theorem dX5_init_3 : decode cX5_init 3 = .ok (.iconst 0, 1) := dk_3 (dk_at dksX5_init_0 3 rfl rfl)
theorem dX5_init_4 : decode cX5_init 4 = .ok (.iconst 0, 1) := dk_3 (dk_at dksX5_init_0 4 rfl rfl)
theorem dX5_init_5 : decode cX5_init 5 = .ok (.invokespecial 3, 3) := dk_183 0 3 (dk_at dksX5_init_0 5 rfl rfl)
theorem dX5_init_8 : decode cX5_init 8 = .ok (.aload_n 0, 1) := dk_42 (dk_at dksX5_init_0 8 rfl rfl)
theorem dX5_init_9 : decode cX5_init 9 = .ok (.iconst (-1), 1) := dk_2 (dk_at dksX5_init_0 9 rfl rfl)
theorem dX5_init_10 : decode cX5_init 10 = .ok (.putfield 9, 3) := dk_181 0 9 (dk_at dksX5_init_0 10 rfl rfl)
theorem dX5_init_13 : decode cX5_init 13 = .ok (.return_, 1) := dk_177 (dk_at dksX5_init_0 13 rfl rfl)
abbrev cX5_at : ByteArray := prog_6_method_2_code
def yX5_at : MethodName := ⟨RX5, "at", "(II)LTermDesk$Refused;"⟩
def dkwX5_at_0 : List UInt8 := [42, 27, 181, 0, 15, 42, 28, 181, 0, 9, 42, 176]
abbrev dktX5_at_0 : List UInt8 := dkwX5_at_0 ++ []
theorem dksX5_at_0 : cX5_at.data.toList.drop 0 = dktX5_at_0 := by decide +kernel
theorem dX5_at_0 : decode cX5_at 0 = .ok (.aload_n 0, 1) := dk_42 (dk_at dksX5_at_0 0 rfl rfl)
theorem dX5_at_1 : decode cX5_at 1 = .ok (.iload_n 1, 1) := dk_27 (dk_at dksX5_at_0 1 rfl rfl)
theorem dX5_at_2 : decode cX5_at 2 = .ok (.putfield 15, 3) := dk_181 0 15 (dk_at dksX5_at_0 2 rfl rfl)
theorem dX5_at_5 : decode cX5_at 5 = .ok (.aload_n 0, 1) := dk_42 (dk_at dksX5_at_0 5 rfl rfl)
theorem dX5_at_6 : decode cX5_at 6 = .ok (.iload_n 2, 1) := dk_28 (dk_at dksX5_at_0 6 rfl rfl)
theorem dX5_at_7 : decode cX5_at 7 = .ok (.putfield 9, 3) := dk_181 0 9 (dk_at dksX5_at_0 7 rfl rfl)
theorem dX5_at_10 : decode cX5_at 10 = .ok (.aload_n 0, 1) := dk_42 (dk_at dksX5_at_0 10 rfl rfl)
theorem dX5_at_11 : decode cX5_at 11 = .ok (.areturn, 1) := dk_176 (dk_at dksX5_at_0 11 rfl rfl)
theorem q125 : (Jvm.Cond.initialized "TermDesk$Refused") ∈ lw_all := lw_g (lw_at lw_m1 8 rfl) rfl
theorem q222 : (Jvm.Cond.instantiable "TermDesk$Refused" (8 : Nat)) ∈ lw_all := lw_g (lw_at lw_m1 105 rfl) rfl
theorem q223 : (Jvm.Cond.castable "TermDesk$Refused" "TermDesk$Refused") ∈ lw_tbl := lw_at lw_m1 106 rfl
theorem q230 : (Jvm.Cond.selects "TermDesk$Refused" ({ cls := "java/lang/Throwable", name := "fillInStackTrace", desc := "(I)Ljava/lang/Throwable;" } : Jvm.MethodName) ({ cls := "java/lang/Throwable", name := "fillInStackTrace", desc := "(I)Ljava/lang/Throwable;" } : Jvm.MethodName)) ∈ lw_all := lw_g (lw_at lw_m1 113 rfl) rfl
theorem q231 : (Jvm.Cond.selects "TermDesk$Refused" ({ cls := "java/lang/Throwable", name := "fillInStackTrace", desc := "()Ljava/lang/Throwable;" } : Jvm.MethodName) ({ cls := "java/lang/Throwable", name := "fillInStackTrace", desc := "()Ljava/lang/Throwable;" } : Jvm.MethodName)) ∈ lw_all := lw_g (lw_at lw_m1 114 rfl) rfl
theorem q232 : (Jvm.Cond.lays "TermDesk$Refused" "java/lang/Throwable" "cause" "Ljava/lang/Throwable;") ∈ lw_all := lw_g (lw_at lw_m1 115 rfl) rfl
theorem q234 : (Jvm.Cond.lays "TermDesk$Refused" "java/lang/Throwable" "stackTrace" "[Ljava/lang/StackTraceElement;") ∈ lw_all := lw_g (lw_at lw_m1 117 rfl) rfl
theorem q236 : (Jvm.Cond.lays "TermDesk$Refused" "java/lang/Throwable" "suppressedExceptions" "Ljava/util/List;") ∈ lw_all := lw_g (lw_at lw_m1 119 rfl) rfl
theorem q238 : (Jvm.Cond.lays "TermDesk$Refused" "java/lang/Throwable" "detailMessage" "Ljava/lang/String;") ∈ lw_all := lw_g (lw_at lw_m1 121 rfl) rfl
theorem q240 : (Jvm.Cond.lays "TermDesk$Refused" "java/lang/Throwable" "backtrace" "Ljava/lang/Object;") ∈ lw_all := lw_g (lw_at lw_m1 123 rfl) rfl
theorem q262 : (Jvm.Cond.instanceMethod ({ cls := "TermDesk$Refused", name := "<init>", desc := "()V" } : Jvm.MethodName)) ∈ lw_all := lw_g (lw_at lw_m1 145 rfl) rfl
theorem q263 : (Jvm.Cond.code ({ cls := "TermDesk$Refused", name := "<init>", desc := "()V" } : Jvm.MethodName) prog_6_method_1_code (1 : Nat) (Option.none : Option Jvm.ClassFile.FieldType)) ∈ lw_all := lw_g (lw_at lw_m1 146 rfl) rfl
theorem q264 : (Jvm.Cond.methodLink "TermDesk$Refused" (3 : Nat) ({ cls := "java/lang/RuntimeException", name := "<init>", desc := "(Ljava/lang/String;Ljava/lang/Throwable;ZZ)V" } : Jvm.MethodName)) ∈ lw_all := lw_g (lw_at lw_m1 147 rfl) rfl
theorem q273 : (Jvm.Cond.fieldLink "TermDesk$Refused" (15 : Nat) "TermDesk$Refused" "fault" "I") ∈ lw_all := lw_g (lw_at lw_m1 156 rfl) rfl
theorem q275 : (Jvm.Cond.fieldLink "TermDesk$Refused" (9 : Nat) "TermDesk$Refused" "place" "I") ∈ lw_all := lw_g (lw_at lw_m1 158 rfl) rfl
theorem q282 : (Jvm.Cond.lays "TermDesk$Refused" "TermDesk$Refused" "fault" "I") ∈ lw_all := lw_g (lw_at lw_m1 165 rfl) rfl
theorem q283 : (Jvm.Cond.soleField "TermDesk$Refused" "fault") ∈ lw_all := lw_g (lw_at lw_m1 166 rfl) rfl
theorem q284 : (Jvm.Cond.lays "TermDesk$Refused" "TermDesk$Refused" "place" "I") ∈ lw_all := lw_g (lw_at lw_m1 167 rfl) rfl
theorem q285 : (Jvm.Cond.soleField "TermDesk$Refused" "place") ∈ lw_all := lw_g (lw_at lw_m1 168 rfl) rfl
theorem q290 : (Jvm.Cond.lays "TermDesk$Refused" "java/lang/Throwable" "depth" "I") ∈ lw_all := lw_g (lw_at lw_m1 173 rfl) rfl
theorem q293 : (Jvm.Cond.superclass "TermDesk$Refused" "java/lang/RuntimeException") ∈ lw_all := lw_g (lw_at lw_m1 176 rfl) rfl
theorem q603 : (Jvm.Cond.instanceMethod ({ cls := "TermDesk$Refused", name := "at", desc := "(II)LTermDesk$Refused;" } : Jvm.MethodName)) ∈ lw_all := lw_g (lw_at lw_m3 6 rfl) rfl
theorem q604 : (Jvm.Cond.selects "TermDesk$Refused" ({ cls := "TermDesk$Refused", name := "at", desc := "(II)LTermDesk$Refused;" } : Jvm.MethodName) ({ cls := "TermDesk$Refused", name := "at", desc := "(II)LTermDesk$Refused;" } : Jvm.MethodName)) ∈ lw_all := lw_g (lw_at lw_m3 7 rfl) rfl
theorem q605 : (Jvm.Cond.code ({ cls := "TermDesk$Refused", name := "at", desc := "(II)LTermDesk$Refused;" } : Jvm.MethodName) prog_6_method_2_code (3 : Nat) (Option.some (Jvm.ClassFile.FieldType.object "TermDesk$Refused"))) ∈ lw_all := lw_g (lw_at lw_m3 8 rfl) rfl
theorem q1848 : (Jvm.Cond.castable "TermDesk$Refused" "java/lang/Object") ∈ lw_tbl := lw_at lw_m8 51 rfl
theorem in_X5 : ∀ w ∈ wsX50, w ∈ lw_all := lw_in wsX50 [232, 234, 236, 238, 240, 290, 282, 284] (by decide +kernel) (by decide +kernel)

/-! TermDesk$Poly -/
set_option maxRecDepth 100000
def RX6 : String := "TermDesk$Poly"
def TX6 : u_T := fun k => match k with
  | 0 => ("TermDesk$Poly", "at", "[I", true)
  | 1 => ("TermDesk$Poly", "by", "[I", true)
  | _ => ("TermDesk$Poly", "many", "I", true)
def tyX6 : Nat → FieldType := fun k => match k with
  | 0 => .array .int
  | 1 => .array .int
  | _ => .int
abbrev wsX60 : List Cond := u_ws RX6 TX6 3
theorem nmX6 : ∀ a, a < 3 → ∀ b, b < 3 → a ≠ b → (TX6 a).2.1 ≠ (TX6 b).2.1 := by decide +kernel
theorem tyX6_ok : ∀ k, k < 3 → parseFieldDescriptor (TX6 k).2.2.1 = some (tyX6 k) := by decide +kernel
abbrev cX6_init : ByteArray := prog_5_method_1_code
def yX6_init : MethodName := ⟨RX6, "<init>", "()V"⟩
def dkwX6_init_0 : List UInt8 := [42, 3, 3, 188, 10, 3, 188, 10, 183, 0, 3, 177]
abbrev dktX6_init_0 : List UInt8 := dkwX6_init_0 ++ []
theorem dksX6_init_0 : cX6_init.data.toList.drop 0 = dktX6_init_0 := by decide +kernel
theorem dX6_init_0 : decode cX6_init 0 = .ok (.aload_n 0, 1) := dk_42 (dk_at dksX6_init_0 0 rfl rfl)
theorem dX6_init_1 : decode cX6_init 1 = .ok (.iconst 0, 1) := dk_3 (dk_at dksX6_init_0 1 rfl rfl)
theorem dX6_init_2 : decode cX6_init 2 = .ok (.iconst 0, 1) := dk_3 (dk_at dksX6_init_0 2 rfl rfl)
theorem dX6_init_3 : decode cX6_init 3 = .ok (.newarray .int, 2) := dk_188_10 (dk_at dksX6_init_0 3 rfl rfl)
theorem dX6_init_5 : decode cX6_init 5 = .ok (.iconst 0, 1) := dk_3 (dk_at dksX6_init_0 5 rfl rfl)
theorem dX6_init_6 : decode cX6_init 6 = .ok (.newarray .int, 2) := dk_188_10 (dk_at dksX6_init_0 6 rfl rfl)
theorem dX6_init_8 : decode cX6_init 8 = .ok (.invokespecial 3, 3) := dk_183 0 3 (dk_at dksX6_init_0 8 rfl rfl)
theorem dX6_init_11 : decode cX6_init 11 = .ok (.return_, 1) := dk_177 (dk_at dksX6_init_0 11 rfl rfl)
abbrev cX6_init_2 : ByteArray := prog_5_method_2_code
def yX6_init_2 : MethodName := ⟨RX6, "<init>", "(I[I[I)V"⟩
def dkwX6_init_2_0 : List UInt8 := [42, 183, 0, 9, 42, 27, 181, 0, 14, 42, 44, 181, 0, 18, 42, 45, 181, 0, 22, 177]
abbrev dktX6_init_2_0 : List UInt8 := dkwX6_init_2_0 ++ []
theorem dksX6_init_2_0 : cX6_init_2.data.toList.drop 0 = dktX6_init_2_0 := by decide +kernel
theorem dX6_init_2_0 : decode cX6_init_2 0 = .ok (.aload_n 0, 1) := dk_42 (dk_at dksX6_init_2_0 0 rfl rfl)
theorem dX6_init_2_1 : decode cX6_init_2 1 = .ok (.invokespecial 9, 3) := dk_183 0 9 (dk_at dksX6_init_2_0 1 rfl rfl)
theorem dX6_init_2_4 : decode cX6_init_2 4 = .ok (.aload_n 0, 1) := dk_42 (dk_at dksX6_init_2_0 4 rfl rfl)
theorem dX6_init_2_5 : decode cX6_init_2 5 = .ok (.iload_n 1, 1) := dk_27 (dk_at dksX6_init_2_0 5 rfl rfl)
theorem dX6_init_2_6 : decode cX6_init_2 6 = .ok (.putfield 14, 3) := dk_181 0 14 (dk_at dksX6_init_2_0 6 rfl rfl)
theorem dX6_init_2_9 : decode cX6_init_2 9 = .ok (.aload_n 0, 1) := dk_42 (dk_at dksX6_init_2_0 9 rfl rfl)
theorem dX6_init_2_10 : decode cX6_init_2 10 = .ok (.aload_n 2, 1) := dk_44 (dk_at dksX6_init_2_0 10 rfl rfl)
theorem dX6_init_2_11 : decode cX6_init_2 11 = .ok (.putfield 18, 3) := dk_181 0 18 (dk_at dksX6_init_2_0 11 rfl rfl)
theorem dX6_init_2_14 : decode cX6_init_2 14 = .ok (.aload_n 0, 1) := dk_42 (dk_at dksX6_init_2_0 14 rfl rfl)
theorem dX6_init_2_15 : decode cX6_init_2 15 = .ok (.aload_n 3, 1) := dk_45 (dk_at dksX6_init_2_0 15 rfl rfl)
theorem dX6_init_2_16 : decode cX6_init_2 16 = .ok (.putfield 22, 3) := dk_181 0 22 (dk_at dksX6_init_2_0 16 rfl rfl)
theorem dX6_init_2_19 : decode cX6_init_2 19 = .ok (.return_, 1) := dk_177 (dk_at dksX6_init_2_0 19 rfl rfl)
abbrev cX6_isZero : ByteArray := prog_5_method_3_code
def yX6_isZero : MethodName := ⟨RX6, "isZero", "()Z"⟩
def dkwX6_isZero_0 : List UInt8 := [42, 180, 0, 14, 154, 0, 7, 4, 167, 0, 4, 3, 172]
abbrev dktX6_isZero_0 : List UInt8 := dkwX6_isZero_0 ++ []
theorem dksX6_isZero_0 : cX6_isZero.data.toList.drop 0 = dktX6_isZero_0 := by decide +kernel
theorem dX6_isZero_0 : decode cX6_isZero 0 = .ok (.aload_n 0, 1) := dk_42 (dk_at dksX6_isZero_0 0 rfl rfl)
theorem dX6_isZero_1 : decode cX6_isZero 1 = .ok (.getfield 14, 3) := dk_180 0 14 (dk_at dksX6_isZero_0 1 rfl rfl)
theorem dX6_isZero_4 : decode cX6_isZero 4 = .ok (.ifCond .ne 7, 3) := dk_154 0 7 (dk_at dksX6_isZero_0 4 rfl rfl)
theorem dX6_isZero_7 : decode cX6_isZero 7 = .ok (.iconst 1, 1) := dk_4 (dk_at dksX6_isZero_0 7 rfl rfl)
theorem dX6_isZero_8 : decode cX6_isZero 8 = .ok (.goto 4, 3) := dk_167 0 4 (dk_at dksX6_isZero_0 8 rfl rfl)
theorem dX6_isZero_11 : decode cX6_isZero 11 = .ok (.iconst 0, 1) := dk_3 (dk_at dksX6_isZero_0 11 rfl rfl)
theorem dX6_isZero_12 : decode cX6_isZero 12 = .ok (.ireturn, 1) := dk_172 (dk_at dksX6_isZero_0 12 rfl rfl)
abbrev cX6_degree : ByteArray := prog_5_method_5_code
def yX6_degree : MethodName := ⟨RX6, "degree", "()I"⟩
def dkwX6_degree_1 : List UInt8 := [184, 0, 29, 60, 132, 2, 1, 167, 255, 231, 27, 172]
abbrev dktX6_degree_1 : List UInt8 := dkwX6_degree_1 ++ []
def dkwX6_degree_0 : List UInt8 := [16, 254, 60, 3, 61, 28, 42, 180, 0, 14, 162, 0, 23, 27, 42, 180, 0, 18, 28, 46, 184, 0, 34]
abbrev dktX6_degree_0 : List UInt8 := dkwX6_degree_0 ++ dktX6_degree_1
theorem dksX6_degree_0 : cX6_degree.data.toList.drop 0 = dktX6_degree_0 := by decide +kernel
theorem dksX6_degree_1 : cX6_degree.data.toList.drop 23 = dktX6_degree_1 := dk_seg dksX6_degree_0 23 rfl rfl
theorem dX6_degree_0 : decode cX6_degree 0 = .ok (.bipush (-2), 2) := dk_16 254 (dk_at dksX6_degree_0 0 rfl rfl)
theorem dX6_degree_2 : decode cX6_degree 2 = .ok (.istore_n 1, 1) := dk_60 (dk_at dksX6_degree_0 2 rfl rfl)
theorem dX6_degree_3 : decode cX6_degree 3 = .ok (.iconst 0, 1) := dk_3 (dk_at dksX6_degree_0 3 rfl rfl)
theorem dX6_degree_4 : decode cX6_degree 4 = .ok (.istore_n 2, 1) := dk_61 (dk_at dksX6_degree_0 4 rfl rfl)
theorem dX6_degree_5 : decode cX6_degree 5 = .ok (.iload_n 2, 1) := dk_28 (dk_at dksX6_degree_0 5 rfl rfl)
theorem dX6_degree_6 : decode cX6_degree 6 = .ok (.aload_n 0, 1) := dk_42 (dk_at dksX6_degree_0 6 rfl rfl)
theorem dX6_degree_7 : decode cX6_degree 7 = .ok (.getfield 14, 3) := dk_180 0 14 (dk_at dksX6_degree_0 7 rfl rfl)
theorem dX6_degree_10 : decode cX6_degree 10 = .ok (.if_icmp .ge 23, 3) := dk_162 0 23 (dk_at dksX6_degree_0 10 rfl rfl)
theorem dX6_degree_13 : decode cX6_degree 13 = .ok (.iload_n 1, 1) := dk_27 (dk_at dksX6_degree_0 13 rfl rfl)
theorem dX6_degree_14 : decode cX6_degree 14 = .ok (.aload_n 0, 1) := dk_42 (dk_at dksX6_degree_0 14 rfl rfl)
theorem dX6_degree_15 : decode cX6_degree 15 = .ok (.getfield 18, 3) := dk_180 0 18 (dk_at dksX6_degree_0 15 rfl rfl)
theorem dX6_degree_18 : decode cX6_degree 18 = .ok (.iload_n 2, 1) := dk_28 (dk_at dksX6_degree_0 18 rfl rfl)
theorem dX6_degree_19 : decode cX6_degree 19 = .ok (.iaload, 1) := dk_46 (dk_at dksX6_degree_0 19 rfl rfl)
theorem dX6_degree_20 : decode cX6_degree 20 = .ok (.invokestatic 34, 3) := dk_184 0 34 (dk_at dksX6_degree_0 20 rfl rfl)
theorem dX6_degree_23 : decode cX6_degree 23 = .ok (.invokestatic 29, 3) := dk_184 0 29 (dk_at dksX6_degree_1 0 rfl rfl)
theorem dX6_degree_26 : decode cX6_degree 26 = .ok (.istore_n 1, 1) := dk_60 (dk_at dksX6_degree_1 3 rfl rfl)
theorem dX6_degree_27 : decode cX6_degree 27 = .ok (.iinc 2 1, 3) := dk_132 2 1 (dk_at dksX6_degree_1 4 rfl rfl)
theorem dX6_degree_30 : decode cX6_degree 30 = .ok (.goto (-25), 3) := dk_167 255 231 (dk_at dksX6_degree_1 7 rfl rfl)
theorem dX6_degree_33 : decode cX6_degree 33 = .ok (.iload_n 1, 1) := dk_27 (dk_at dksX6_degree_1 10 rfl rfl)
theorem dX6_degree_34 : decode cX6_degree 34 = .ok (.ireturn, 1) := dk_172 (dk_at dksX6_degree_1 11 rfl rfl)
abbrev cX6_most : ByteArray := prog_5_method_4_code
def yX6_most : MethodName := ⟨RX6, "most", "(I)I"⟩
def dkwX6_most_1 : List UInt8 := [184, 0, 29, 61, 132, 3, 1, 167, 255, 230, 28, 172]
abbrev dktX6_most_1 : List UInt8 := dkwX6_most_1 ++ []
def dkwX6_most_0 : List UInt8 := [16, 254, 61, 3, 62, 29, 42, 180, 0, 14, 162, 0, 24, 28, 42, 180, 0, 18, 29, 46, 27, 184, 0, 25]
abbrev dktX6_most_0 : List UInt8 := dkwX6_most_0 ++ dktX6_most_1
theorem dksX6_most_0 : cX6_most.data.toList.drop 0 = dktX6_most_0 := by decide +kernel
theorem dksX6_most_1 : cX6_most.data.toList.drop 24 = dktX6_most_1 := dk_seg dksX6_most_0 24 rfl rfl
theorem dX6_most_0 : decode cX6_most 0 = .ok (.bipush (-2), 2) := dk_16 254 (dk_at dksX6_most_0 0 rfl rfl)
theorem dX6_most_2 : decode cX6_most 2 = .ok (.istore_n 2, 1) := dk_61 (dk_at dksX6_most_0 2 rfl rfl)
theorem dX6_most_3 : decode cX6_most 3 = .ok (.iconst 0, 1) := dk_3 (dk_at dksX6_most_0 3 rfl rfl)
theorem dX6_most_4 : decode cX6_most 4 = .ok (.istore_n 3, 1) := dk_62 (dk_at dksX6_most_0 4 rfl rfl)
theorem dX6_most_5 : decode cX6_most 5 = .ok (.iload_n 3, 1) := dk_29 (dk_at dksX6_most_0 5 rfl rfl)
theorem dX6_most_6 : decode cX6_most 6 = .ok (.aload_n 0, 1) := dk_42 (dk_at dksX6_most_0 6 rfl rfl)
theorem dX6_most_7 : decode cX6_most 7 = .ok (.getfield 14, 3) := dk_180 0 14 (dk_at dksX6_most_0 7 rfl rfl)
theorem dX6_most_10 : decode cX6_most 10 = .ok (.if_icmp .ge 24, 3) := dk_162 0 24 (dk_at dksX6_most_0 10 rfl rfl)
theorem dX6_most_13 : decode cX6_most 13 = .ok (.iload_n 2, 1) := dk_28 (dk_at dksX6_most_0 13 rfl rfl)
theorem dX6_most_14 : decode cX6_most 14 = .ok (.aload_n 0, 1) := dk_42 (dk_at dksX6_most_0 14 rfl rfl)
theorem dX6_most_15 : decode cX6_most 15 = .ok (.getfield 18, 3) := dk_180 0 18 (dk_at dksX6_most_0 15 rfl rfl)
theorem dX6_most_18 : decode cX6_most 18 = .ok (.iload_n 3, 1) := dk_29 (dk_at dksX6_most_0 18 rfl rfl)
theorem dX6_most_19 : decode cX6_most 19 = .ok (.iaload, 1) := dk_46 (dk_at dksX6_most_0 19 rfl rfl)
theorem dX6_most_20 : decode cX6_most 20 = .ok (.iload_n 1, 1) := dk_27 (dk_at dksX6_most_0 20 rfl rfl)
theorem dX6_most_21 : decode cX6_most 21 = .ok (.invokestatic 25, 3) := dk_184 0 25 (dk_at dksX6_most_0 21 rfl rfl)
theorem dX6_most_24 : decode cX6_most 24 = .ok (.invokestatic 29, 3) := dk_184 0 29 (dk_at dksX6_most_1 0 rfl rfl)
theorem dX6_most_27 : decode cX6_most 27 = .ok (.istore_n 2, 1) := dk_61 (dk_at dksX6_most_1 3 rfl rfl)
theorem dX6_most_28 : decode cX6_most 28 = .ok (.iinc 3 1, 3) := dk_132 3 1 (dk_at dksX6_most_1 4 rfl rfl)
theorem dX6_most_31 : decode cX6_most 31 = .ok (.goto (-26), 3) := dk_167 255 230 (dk_at dksX6_most_1 7 rfl rfl)
theorem dX6_most_34 : decode cX6_most 34 = .ok (.iload_n 2, 1) := dk_28 (dk_at dksX6_most_1 10 rfl rfl)
theorem dX6_most_35 : decode cX6_most 35 = .ok (.ireturn, 1) := dk_172 (dk_at dksX6_most_1 11 rfl rfl)
abbrev cX6_isLike : ByteArray := prog_5_method_6_code
def yX6_isLike : MethodName := ⟨RX6, "isLike", "(LTermDesk$Poly;)Z"⟩
def dkwX6_isLike_2 : List UInt8 := [28, 46, 159, 0, 5, 3, 172, 132, 2, 1, 167, 255, 213, 4, 172]
abbrev dktX6_isLike_2 : List UInt8 := dkwX6_isLike_2 ++ []
def dkwX6_isLike_1 : List UInt8 := [180, 0, 18, 28, 46, 43, 180, 0, 18, 28, 46, 160, 0, 18, 42, 180, 0, 22, 28, 46, 43, 180, 0, 22]
abbrev dktX6_isLike_1 : List UInt8 := dkwX6_isLike_1 ++ dktX6_isLike_2
def dkwX6_isLike_0 : List UInt8 := [42, 180, 0, 14, 43, 180, 0, 14, 159, 0, 5, 3, 172, 3, 61, 28, 42, 180, 0, 14, 162, 0, 41, 42]
abbrev dktX6_isLike_0 : List UInt8 := dkwX6_isLike_0 ++ dktX6_isLike_1
theorem dksX6_isLike_0 : cX6_isLike.data.toList.drop 0 = dktX6_isLike_0 := by decide +kernel
theorem dksX6_isLike_1 : cX6_isLike.data.toList.drop 24 = dktX6_isLike_1 := dk_seg dksX6_isLike_0 24 rfl rfl
theorem dksX6_isLike_2 : cX6_isLike.data.toList.drop 48 = dktX6_isLike_2 := dk_seg dksX6_isLike_1 24 rfl rfl
theorem dX6_isLike_0 : decode cX6_isLike 0 = .ok (.aload_n 0, 1) := dk_42 (dk_at dksX6_isLike_0 0 rfl rfl)
theorem dX6_isLike_1 : decode cX6_isLike 1 = .ok (.getfield 14, 3) := dk_180 0 14 (dk_at dksX6_isLike_0 1 rfl rfl)
theorem dX6_isLike_4 : decode cX6_isLike 4 = .ok (.aload_n 1, 1) := dk_43 (dk_at dksX6_isLike_0 4 rfl rfl)
theorem dX6_isLike_5 : decode cX6_isLike 5 = .ok (.getfield 14, 3) := dk_180 0 14 (dk_at dksX6_isLike_0 5 rfl rfl)
theorem dX6_isLike_8 : decode cX6_isLike 8 = .ok (.if_icmp .eq 5, 3) := dk_159 0 5 (dk_at dksX6_isLike_0 8 rfl rfl)
theorem dX6_isLike_11 : decode cX6_isLike 11 = .ok (.iconst 0, 1) := dk_3 (dk_at dksX6_isLike_0 11 rfl rfl)
theorem dX6_isLike_12 : decode cX6_isLike 12 = .ok (.ireturn, 1) := dk_172 (dk_at dksX6_isLike_0 12 rfl rfl)
theorem dX6_isLike_13 : decode cX6_isLike 13 = .ok (.iconst 0, 1) := dk_3 (dk_at dksX6_isLike_0 13 rfl rfl)
theorem dX6_isLike_14 : decode cX6_isLike 14 = .ok (.istore_n 2, 1) := dk_61 (dk_at dksX6_isLike_0 14 rfl rfl)
theorem dX6_isLike_15 : decode cX6_isLike 15 = .ok (.iload_n 2, 1) := dk_28 (dk_at dksX6_isLike_0 15 rfl rfl)
theorem dX6_isLike_16 : decode cX6_isLike 16 = .ok (.aload_n 0, 1) := dk_42 (dk_at dksX6_isLike_0 16 rfl rfl)
theorem dX6_isLike_17 : decode cX6_isLike 17 = .ok (.getfield 14, 3) := dk_180 0 14 (dk_at dksX6_isLike_0 17 rfl rfl)
theorem dX6_isLike_20 : decode cX6_isLike 20 = .ok (.if_icmp .ge 41, 3) := dk_162 0 41 (dk_at dksX6_isLike_0 20 rfl rfl)
theorem dX6_isLike_23 : decode cX6_isLike 23 = .ok (.aload_n 0, 1) := dk_42 (dk_at dksX6_isLike_0 23 rfl rfl)
theorem dX6_isLike_24 : decode cX6_isLike 24 = .ok (.getfield 18, 3) := dk_180 0 18 (dk_at dksX6_isLike_1 0 rfl rfl)
theorem dX6_isLike_27 : decode cX6_isLike 27 = .ok (.iload_n 2, 1) := dk_28 (dk_at dksX6_isLike_1 3 rfl rfl)
theorem dX6_isLike_28 : decode cX6_isLike 28 = .ok (.iaload, 1) := dk_46 (dk_at dksX6_isLike_1 4 rfl rfl)
theorem dX6_isLike_29 : decode cX6_isLike 29 = .ok (.aload_n 1, 1) := dk_43 (dk_at dksX6_isLike_1 5 rfl rfl)
theorem dX6_isLike_30 : decode cX6_isLike 30 = .ok (.getfield 18, 3) := dk_180 0 18 (dk_at dksX6_isLike_1 6 rfl rfl)
theorem dX6_isLike_33 : decode cX6_isLike 33 = .ok (.iload_n 2, 1) := dk_28 (dk_at dksX6_isLike_1 9 rfl rfl)
theorem dX6_isLike_34 : decode cX6_isLike 34 = .ok (.iaload, 1) := dk_46 (dk_at dksX6_isLike_1 10 rfl rfl)
theorem dX6_isLike_35 : decode cX6_isLike 35 = .ok (.if_icmp .ne 18, 3) := dk_160 0 18 (dk_at dksX6_isLike_1 11 rfl rfl)
theorem dX6_isLike_38 : decode cX6_isLike 38 = .ok (.aload_n 0, 1) := dk_42 (dk_at dksX6_isLike_1 14 rfl rfl)
theorem dX6_isLike_39 : decode cX6_isLike 39 = .ok (.getfield 22, 3) := dk_180 0 22 (dk_at dksX6_isLike_1 15 rfl rfl)
theorem dX6_isLike_42 : decode cX6_isLike 42 = .ok (.iload_n 2, 1) := dk_28 (dk_at dksX6_isLike_1 18 rfl rfl)
theorem dX6_isLike_43 : decode cX6_isLike 43 = .ok (.iaload, 1) := dk_46 (dk_at dksX6_isLike_1 19 rfl rfl)
theorem dX6_isLike_44 : decode cX6_isLike 44 = .ok (.aload_n 1, 1) := dk_43 (dk_at dksX6_isLike_1 20 rfl rfl)
theorem dX6_isLike_45 : decode cX6_isLike 45 = .ok (.getfield 22, 3) := dk_180 0 22 (dk_at dksX6_isLike_1 21 rfl rfl)
theorem dX6_isLike_48 : decode cX6_isLike 48 = .ok (.iload_n 2, 1) := dk_28 (dk_at dksX6_isLike_2 0 rfl rfl)
theorem dX6_isLike_49 : decode cX6_isLike 49 = .ok (.iaload, 1) := dk_46 (dk_at dksX6_isLike_2 1 rfl rfl)
theorem dX6_isLike_50 : decode cX6_isLike 50 = .ok (.if_icmp .eq 5, 3) := dk_159 0 5 (dk_at dksX6_isLike_2 2 rfl rfl)
theorem dX6_isLike_53 : decode cX6_isLike 53 = .ok (.iconst 0, 1) := dk_3 (dk_at dksX6_isLike_2 5 rfl rfl)
theorem dX6_isLike_54 : decode cX6_isLike 54 = .ok (.ireturn, 1) := dk_172 (dk_at dksX6_isLike_2 6 rfl rfl)
theorem dX6_isLike_55 : decode cX6_isLike 55 = .ok (.iinc 2 1, 3) := dk_132 2 1 (dk_at dksX6_isLike_2 7 rfl rfl)
theorem dX6_isLike_58 : decode cX6_isLike 58 = .ok (.goto (-43), 3) := dk_167 255 213 (dk_at dksX6_isLike_2 10 rfl rfl)
theorem dX6_isLike_61 : decode cX6_isLike 61 = .ok (.iconst 1, 1) := dk_4 (dk_at dksX6_isLike_2 13 rfl rfl)
theorem dX6_isLike_62 : decode cX6_isLike 62 = .ok (.ireturn, 1) := dk_172 (dk_at dksX6_isLike_2 14 rfl rfl)
theorem q126 : (Jvm.Cond.initialized "TermDesk$Poly") ∈ lw_all := lw_g (lw_at lw_m1 9 rfl) rfl
theorem q356 : (Jvm.Cond.instantiable "TermDesk$Poly" (3 : Nat)) ∈ lw_all := lw_g (lw_at lw_m1 239 rfl) rfl
theorem q358 : (Jvm.Cond.instanceMethod ({ cls := "TermDesk$Poly", name := "<init>", desc := "()V" } : Jvm.MethodName)) ∈ lw_all := lw_g (lw_at lw_m2 1 rfl) rfl
theorem q359 : (Jvm.Cond.code ({ cls := "TermDesk$Poly", name := "<init>", desc := "()V" } : Jvm.MethodName) prog_5_method_1_code (1 : Nat) (Option.none : Option Jvm.ClassFile.FieldType)) ∈ lw_all := lw_g (lw_at lw_m2 2 rfl) rfl
theorem q360 : (Jvm.Cond.methodLink "TermDesk$Poly" (3 : Nat) ({ cls := "TermDesk$Poly", name := "<init>", desc := "(I[I[I)V" } : Jvm.MethodName)) ∈ lw_all := lw_g (lw_at lw_m2 3 rfl) rfl
theorem q361 : (Jvm.Cond.instanceMethod ({ cls := "TermDesk$Poly", name := "<init>", desc := "(I[I[I)V" } : Jvm.MethodName)) ∈ lw_all := lw_g (lw_at lw_m2 4 rfl) rfl
theorem q362 : (Jvm.Cond.code ({ cls := "TermDesk$Poly", name := "<init>", desc := "(I[I[I)V" } : Jvm.MethodName) prog_5_method_2_code (4 : Nat) (Option.none : Option Jvm.ClassFile.FieldType)) ∈ lw_all := lw_g (lw_at lw_m2 5 rfl) rfl
theorem q363 : (Jvm.Cond.methodLink "TermDesk$Poly" (9 : Nat) ({ cls := "java/lang/Object", name := "<init>", desc := "()V" } : Jvm.MethodName)) ∈ lw_all := lw_g (lw_at lw_m2 6 rfl) rfl
theorem q364 : (Jvm.Cond.fieldLink "TermDesk$Poly" (18 : Nat) "TermDesk$Poly" "at" "[I") ∈ lw_all := lw_g (lw_at lw_m2 7 rfl) rfl
theorem q367 : (Jvm.Cond.fieldLink "TermDesk$Poly" (22 : Nat) "TermDesk$Poly" "by" "[I") ∈ lw_all := lw_g (lw_at lw_m2 10 rfl) rfl
theorem q370 : (Jvm.Cond.fieldLink "TermDesk$Poly" (14 : Nat) "TermDesk$Poly" "many" "I") ∈ lw_all := lw_g (lw_at lw_m2 13 rfl) rfl
theorem q373 : (Jvm.Cond.laysFinal "TermDesk$Poly" "TermDesk$Poly" "at" "[I") ∈ lw_all := lw_g (lw_at lw_m2 16 rfl) rfl
theorem q374 : (Jvm.Cond.soleField "TermDesk$Poly" "at") ∈ lw_all := lw_g (lw_at lw_m2 17 rfl) rfl
theorem q375 : (Jvm.Cond.laysFinal "TermDesk$Poly" "TermDesk$Poly" "by" "[I") ∈ lw_all := lw_g (lw_at lw_m2 18 rfl) rfl
theorem q376 : (Jvm.Cond.soleField "TermDesk$Poly" "by") ∈ lw_all := lw_g (lw_at lw_m2 19 rfl) rfl
theorem q377 : (Jvm.Cond.laysFinal "TermDesk$Poly" "TermDesk$Poly" "many" "I") ∈ lw_all := lw_g (lw_at lw_m2 20 rfl) rfl
theorem q378 : (Jvm.Cond.soleField "TermDesk$Poly" "many") ∈ lw_all := lw_g (lw_at lw_m2 21 rfl) rfl
theorem q379 : (Jvm.Cond.superclass "TermDesk$Poly" "java/lang/Object") ∈ lw_all := lw_g (lw_at lw_m2 22 rfl) rfl
theorem q786 : (Jvm.Cond.instanceMethod ({ cls := "TermDesk$Poly", name := "isZero", desc := "()Z" } : Jvm.MethodName)) ∈ lw_all := lw_g (lw_at lw_m3 189 rfl) rfl
theorem q787 : (Jvm.Cond.selects "TermDesk$Poly" ({ cls := "TermDesk$Poly", name := "isZero", desc := "()Z" } : Jvm.MethodName) ({ cls := "TermDesk$Poly", name := "isZero", desc := "()Z" } : Jvm.MethodName)) ∈ lw_all := lw_g (lw_at lw_m3 190 rfl) rfl
theorem q788 : (Jvm.Cond.code ({ cls := "TermDesk$Poly", name := "isZero", desc := "()Z" } : Jvm.MethodName) prog_5_method_3_code (1 : Nat) (Option.some Jvm.ClassFile.FieldType.boolean)) ∈ lw_all := lw_g (lw_at lw_m3 191 rfl) rfl
theorem q805 : (Jvm.Cond.instanceMethod ({ cls := "TermDesk$Poly", name := "degree", desc := "()I" } : Jvm.MethodName)) ∈ lw_all := lw_g (lw_at lw_m3 208 rfl) rfl
theorem q806 : (Jvm.Cond.selects "TermDesk$Poly" ({ cls := "TermDesk$Poly", name := "degree", desc := "()I" } : Jvm.MethodName) ({ cls := "TermDesk$Poly", name := "degree", desc := "()I" } : Jvm.MethodName)) ∈ lw_all := lw_g (lw_at lw_m3 209 rfl) rfl
theorem q807 : (Jvm.Cond.code ({ cls := "TermDesk$Poly", name := "degree", desc := "()I" } : Jvm.MethodName) prog_5_method_5_code (3 : Nat) (Option.some Jvm.ClassFile.FieldType.int)) ∈ lw_all := lw_g (lw_at lw_m3 210 rfl) rfl
theorem q808 : (Jvm.Cond.methodLinkNest "TermDesk$Poly" (34 : Nat) ({ cls := "TermDesk", name := "sum", desc := "(I)I" } : Jvm.MethodName) "TermDesk") ∈ lw_tbl := lw_at lw_m3 211 rfl
theorem q809 : (Jvm.Cond.methodLink "TermDesk$Poly" (29 : Nat) ({ cls := "java/lang/Math", name := "max", desc := "(II)I" } : Jvm.MethodName)) ∈ lw_all := lw_g (lw_at lw_m3 212 rfl) rfl
theorem q820 : (Jvm.Cond.instanceMethod ({ cls := "TermDesk$Poly", name := "most", desc := "(I)I" } : Jvm.MethodName)) ∈ lw_all := lw_g (lw_at lw_m3 223 rfl) rfl
theorem q821 : (Jvm.Cond.selects "TermDesk$Poly" ({ cls := "TermDesk$Poly", name := "most", desc := "(I)I" } : Jvm.MethodName) ({ cls := "TermDesk$Poly", name := "most", desc := "(I)I" } : Jvm.MethodName)) ∈ lw_all := lw_g (lw_at lw_m3 224 rfl) rfl
theorem q822 : (Jvm.Cond.code ({ cls := "TermDesk$Poly", name := "most", desc := "(I)I" } : Jvm.MethodName) prog_5_method_4_code (4 : Nat) (Option.some Jvm.ClassFile.FieldType.int)) ∈ lw_all := lw_g (lw_at lw_m3 225 rfl) rfl
theorem q823 : (Jvm.Cond.methodLinkNest "TermDesk$Poly" (25 : Nat) ({ cls := "TermDesk", name := "exponent", desc := "(II)I" } : Jvm.MethodName) "TermDesk") ∈ lw_tbl := lw_at lw_m3 226 rfl
theorem q864 : (Jvm.Cond.instanceMethod ({ cls := "TermDesk$Poly", name := "isLike", desc := "(LTermDesk$Poly;)Z" } : Jvm.MethodName)) ∈ lw_all := lw_g (lw_at lw_m4 27 rfl) rfl
theorem q865 : (Jvm.Cond.selects "TermDesk$Poly" ({ cls := "TermDesk$Poly", name := "isLike", desc := "(LTermDesk$Poly;)Z" } : Jvm.MethodName) ({ cls := "TermDesk$Poly", name := "isLike", desc := "(LTermDesk$Poly;)Z" } : Jvm.MethodName)) ∈ lw_all := lw_g (lw_at lw_m4 28 rfl) rfl
theorem q866 : (Jvm.Cond.code ({ cls := "TermDesk$Poly", name := "isLike", desc := "(LTermDesk$Poly;)Z" } : Jvm.MethodName) prog_5_method_6_code (3 : Nat) (Option.some Jvm.ClassFile.FieldType.boolean)) ∈ lw_all := lw_g (lw_at lw_m4 29 rfl) rfl
theorem q1849 : (Jvm.Cond.castable "TermDesk$Poly" "java/lang/Object") ∈ lw_tbl := lw_at lw_m8 52 rfl
theorem in_X6 : ∀ w ∈ wsX60, w ∈ lw_all := lw_in wsX60 [373, 375, 377] (by decide +kernel) (by decide +kernel)

/-! TermDesk$Heap -/
set_option maxRecDepth 100000
def RX8 : String := "TermDesk$Heap"
def TX8 : u_T := fun k => match k with
  | 0 => ("TermDesk$Heap", "row", "[I", true)
  | 1 => ("TermDesk$Heap", "key", "[I", true)
  | _ => ("TermDesk$Heap", "many", "I", false)
def tyX8 : Nat → FieldType := fun k => match k with
  | 0 => .array .int
  | 1 => .array .int
  | _ => .int
abbrev wsX80 : List Cond := u_ws RX8 TX8 3
theorem nmX8 : ∀ a, a < 3 → ∀ b, b < 3 → a ≠ b → (TX8 a).2.1 ≠ (TX8 b).2.1 := by decide +kernel
theorem tyX8_ok : ∀ k, k < 3 → parseFieldDescriptor (TX8 k).2.2.1 = some (tyX8 k) := by decide +kernel
abbrev cX8_init : ByteArray := prog_3_method_1_code
def yX8_init : MethodName := ⟨RX8, "<init>", "()V"⟩
def dkwX8_init_0 : List UInt8 := [42, 16, 60, 183, 0, 3, 177]
abbrev dktX8_init_0 : List UInt8 := dkwX8_init_0 ++ []
theorem dksX8_init_0 : cX8_init.data.toList.drop 0 = dktX8_init_0 := by decide +kernel
theorem dX8_init_0 : decode cX8_init 0 = .ok (.aload_n 0, 1) := dk_42 (dk_at dksX8_init_0 0 rfl rfl)
theorem dX8_init_1 : decode cX8_init 1 = .ok (.bipush 60, 2) := dk_16 60 (dk_at dksX8_init_0 1 rfl rfl)
theorem dX8_init_3 : decode cX8_init 3 = .ok (.invokespecial 3, 3) := dk_183 0 3 (dk_at dksX8_init_0 3 rfl rfl)
theorem dX8_init_6 : decode cX8_init 6 = .ok (.return_, 1) := dk_177 (dk_at dksX8_init_0 6 rfl rfl)
abbrev cX8_init_2 : ByteArray := prog_3_method_2_code
def yX8_init_2 : MethodName := ⟨RX8, "<init>", "(I)V"⟩
def dkwX8_init_2_1 : List UInt8 := [181, 0, 22, 177]
abbrev dktX8_init_2_1 : List UInt8 := dkwX8_init_2_1 ++ []
def dkwX8_init_2_0 : List UInt8 := [42, 183, 0, 9, 42, 3, 181, 0, 14, 42, 27, 4, 96, 188, 10, 181, 0, 18, 42, 27, 4, 96, 188, 10]
abbrev dktX8_init_2_0 : List UInt8 := dkwX8_init_2_0 ++ dktX8_init_2_1
theorem dksX8_init_2_0 : cX8_init_2.data.toList.drop 0 = dktX8_init_2_0 := by decide +kernel
theorem dksX8_init_2_1 : cX8_init_2.data.toList.drop 24 = dktX8_init_2_1 := dk_seg dksX8_init_2_0 24 rfl rfl
theorem dX8_init_2_0 : decode cX8_init_2 0 = .ok (.aload_n 0, 1) := dk_42 (dk_at dksX8_init_2_0 0 rfl rfl)
theorem dX8_init_2_1 : decode cX8_init_2 1 = .ok (.invokespecial 9, 3) := dk_183 0 9 (dk_at dksX8_init_2_0 1 rfl rfl)
theorem dX8_init_2_4 : decode cX8_init_2 4 = .ok (.aload_n 0, 1) := dk_42 (dk_at dksX8_init_2_0 4 rfl rfl)
theorem dX8_init_2_5 : decode cX8_init_2 5 = .ok (.iconst 0, 1) := dk_3 (dk_at dksX8_init_2_0 5 rfl rfl)
theorem dX8_init_2_6 : decode cX8_init_2 6 = .ok (.putfield 14, 3) := dk_181 0 14 (dk_at dksX8_init_2_0 6 rfl rfl)
theorem dX8_init_2_9 : decode cX8_init_2 9 = .ok (.aload_n 0, 1) := dk_42 (dk_at dksX8_init_2_0 9 rfl rfl)
theorem dX8_init_2_10 : decode cX8_init_2 10 = .ok (.iload_n 1, 1) := dk_27 (dk_at dksX8_init_2_0 10 rfl rfl)
theorem dX8_init_2_11 : decode cX8_init_2 11 = .ok (.iconst 1, 1) := dk_4 (dk_at dksX8_init_2_0 11 rfl rfl)
theorem dX8_init_2_12 : decode cX8_init_2 12 = .ok (.iadd, 1) := dk_96 (dk_at dksX8_init_2_0 12 rfl rfl)
theorem dX8_init_2_13 : decode cX8_init_2 13 = .ok (.newarray .int, 2) := dk_188_10 (dk_at dksX8_init_2_0 13 rfl rfl)
theorem dX8_init_2_15 : decode cX8_init_2 15 = .ok (.putfield 18, 3) := dk_181 0 18 (dk_at dksX8_init_2_0 15 rfl rfl)
theorem dX8_init_2_18 : decode cX8_init_2 18 = .ok (.aload_n 0, 1) := dk_42 (dk_at dksX8_init_2_0 18 rfl rfl)
theorem dX8_init_2_19 : decode cX8_init_2 19 = .ok (.iload_n 1, 1) := dk_27 (dk_at dksX8_init_2_0 19 rfl rfl)
theorem dX8_init_2_20 : decode cX8_init_2 20 = .ok (.iconst 1, 1) := dk_4 (dk_at dksX8_init_2_0 20 rfl rfl)
theorem dX8_init_2_21 : decode cX8_init_2 21 = .ok (.iadd, 1) := dk_96 (dk_at dksX8_init_2_0 21 rfl rfl)
theorem dX8_init_2_22 : decode cX8_init_2 22 = .ok (.newarray .int, 2) := dk_188_10 (dk_at dksX8_init_2_0 22 rfl rfl)
theorem dX8_init_2_24 : decode cX8_init_2 24 = .ok (.putfield 22, 3) := dk_181 0 22 (dk_at dksX8_init_2_1 0 rfl rfl)
theorem dX8_init_2_27 : decode cX8_init_2 27 = .ok (.return_, 1) := dk_177 (dk_at dksX8_init_2_1 3 rfl rfl)
abbrev cX8_add : ByteArray := prog_3_method_4_code
def yX8_add : MethodName := ⟨RX8, "add", "(II)V"⟩
def dkwX8_add_2 : List UInt8 := [108, 46, 182, 0, 25, 29, 5, 108, 62, 167, 255, 214, 42, 29, 27, 28, 182, 0, 25, 177]
abbrev dktX8_add_2 : List UInt8 := dkwX8_add_2 ++ []
def dkwX8_add_1 : List UInt8 := [29, 5, 108, 46, 28, 162, 0, 31, 42, 29, 42, 180, 0, 18, 29, 5, 108, 46, 42, 180, 0, 22, 29, 5]
abbrev dktX8_add_1 : List UInt8 := dkwX8_add_1 ++ dktX8_add_2
def dkwX8_add_0 : List UInt8 := [42, 89, 180, 0, 14, 4, 96, 181, 0, 14, 42, 180, 0, 14, 62, 29, 4, 164, 0, 43, 42, 180, 0, 22]
abbrev dktX8_add_0 : List UInt8 := dkwX8_add_0 ++ dktX8_add_1
theorem dksX8_add_0 : cX8_add.data.toList.drop 0 = dktX8_add_0 := by decide +kernel
theorem dksX8_add_1 : cX8_add.data.toList.drop 24 = dktX8_add_1 := dk_seg dksX8_add_0 24 rfl rfl
theorem dksX8_add_2 : cX8_add.data.toList.drop 48 = dktX8_add_2 := dk_seg dksX8_add_1 24 rfl rfl
theorem dX8_add_0 : decode cX8_add 0 = .ok (.aload_n 0, 1) := dk_42 (dk_at dksX8_add_0 0 rfl rfl)
theorem dX8_add_1 : decode cX8_add 1 = .ok (.dup, 1) := dk_89 (dk_at dksX8_add_0 1 rfl rfl)
theorem dX8_add_2 : decode cX8_add 2 = .ok (.getfield 14, 3) := dk_180 0 14 (dk_at dksX8_add_0 2 rfl rfl)
theorem dX8_add_5 : decode cX8_add 5 = .ok (.iconst 1, 1) := dk_4 (dk_at dksX8_add_0 5 rfl rfl)
theorem dX8_add_6 : decode cX8_add 6 = .ok (.iadd, 1) := dk_96 (dk_at dksX8_add_0 6 rfl rfl)
theorem dX8_add_7 : decode cX8_add 7 = .ok (.putfield 14, 3) := dk_181 0 14 (dk_at dksX8_add_0 7 rfl rfl)
theorem dX8_add_10 : decode cX8_add 10 = .ok (.aload_n 0, 1) := dk_42 (dk_at dksX8_add_0 10 rfl rfl)
theorem dX8_add_11 : decode cX8_add 11 = .ok (.getfield 14, 3) := dk_180 0 14 (dk_at dksX8_add_0 11 rfl rfl)
theorem dX8_add_14 : decode cX8_add 14 = .ok (.istore_n 3, 1) := dk_62 (dk_at dksX8_add_0 14 rfl rfl)
theorem dX8_add_15 : decode cX8_add 15 = .ok (.iload_n 3, 1) := dk_29 (dk_at dksX8_add_0 15 rfl rfl)
theorem dX8_add_16 : decode cX8_add 16 = .ok (.iconst 1, 1) := dk_4 (dk_at dksX8_add_0 16 rfl rfl)
theorem dX8_add_17 : decode cX8_add 17 = .ok (.if_icmp .le 43, 3) := dk_164 0 43 (dk_at dksX8_add_0 17 rfl rfl)
theorem dX8_add_20 : decode cX8_add 20 = .ok (.aload_n 0, 1) := dk_42 (dk_at dksX8_add_0 20 rfl rfl)
theorem dX8_add_21 : decode cX8_add 21 = .ok (.getfield 22, 3) := dk_180 0 22 (dk_at dksX8_add_0 21 rfl rfl)
theorem dX8_add_24 : decode cX8_add 24 = .ok (.iload_n 3, 1) := dk_29 (dk_at dksX8_add_1 0 rfl rfl)
theorem dX8_add_25 : decode cX8_add 25 = .ok (.iconst 2, 1) := dk_5 (dk_at dksX8_add_1 1 rfl rfl)
theorem dX8_add_26 : decode cX8_add 26 = .ok (.idiv, 1) := dk_108 (dk_at dksX8_add_1 2 rfl rfl)
theorem dX8_add_27 : decode cX8_add 27 = .ok (.iaload, 1) := dk_46 (dk_at dksX8_add_1 3 rfl rfl)
theorem dX8_add_28 : decode cX8_add 28 = .ok (.iload_n 2, 1) := dk_28 (dk_at dksX8_add_1 4 rfl rfl)
theorem dX8_add_29 : decode cX8_add 29 = .ok (.if_icmp .ge 31, 3) := dk_162 0 31 (dk_at dksX8_add_1 5 rfl rfl)
theorem dX8_add_32 : decode cX8_add 32 = .ok (.aload_n 0, 1) := dk_42 (dk_at dksX8_add_1 8 rfl rfl)
theorem dX8_add_33 : decode cX8_add 33 = .ok (.iload_n 3, 1) := dk_29 (dk_at dksX8_add_1 9 rfl rfl)
theorem dX8_add_34 : decode cX8_add 34 = .ok (.aload_n 0, 1) := dk_42 (dk_at dksX8_add_1 10 rfl rfl)
theorem dX8_add_35 : decode cX8_add 35 = .ok (.getfield 18, 3) := dk_180 0 18 (dk_at dksX8_add_1 11 rfl rfl)
theorem dX8_add_38 : decode cX8_add 38 = .ok (.iload_n 3, 1) := dk_29 (dk_at dksX8_add_1 14 rfl rfl)
theorem dX8_add_39 : decode cX8_add 39 = .ok (.iconst 2, 1) := dk_5 (dk_at dksX8_add_1 15 rfl rfl)
theorem dX8_add_40 : decode cX8_add 40 = .ok (.idiv, 1) := dk_108 (dk_at dksX8_add_1 16 rfl rfl)
theorem dX8_add_41 : decode cX8_add 41 = .ok (.iaload, 1) := dk_46 (dk_at dksX8_add_1 17 rfl rfl)
theorem dX8_add_42 : decode cX8_add 42 = .ok (.aload_n 0, 1) := dk_42 (dk_at dksX8_add_1 18 rfl rfl)
theorem dX8_add_43 : decode cX8_add 43 = .ok (.getfield 22, 3) := dk_180 0 22 (dk_at dksX8_add_1 19 rfl rfl)
theorem dX8_add_46 : decode cX8_add 46 = .ok (.iload_n 3, 1) := dk_29 (dk_at dksX8_add_1 22 rfl rfl)
theorem dX8_add_47 : decode cX8_add 47 = .ok (.iconst 2, 1) := dk_5 (dk_at dksX8_add_1 23 rfl rfl)
theorem dX8_add_48 : decode cX8_add 48 = .ok (.idiv, 1) := dk_108 (dk_at dksX8_add_2 0 rfl rfl)
theorem dX8_add_49 : decode cX8_add 49 = .ok (.iaload, 1) := dk_46 (dk_at dksX8_add_2 1 rfl rfl)
theorem dX8_add_50 : decode cX8_add 50 = .ok (.invokevirtual 25, 3) := dk_182 0 25 (dk_at dksX8_add_2 2 rfl rfl)
theorem dX8_add_53 : decode cX8_add 53 = .ok (.iload_n 3, 1) := dk_29 (dk_at dksX8_add_2 5 rfl rfl)
theorem dX8_add_54 : decode cX8_add 54 = .ok (.iconst 2, 1) := dk_5 (dk_at dksX8_add_2 6 rfl rfl)
theorem dX8_add_55 : decode cX8_add 55 = .ok (.idiv, 1) := dk_108 (dk_at dksX8_add_2 7 rfl rfl)
theorem dX8_add_56 : decode cX8_add 56 = .ok (.istore_n 3, 1) := dk_62 (dk_at dksX8_add_2 8 rfl rfl)
theorem dX8_add_57 : decode cX8_add 57 = .ok (.goto (-42), 3) := dk_167 255 214 (dk_at dksX8_add_2 9 rfl rfl)
theorem dX8_add_60 : decode cX8_add 60 = .ok (.aload_n 0, 1) := dk_42 (dk_at dksX8_add_2 12 rfl rfl)
theorem dX8_add_61 : decode cX8_add 61 = .ok (.iload_n 3, 1) := dk_29 (dk_at dksX8_add_2 13 rfl rfl)
theorem dX8_add_62 : decode cX8_add 62 = .ok (.iload_n 1, 1) := dk_27 (dk_at dksX8_add_2 14 rfl rfl)
theorem dX8_add_63 : decode cX8_add 63 = .ok (.iload_n 2, 1) := dk_28 (dk_at dksX8_add_2 15 rfl rfl)
theorem dX8_add_64 : decode cX8_add 64 = .ok (.invokevirtual 25, 3) := dk_182 0 25 (dk_at dksX8_add_2 16 rfl rfl)
theorem dX8_add_67 : decode cX8_add 67 = .ok (.return_, 1) := dk_177 (dk_at dksX8_add_2 19 rfl rfl)
abbrev cX8_puts : ByteArray := prog_3_method_3_code
def yX8_puts : MethodName := ⟨RX8, "puts", "(III)V"⟩
def dkwX8_puts_0 : List UInt8 := [42, 180, 0, 18, 27, 28, 79, 42, 180, 0, 22, 27, 29, 79, 177]
abbrev dktX8_puts_0 : List UInt8 := dkwX8_puts_0 ++ []
theorem dksX8_puts_0 : cX8_puts.data.toList.drop 0 = dktX8_puts_0 := by decide +kernel
theorem dX8_puts_0 : decode cX8_puts 0 = .ok (.aload_n 0, 1) := dk_42 (dk_at dksX8_puts_0 0 rfl rfl)
theorem dX8_puts_1 : decode cX8_puts 1 = .ok (.getfield 18, 3) := dk_180 0 18 (dk_at dksX8_puts_0 1 rfl rfl)
theorem dX8_puts_4 : decode cX8_puts 4 = .ok (.iload_n 1, 1) := dk_27 (dk_at dksX8_puts_0 4 rfl rfl)
theorem dX8_puts_5 : decode cX8_puts 5 = .ok (.iload_n 2, 1) := dk_28 (dk_at dksX8_puts_0 5 rfl rfl)
theorem dX8_puts_6 : decode cX8_puts 6 = .ok (.iastore, 1) := dk_79 (dk_at dksX8_puts_0 6 rfl rfl)
theorem dX8_puts_7 : decode cX8_puts 7 = .ok (.aload_n 0, 1) := dk_42 (dk_at dksX8_puts_0 7 rfl rfl)
theorem dX8_puts_8 : decode cX8_puts 8 = .ok (.getfield 22, 3) := dk_180 0 22 (dk_at dksX8_puts_0 8 rfl rfl)
theorem dX8_puts_11 : decode cX8_puts 11 = .ok (.iload_n 1, 1) := dk_27 (dk_at dksX8_puts_0 11 rfl rfl)
theorem dX8_puts_12 : decode cX8_puts 12 = .ok (.iload_n 3, 1) := dk_29 (dk_at dksX8_puts_0 12 rfl rfl)
theorem dX8_puts_13 : decode cX8_puts 13 = .ok (.iastore, 1) := dk_79 (dk_at dksX8_puts_0 13 rfl rfl)
theorem dX8_puts_14 : decode cX8_puts 14 = .ok (.return_, 1) := dk_177 (dk_at dksX8_puts_0 14 rfl rfl)
abbrev cX8_top : ByteArray := prog_3_method_5_code
def yX8_top : MethodName := ⟨RX8, "top", "()I"⟩
def dkwX8_top_0 : List UInt8 := [42, 180, 0, 22, 4, 46, 172]
abbrev dktX8_top_0 : List UInt8 := dkwX8_top_0 ++ []
theorem dksX8_top_0 : cX8_top.data.toList.drop 0 = dktX8_top_0 := by decide +kernel
theorem dX8_top_0 : decode cX8_top 0 = .ok (.aload_n 0, 1) := dk_42 (dk_at dksX8_top_0 0 rfl rfl)
theorem dX8_top_1 : decode cX8_top 1 = .ok (.getfield 22, 3) := dk_180 0 22 (dk_at dksX8_top_0 1 rfl rfl)
theorem dX8_top_4 : decode cX8_top 4 = .ok (.iconst 1, 1) := dk_4 (dk_at dksX8_top_0 4 rfl rfl)
theorem dX8_top_5 : decode cX8_top 5 = .ok (.iaload, 1) := dk_46 (dk_at dksX8_top_0 5 rfl rfl)
theorem dX8_top_6 : decode cX8_top 6 = .ok (.ireturn, 1) := dk_172 (dk_at dksX8_top_0 6 rfl rfl)
abbrev cX8_take : ByteArray := prog_3_method_6_code
def yX8_take : MethodName := ⟨RX8, "take", "()I"⟩
def dkwX8_take_6 : List UInt8 := [167, 255, 158, 42, 21, 4, 28, 29, 182, 0, 25, 27, 172]
abbrev dktX8_take_6 : List UInt8 := dkwX8_take_6 ++ []
def dkwX8_take_5 : List UInt8 := [21, 4, 42, 180, 0, 18, 21, 5, 46, 42, 180, 0, 22, 21, 5, 46, 182, 0, 25, 21, 5, 54, 4]
abbrev dktX8_take_5 : List UInt8 := dkwX8_take_5 ++ dktX8_take_6
def dkwX8_take_4 : List UInt8 := [167, 0, 7, 5, 21, 4, 104, 54, 5, 42, 180, 0, 22, 21, 5, 46, 29, 163, 0, 6, 167, 0, 30, 42]
abbrev dktX8_take_4 : List UInt8 := dkwX8_take_4 ++ dktX8_take_5
def dkwX8_take_3 : List UInt8 := [104, 4, 96, 46, 42, 180, 0, 22, 5, 21, 4, 104, 46, 164, 0, 12, 5, 21, 4, 104, 4, 96]
abbrev dktX8_take_3 : List UInt8 := dkwX8_take_3 ++ dktX8_take_4
def dkwX8_take_2 : List UInt8 := [180, 0, 14, 163, 0, 93, 5, 21, 4, 104, 42, 180, 0, 14, 162, 0, 35, 42, 180, 0, 22, 5, 21, 4]
abbrev dktX8_take_2 : List UInt8 := dkwX8_take_2 ++ dktX8_take_3
def dkwX8_take_1 : List UInt8 := [180, 0, 14, 46, 62, 4, 54, 4, 42, 89, 180, 0, 14, 4, 100, 181, 0, 14, 5, 21, 4, 104, 42]
abbrev dktX8_take_1 : List UInt8 := dkwX8_take_1 ++ dktX8_take_2
def dkwX8_take_0 : List UInt8 := [42, 180, 0, 18, 4, 46, 60, 42, 180, 0, 18, 42, 180, 0, 14, 46, 61, 42, 180, 0, 22, 42]
abbrev dktX8_take_0 : List UInt8 := dkwX8_take_0 ++ dktX8_take_1
theorem dksX8_take_0 : cX8_take.data.toList.drop 0 = dktX8_take_0 := by decide +kernel
theorem dksX8_take_1 : cX8_take.data.toList.drop 22 = dktX8_take_1 := dk_seg dksX8_take_0 22 rfl rfl
theorem dksX8_take_2 : cX8_take.data.toList.drop 45 = dktX8_take_2 := dk_seg dksX8_take_1 23 rfl rfl
theorem dksX8_take_3 : cX8_take.data.toList.drop 69 = dktX8_take_3 := dk_seg dksX8_take_2 24 rfl rfl
theorem dksX8_take_4 : cX8_take.data.toList.drop 91 = dktX8_take_4 := dk_seg dksX8_take_3 22 rfl rfl
theorem dksX8_take_5 : cX8_take.data.toList.drop 115 = dktX8_take_5 := dk_seg dksX8_take_4 24 rfl rfl
theorem dksX8_take_6 : cX8_take.data.toList.drop 138 = dktX8_take_6 := dk_seg dksX8_take_5 23 rfl rfl
theorem dX8_take_0 : decode cX8_take 0 = .ok (.aload_n 0, 1) := dk_42 (dk_at dksX8_take_0 0 rfl rfl)
theorem dX8_take_1 : decode cX8_take 1 = .ok (.getfield 18, 3) := dk_180 0 18 (dk_at dksX8_take_0 1 rfl rfl)
theorem dX8_take_4 : decode cX8_take 4 = .ok (.iconst 1, 1) := dk_4 (dk_at dksX8_take_0 4 rfl rfl)
theorem dX8_take_5 : decode cX8_take 5 = .ok (.iaload, 1) := dk_46 (dk_at dksX8_take_0 5 rfl rfl)
theorem dX8_take_6 : decode cX8_take 6 = .ok (.istore_n 1, 1) := dk_60 (dk_at dksX8_take_0 6 rfl rfl)
theorem dX8_take_7 : decode cX8_take 7 = .ok (.aload_n 0, 1) := dk_42 (dk_at dksX8_take_0 7 rfl rfl)
theorem dX8_take_8 : decode cX8_take 8 = .ok (.getfield 18, 3) := dk_180 0 18 (dk_at dksX8_take_0 8 rfl rfl)
theorem dX8_take_11 : decode cX8_take 11 = .ok (.aload_n 0, 1) := dk_42 (dk_at dksX8_take_0 11 rfl rfl)
theorem dX8_take_12 : decode cX8_take 12 = .ok (.getfield 14, 3) := dk_180 0 14 (dk_at dksX8_take_0 12 rfl rfl)
theorem dX8_take_15 : decode cX8_take 15 = .ok (.iaload, 1) := dk_46 (dk_at dksX8_take_0 15 rfl rfl)
theorem dX8_take_16 : decode cX8_take 16 = .ok (.istore_n 2, 1) := dk_61 (dk_at dksX8_take_0 16 rfl rfl)
theorem dX8_take_17 : decode cX8_take 17 = .ok (.aload_n 0, 1) := dk_42 (dk_at dksX8_take_0 17 rfl rfl)
theorem dX8_take_18 : decode cX8_take 18 = .ok (.getfield 22, 3) := dk_180 0 22 (dk_at dksX8_take_0 18 rfl rfl)
theorem dX8_take_21 : decode cX8_take 21 = .ok (.aload_n 0, 1) := dk_42 (dk_at dksX8_take_0 21 rfl rfl)
theorem dX8_take_22 : decode cX8_take 22 = .ok (.getfield 14, 3) := dk_180 0 14 (dk_at dksX8_take_1 0 rfl rfl)
theorem dX8_take_25 : decode cX8_take 25 = .ok (.iaload, 1) := dk_46 (dk_at dksX8_take_1 3 rfl rfl)
theorem dX8_take_26 : decode cX8_take 26 = .ok (.istore_n 3, 1) := dk_62 (dk_at dksX8_take_1 4 rfl rfl)
theorem dX8_take_27 : decode cX8_take 27 = .ok (.iconst 1, 1) := dk_4 (dk_at dksX8_take_1 5 rfl rfl)
theorem dX8_take_28 : decode cX8_take 28 = .ok (.istore 4, 2) := dk_54 4 (dk_at dksX8_take_1 6 rfl rfl)
theorem dX8_take_30 : decode cX8_take 30 = .ok (.aload_n 0, 1) := dk_42 (dk_at dksX8_take_1 8 rfl rfl)
theorem dX8_take_31 : decode cX8_take 31 = .ok (.dup, 1) := dk_89 (dk_at dksX8_take_1 9 rfl rfl)
theorem dX8_take_32 : decode cX8_take 32 = .ok (.getfield 14, 3) := dk_180 0 14 (dk_at dksX8_take_1 10 rfl rfl)
theorem dX8_take_35 : decode cX8_take 35 = .ok (.iconst 1, 1) := dk_4 (dk_at dksX8_take_1 13 rfl rfl)
theorem dX8_take_36 : decode cX8_take 36 = .ok (.isub, 1) := dk_100 (dk_at dksX8_take_1 14 rfl rfl)
theorem dX8_take_37 : decode cX8_take 37 = .ok (.putfield 14, 3) := dk_181 0 14 (dk_at dksX8_take_1 15 rfl rfl)
theorem dX8_take_40 : decode cX8_take 40 = .ok (.iconst 2, 1) := dk_5 (dk_at dksX8_take_1 18 rfl rfl)
theorem dX8_take_41 : decode cX8_take 41 = .ok (.iload 4, 2) := dk_21 4 (dk_at dksX8_take_1 19 rfl rfl)
theorem dX8_take_43 : decode cX8_take 43 = .ok (.imul, 1) := dk_104 (dk_at dksX8_take_1 21 rfl rfl)
theorem dX8_take_44 : decode cX8_take 44 = .ok (.aload_n 0, 1) := dk_42 (dk_at dksX8_take_1 22 rfl rfl)
theorem dX8_take_45 : decode cX8_take 45 = .ok (.getfield 14, 3) := dk_180 0 14 (dk_at dksX8_take_2 0 rfl rfl)
theorem dX8_take_48 : decode cX8_take 48 = .ok (.if_icmp .gt 93, 3) := dk_163 0 93 (dk_at dksX8_take_2 3 rfl rfl)
theorem dX8_take_51 : decode cX8_take 51 = .ok (.iconst 2, 1) := dk_5 (dk_at dksX8_take_2 6 rfl rfl)
theorem dX8_take_52 : decode cX8_take 52 = .ok (.iload 4, 2) := dk_21 4 (dk_at dksX8_take_2 7 rfl rfl)
theorem dX8_take_54 : decode cX8_take 54 = .ok (.imul, 1) := dk_104 (dk_at dksX8_take_2 9 rfl rfl)
theorem dX8_take_55 : decode cX8_take 55 = .ok (.aload_n 0, 1) := dk_42 (dk_at dksX8_take_2 10 rfl rfl)
theorem dX8_take_56 : decode cX8_take 56 = .ok (.getfield 14, 3) := dk_180 0 14 (dk_at dksX8_take_2 11 rfl rfl)
theorem dX8_take_59 : decode cX8_take 59 = .ok (.if_icmp .ge 35, 3) := dk_162 0 35 (dk_at dksX8_take_2 14 rfl rfl)
theorem dX8_take_62 : decode cX8_take 62 = .ok (.aload_n 0, 1) := dk_42 (dk_at dksX8_take_2 17 rfl rfl)
theorem dX8_take_63 : decode cX8_take 63 = .ok (.getfield 22, 3) := dk_180 0 22 (dk_at dksX8_take_2 18 rfl rfl)
theorem dX8_take_66 : decode cX8_take 66 = .ok (.iconst 2, 1) := dk_5 (dk_at dksX8_take_2 21 rfl rfl)
theorem dX8_take_67 : decode cX8_take 67 = .ok (.iload 4, 2) := dk_21 4 (dk_at dksX8_take_2 22 rfl rfl)
theorem dX8_take_69 : decode cX8_take 69 = .ok (.imul, 1) := dk_104 (dk_at dksX8_take_3 0 rfl rfl)
theorem dX8_take_70 : decode cX8_take 70 = .ok (.iconst 1, 1) := dk_4 (dk_at dksX8_take_3 1 rfl rfl)
theorem dX8_take_71 : decode cX8_take 71 = .ok (.iadd, 1) := dk_96 (dk_at dksX8_take_3 2 rfl rfl)
theorem dX8_take_72 : decode cX8_take 72 = .ok (.iaload, 1) := dk_46 (dk_at dksX8_take_3 3 rfl rfl)
theorem dX8_take_73 : decode cX8_take 73 = .ok (.aload_n 0, 1) := dk_42 (dk_at dksX8_take_3 4 rfl rfl)
theorem dX8_take_74 : decode cX8_take 74 = .ok (.getfield 22, 3) := dk_180 0 22 (dk_at dksX8_take_3 5 rfl rfl)
theorem dX8_take_77 : decode cX8_take 77 = .ok (.iconst 2, 1) := dk_5 (dk_at dksX8_take_3 8 rfl rfl)
theorem dX8_take_78 : decode cX8_take 78 = .ok (.iload 4, 2) := dk_21 4 (dk_at dksX8_take_3 9 rfl rfl)
theorem dX8_take_80 : decode cX8_take 80 = .ok (.imul, 1) := dk_104 (dk_at dksX8_take_3 11 rfl rfl)
theorem dX8_take_81 : decode cX8_take 81 = .ok (.iaload, 1) := dk_46 (dk_at dksX8_take_3 12 rfl rfl)
theorem dX8_take_82 : decode cX8_take 82 = .ok (.if_icmp .le 12, 3) := dk_164 0 12 (dk_at dksX8_take_3 13 rfl rfl)
theorem dX8_take_85 : decode cX8_take 85 = .ok (.iconst 2, 1) := dk_5 (dk_at dksX8_take_3 16 rfl rfl)
theorem dX8_take_86 : decode cX8_take 86 = .ok (.iload 4, 2) := dk_21 4 (dk_at dksX8_take_3 17 rfl rfl)
theorem dX8_take_88 : decode cX8_take 88 = .ok (.imul, 1) := dk_104 (dk_at dksX8_take_3 19 rfl rfl)
theorem dX8_take_89 : decode cX8_take 89 = .ok (.iconst 1, 1) := dk_4 (dk_at dksX8_take_3 20 rfl rfl)
theorem dX8_take_90 : decode cX8_take 90 = .ok (.iadd, 1) := dk_96 (dk_at dksX8_take_3 21 rfl rfl)
theorem dX8_take_91 : decode cX8_take 91 = .ok (.goto 7, 3) := dk_167 0 7 (dk_at dksX8_take_4 0 rfl rfl)
theorem dX8_take_94 : decode cX8_take 94 = .ok (.iconst 2, 1) := dk_5 (dk_at dksX8_take_4 3 rfl rfl)
theorem dX8_take_95 : decode cX8_take 95 = .ok (.iload 4, 2) := dk_21 4 (dk_at dksX8_take_4 4 rfl rfl)
theorem dX8_take_97 : decode cX8_take 97 = .ok (.imul, 1) := dk_104 (dk_at dksX8_take_4 6 rfl rfl)
theorem dX8_take_98 : decode cX8_take 98 = .ok (.istore 5, 2) := dk_54 5 (dk_at dksX8_take_4 7 rfl rfl)
theorem dX8_take_100 : decode cX8_take 100 = .ok (.aload_n 0, 1) := dk_42 (dk_at dksX8_take_4 9 rfl rfl)
theorem dX8_take_101 : decode cX8_take 101 = .ok (.getfield 22, 3) := dk_180 0 22 (dk_at dksX8_take_4 10 rfl rfl)
theorem dX8_take_104 : decode cX8_take 104 = .ok (.iload 5, 2) := dk_21 5 (dk_at dksX8_take_4 13 rfl rfl)
theorem dX8_take_106 : decode cX8_take 106 = .ok (.iaload, 1) := dk_46 (dk_at dksX8_take_4 15 rfl rfl)
theorem dX8_take_107 : decode cX8_take 107 = .ok (.iload_n 3, 1) := dk_29 (dk_at dksX8_take_4 16 rfl rfl)
theorem dX8_take_108 : decode cX8_take 108 = .ok (.if_icmp .gt 6, 3) := dk_163 0 6 (dk_at dksX8_take_4 17 rfl rfl)
theorem dX8_take_111 : decode cX8_take 111 = .ok (.goto 30, 3) := dk_167 0 30 (dk_at dksX8_take_4 20 rfl rfl)
theorem dX8_take_114 : decode cX8_take 114 = .ok (.aload_n 0, 1) := dk_42 (dk_at dksX8_take_4 23 rfl rfl)
theorem dX8_take_115 : decode cX8_take 115 = .ok (.iload 4, 2) := dk_21 4 (dk_at dksX8_take_5 0 rfl rfl)
theorem dX8_take_117 : decode cX8_take 117 = .ok (.aload_n 0, 1) := dk_42 (dk_at dksX8_take_5 2 rfl rfl)
theorem dX8_take_118 : decode cX8_take 118 = .ok (.getfield 18, 3) := dk_180 0 18 (dk_at dksX8_take_5 3 rfl rfl)
theorem dX8_take_121 : decode cX8_take 121 = .ok (.iload 5, 2) := dk_21 5 (dk_at dksX8_take_5 6 rfl rfl)
theorem dX8_take_123 : decode cX8_take 123 = .ok (.iaload, 1) := dk_46 (dk_at dksX8_take_5 8 rfl rfl)
theorem dX8_take_124 : decode cX8_take 124 = .ok (.aload_n 0, 1) := dk_42 (dk_at dksX8_take_5 9 rfl rfl)
theorem dX8_take_125 : decode cX8_take 125 = .ok (.getfield 22, 3) := dk_180 0 22 (dk_at dksX8_take_5 10 rfl rfl)
theorem dX8_take_128 : decode cX8_take 128 = .ok (.iload 5, 2) := dk_21 5 (dk_at dksX8_take_5 13 rfl rfl)
theorem dX8_take_130 : decode cX8_take 130 = .ok (.iaload, 1) := dk_46 (dk_at dksX8_take_5 15 rfl rfl)
theorem dX8_take_131 : decode cX8_take 131 = .ok (.invokevirtual 25, 3) := dk_182 0 25 (dk_at dksX8_take_5 16 rfl rfl)
theorem dX8_take_134 : decode cX8_take 134 = .ok (.iload 5, 2) := dk_21 5 (dk_at dksX8_take_5 19 rfl rfl)
theorem dX8_take_136 : decode cX8_take 136 = .ok (.istore 4, 2) := dk_54 4 (dk_at dksX8_take_5 21 rfl rfl)
theorem dX8_take_138 : decode cX8_take 138 = .ok (.goto (-98), 3) := dk_167 255 158 (dk_at dksX8_take_6 0 rfl rfl)
theorem dX8_take_141 : decode cX8_take 141 = .ok (.aload_n 0, 1) := dk_42 (dk_at dksX8_take_6 3 rfl rfl)
theorem dX8_take_142 : decode cX8_take 142 = .ok (.iload 4, 2) := dk_21 4 (dk_at dksX8_take_6 4 rfl rfl)
theorem dX8_take_144 : decode cX8_take 144 = .ok (.iload_n 2, 1) := dk_28 (dk_at dksX8_take_6 6 rfl rfl)
theorem dX8_take_145 : decode cX8_take 145 = .ok (.iload_n 3, 1) := dk_29 (dk_at dksX8_take_6 7 rfl rfl)
theorem dX8_take_146 : decode cX8_take 146 = .ok (.invokevirtual 25, 3) := dk_182 0 25 (dk_at dksX8_take_6 8 rfl rfl)
theorem dX8_take_149 : decode cX8_take 149 = .ok (.iload_n 1, 1) := dk_27 (dk_at dksX8_take_6 11 rfl rfl)
theorem dX8_take_150 : decode cX8_take 150 = .ok (.ireturn, 1) := dk_172 (dk_at dksX8_take_6 12 rfl rfl)
theorem q137 : (Jvm.Cond.initialized "TermDesk$Heap") ∈ lw_all := lw_g (lw_at lw_m1 20 rfl) rfl
theorem q1020 : (Jvm.Cond.instantiable "TermDesk$Heap" (3 : Nat)) ∈ lw_all := lw_g (lw_at lw_m4 183 rfl) rfl
theorem q1022 : (Jvm.Cond.instanceMethod ({ cls := "TermDesk$Heap", name := "<init>", desc := "()V" } : Jvm.MethodName)) ∈ lw_all := lw_g (lw_at lw_m4 185 rfl) rfl
theorem q1023 : (Jvm.Cond.code ({ cls := "TermDesk$Heap", name := "<init>", desc := "()V" } : Jvm.MethodName) prog_3_method_1_code (1 : Nat) (Option.none : Option Jvm.ClassFile.FieldType)) ∈ lw_all := lw_g (lw_at lw_m4 186 rfl) rfl
theorem q1024 : (Jvm.Cond.methodLink "TermDesk$Heap" (3 : Nat) ({ cls := "TermDesk$Heap", name := "<init>", desc := "(I)V" } : Jvm.MethodName)) ∈ lw_all := lw_g (lw_at lw_m4 187 rfl) rfl
theorem q1025 : (Jvm.Cond.instanceMethod ({ cls := "TermDesk$Heap", name := "<init>", desc := "(I)V" } : Jvm.MethodName)) ∈ lw_all := lw_g (lw_at lw_m4 188 rfl) rfl
theorem q1026 : (Jvm.Cond.code ({ cls := "TermDesk$Heap", name := "<init>", desc := "(I)V" } : Jvm.MethodName) prog_3_method_2_code (2 : Nat) (Option.none : Option Jvm.ClassFile.FieldType)) ∈ lw_all := lw_g (lw_at lw_m4 189 rfl) rfl
theorem q1027 : (Jvm.Cond.methodLink "TermDesk$Heap" (9 : Nat) ({ cls := "java/lang/Object", name := "<init>", desc := "()V" } : Jvm.MethodName)) ∈ lw_all := lw_g (lw_at lw_m4 190 rfl) rfl
theorem q1028 : (Jvm.Cond.fieldLink "TermDesk$Heap" (18 : Nat) "TermDesk$Heap" "row" "[I") ∈ lw_all := lw_g (lw_at lw_m4 191 rfl) rfl
theorem q1029 : (Jvm.Cond.fieldLink "TermDesk$Heap" (22 : Nat) "TermDesk$Heap" "key" "[I") ∈ lw_all := lw_g (lw_at lw_m4 192 rfl) rfl
theorem q1030 : (Jvm.Cond.fieldLink "TermDesk$Heap" (14 : Nat) "TermDesk$Heap" "many" "I") ∈ lw_all := lw_g (lw_at lw_m4 193 rfl) rfl
theorem q1032 : (Jvm.Cond.laysFinal "TermDesk$Heap" "TermDesk$Heap" "row" "[I") ∈ lw_all := lw_g (lw_at lw_m4 195 rfl) rfl
theorem q1033 : (Jvm.Cond.soleField "TermDesk$Heap" "row") ∈ lw_all := lw_g (lw_at lw_m4 196 rfl) rfl
theorem q1034 : (Jvm.Cond.laysFinal "TermDesk$Heap" "TermDesk$Heap" "key" "[I") ∈ lw_all := lw_g (lw_at lw_m4 197 rfl) rfl
theorem q1035 : (Jvm.Cond.soleField "TermDesk$Heap" "key") ∈ lw_all := lw_g (lw_at lw_m4 198 rfl) rfl
theorem q1036 : (Jvm.Cond.lays "TermDesk$Heap" "TermDesk$Heap" "many" "I") ∈ lw_all := lw_g (lw_at lw_m4 199 rfl) rfl
theorem q1037 : (Jvm.Cond.soleField "TermDesk$Heap" "many") ∈ lw_all := lw_g (lw_at lw_m4 200 rfl) rfl
theorem q1038 : (Jvm.Cond.superclass "TermDesk$Heap" "java/lang/Object") ∈ lw_all := lw_g (lw_at lw_m4 201 rfl) rfl
theorem q1040 : (Jvm.Cond.instanceMethod ({ cls := "TermDesk$Heap", name := "add", desc := "(II)V" } : Jvm.MethodName)) ∈ lw_all := lw_g (lw_at lw_m4 203 rfl) rfl
theorem q1041 : (Jvm.Cond.selects "TermDesk$Heap" ({ cls := "TermDesk$Heap", name := "add", desc := "(II)V" } : Jvm.MethodName) ({ cls := "TermDesk$Heap", name := "add", desc := "(II)V" } : Jvm.MethodName)) ∈ lw_all := lw_g (lw_at lw_m4 204 rfl) rfl
theorem q1042 : (Jvm.Cond.code ({ cls := "TermDesk$Heap", name := "add", desc := "(II)V" } : Jvm.MethodName) prog_3_method_4_code (4 : Nat) (Option.none : Option Jvm.ClassFile.FieldType)) ∈ lw_all := lw_g (lw_at lw_m4 205 rfl) rfl
theorem q1043 : (Jvm.Cond.methodLink "TermDesk$Heap" (25 : Nat) ({ cls := "TermDesk$Heap", name := "puts", desc := "(III)V" } : Jvm.MethodName)) ∈ lw_all := lw_g (lw_at lw_m4 206 rfl) rfl
theorem q1044 : (Jvm.Cond.privateMethod ({ cls := "TermDesk$Heap", name := "puts", desc := "(III)V" } : Jvm.MethodName)) ∈ lw_tbl := lw_at lw_m4 207 rfl
theorem q1045 : (Jvm.Cond.instanceMethod ({ cls := "TermDesk$Heap", name := "puts", desc := "(III)V" } : Jvm.MethodName)) ∈ lw_all := lw_g (lw_at lw_m4 208 rfl) rfl
theorem q1046 : (Jvm.Cond.code ({ cls := "TermDesk$Heap", name := "puts", desc := "(III)V" } : Jvm.MethodName) prog_3_method_3_code (4 : Nat) (Option.none : Option Jvm.ClassFile.FieldType)) ∈ lw_all := lw_g (lw_at lw_m4 209 rfl) rfl
theorem q1048 : (Jvm.Cond.instanceMethod ({ cls := "TermDesk$Heap", name := "top", desc := "()I" } : Jvm.MethodName)) ∈ lw_all := lw_g (lw_at lw_m4 211 rfl) rfl
theorem q1049 : (Jvm.Cond.selects "TermDesk$Heap" ({ cls := "TermDesk$Heap", name := "top", desc := "()I" } : Jvm.MethodName) ({ cls := "TermDesk$Heap", name := "top", desc := "()I" } : Jvm.MethodName)) ∈ lw_all := lw_g (lw_at lw_m4 212 rfl) rfl
theorem q1050 : (Jvm.Cond.code ({ cls := "TermDesk$Heap", name := "top", desc := "()I" } : Jvm.MethodName) prog_3_method_5_code (1 : Nat) (Option.some Jvm.ClassFile.FieldType.int)) ∈ lw_all := lw_g (lw_at lw_m4 213 rfl) rfl
theorem q1052 : (Jvm.Cond.instanceMethod ({ cls := "TermDesk$Heap", name := "take", desc := "()I" } : Jvm.MethodName)) ∈ lw_all := lw_g (lw_at lw_m4 215 rfl) rfl
theorem q1053 : (Jvm.Cond.selects "TermDesk$Heap" ({ cls := "TermDesk$Heap", name := "take", desc := "()I" } : Jvm.MethodName) ({ cls := "TermDesk$Heap", name := "take", desc := "()I" } : Jvm.MethodName)) ∈ lw_all := lw_g (lw_at lw_m4 216 rfl) rfl
theorem q1054 : (Jvm.Cond.code ({ cls := "TermDesk$Heap", name := "take", desc := "()I" } : Jvm.MethodName) prog_3_method_6_code (6 : Nat) (Option.some Jvm.ClassFile.FieldType.int)) ∈ lw_all := lw_g (lw_at lw_m4 217 rfl) rfl
theorem q1853 : (Jvm.Cond.castable "TermDesk$Heap" "java/lang/Object") ∈ lw_tbl := lw_at lw_m8 56 rfl
theorem in_X8 : ∀ w ∈ wsX80, w ∈ lw_all := lw_in wsX80 [1032, 1034, 1036] (by decide +kernel) (by decide +kernel)

/-! java/lang/Throwable -/
set_option maxRecDepth 100000
def RJ0 : String := "java/lang/Throwable"
def TJ0 : u_T := fun k => match k with
  | 0 => ("java/lang/Throwable", "cause", "Ljava/lang/Throwable;", false)
  | 1 => ("java/lang/Throwable", "stackTrace", "[Ljava/lang/StackTraceElement;", false)
  | 2 => ("java/lang/Throwable", "suppressedExceptions", "Ljava/util/List;", false)
  | 3 => ("java/lang/Throwable", "detailMessage", "Ljava/lang/String;", false)
  | _ => ("java/lang/Throwable", "backtrace", "Ljava/lang/Object;", false)
def tyJ0 : Nat → FieldType := fun k => match k with
  | 0 => .object "java/lang/Throwable"
  | 1 => .array (.object "java/lang/StackTraceElement")
  | 2 => .object "java/util/List"
  | 3 => .object "java/lang/String"
  | _ => .object "java/lang/Object"
abbrev wsJ00 : List Cond := u_ws RJ0 TJ0 5
theorem nmJ0 : ∀ a, a < 5 → ∀ b, b < 5 → a ≠ b → (TJ0 a).2.1 ≠ (TJ0 b).2.1 := by decide +kernel
theorem tyJ0_ok : ∀ k, k < 5 → parseFieldDescriptor (TJ0 k).2.2.1 = some (tyJ0 k) := by decide +kernel
abbrev cJ0_init : ByteArray := prog_24_method_1_code
def yJ0_init : MethodName := ⟨RJ0, "<init>", "()V"⟩
def dkwJ0_init_1 : List UInt8 := [182, 0, 27, 87, 177]
abbrev dktJ0_init_1 : List UInt8 := dkwJ0_init_1 ++ []
def dkwJ0_init_0 : List UInt8 := [42, 183, 0, 1, 42, 42, 181, 0, 7, 42, 178, 0, 13, 181, 0, 17, 42, 178, 0, 20, 181, 0, 24, 42]
abbrev dktJ0_init_0 : List UInt8 := dkwJ0_init_0 ++ dktJ0_init_1
theorem dksJ0_init_0 : cJ0_init.data.toList.drop 0 = dktJ0_init_0 := by decide +kernel
theorem dksJ0_init_1 : cJ0_init.data.toList.drop 24 = dktJ0_init_1 := dk_seg dksJ0_init_0 24 rfl rfl
theorem dJ0_init_0 : decode cJ0_init 0 = .ok (.aload_n 0, 1) := dk_42 (dk_at dksJ0_init_0 0 rfl rfl)
theorem dJ0_init_1 : decode cJ0_init 1 = .ok (.invokespecial 1, 3) := dk_183 0 1 (dk_at dksJ0_init_0 1 rfl rfl)
theorem dJ0_init_4 : decode cJ0_init 4 = .ok (.aload_n 0, 1) := dk_42 (dk_at dksJ0_init_0 4 rfl rfl)
theorem dJ0_init_5 : decode cJ0_init 5 = .ok (.aload_n 0, 1) := dk_42 (dk_at dksJ0_init_0 5 rfl rfl)
theorem dJ0_init_6 : decode cJ0_init 6 = .ok (.putfield 7, 3) := dk_181 0 7 (dk_at dksJ0_init_0 6 rfl rfl)
theorem dJ0_init_9 : decode cJ0_init 9 = .ok (.aload_n 0, 1) := dk_42 (dk_at dksJ0_init_0 9 rfl rfl)
theorem dJ0_init_10 : decode cJ0_init 10 = .ok (.getstatic 13, 3) := dk_178 0 13 (dk_at dksJ0_init_0 10 rfl rfl)
theorem dJ0_init_13 : decode cJ0_init 13 = .ok (.putfield 17, 3) := dk_181 0 17 (dk_at dksJ0_init_0 13 rfl rfl)
theorem dJ0_init_16 : decode cJ0_init 16 = .ok (.aload_n 0, 1) := dk_42 (dk_at dksJ0_init_0 16 rfl rfl)
theorem dJ0_init_17 : decode cJ0_init 17 = .ok (.getstatic 20, 3) := dk_178 0 20 (dk_at dksJ0_init_0 17 rfl rfl)
theorem dJ0_init_20 : decode cJ0_init 20 = .ok (.putfield 24, 3) := dk_181 0 24 (dk_at dksJ0_init_0 20 rfl rfl)
theorem dJ0_init_23 : decode cJ0_init 23 = .ok (.aload_n 0, 1) := dk_42 (dk_at dksJ0_init_0 23 rfl rfl)
theorem dJ0_init_24 : decode cJ0_init 24 = .ok (.invokevirtual 27, 3) := dk_182 0 27 (dk_at dksJ0_init_1 0 rfl rfl)
theorem dJ0_init_27 : decode cJ0_init 27 = .ok (.pop, 1) := dk_87 (dk_at dksJ0_init_1 3 rfl rfl)
theorem dJ0_init_28 : decode cJ0_init 28 = .ok (.return_, 1) := dk_177 (dk_at dksJ0_init_1 4 rfl rfl)
abbrev cJ0_init_2 : ByteArray := prog_24_method_5_code
def yJ0_init_2 : MethodName := ⟨RJ0, "<init>", "(Ljava/lang/String;Ljava/lang/Throwable;ZZ)V"⟩
def dkwJ0_init_2_2 : List UInt8 := [44, 181, 0, 7, 29, 154, 0, 8, 42, 1, 181, 0, 24, 177]
abbrev dktJ0_init_2_2 : List UInt8 := dkwJ0_init_2_2 ++ []
def dkwJ0_init_2_1 : List UInt8 := [21, 4, 153, 0, 11, 42, 182, 0, 27, 87, 167, 0, 8, 42, 1, 181, 0, 17, 42, 43, 181, 0, 31, 42]
abbrev dktJ0_init_2_1 : List UInt8 := dkwJ0_init_2_1 ++ dktJ0_init_2_2
def dkwJ0_init_2_0 : List UInt8 := [42, 183, 0, 1, 42, 42, 181, 0, 7, 42, 178, 0, 13, 181, 0, 17, 42, 178, 0, 20, 181, 0, 24]
abbrev dktJ0_init_2_0 : List UInt8 := dkwJ0_init_2_0 ++ dktJ0_init_2_1
theorem dksJ0_init_2_0 : cJ0_init_2.data.toList.drop 0 = dktJ0_init_2_0 := by decide +kernel
theorem dksJ0_init_2_1 : cJ0_init_2.data.toList.drop 23 = dktJ0_init_2_1 := dk_seg dksJ0_init_2_0 23 rfl rfl
theorem dksJ0_init_2_2 : cJ0_init_2.data.toList.drop 47 = dktJ0_init_2_2 := dk_seg dksJ0_init_2_1 24 rfl rfl
theorem dJ0_init_2_0 : decode cJ0_init_2 0 = .ok (.aload_n 0, 1) := dk_42 (dk_at dksJ0_init_2_0 0 rfl rfl)
theorem dJ0_init_2_1 : decode cJ0_init_2 1 = .ok (.invokespecial 1, 3) := dk_183 0 1 (dk_at dksJ0_init_2_0 1 rfl rfl)
theorem dJ0_init_2_4 : decode cJ0_init_2 4 = .ok (.aload_n 0, 1) := dk_42 (dk_at dksJ0_init_2_0 4 rfl rfl)
theorem dJ0_init_2_5 : decode cJ0_init_2 5 = .ok (.aload_n 0, 1) := dk_42 (dk_at dksJ0_init_2_0 5 rfl rfl)
theorem dJ0_init_2_6 : decode cJ0_init_2 6 = .ok (.putfield 7, 3) := dk_181 0 7 (dk_at dksJ0_init_2_0 6 rfl rfl)
theorem dJ0_init_2_9 : decode cJ0_init_2 9 = .ok (.aload_n 0, 1) := dk_42 (dk_at dksJ0_init_2_0 9 rfl rfl)
theorem dJ0_init_2_10 : decode cJ0_init_2 10 = .ok (.getstatic 13, 3) := dk_178 0 13 (dk_at dksJ0_init_2_0 10 rfl rfl)
theorem dJ0_init_2_13 : decode cJ0_init_2 13 = .ok (.putfield 17, 3) := dk_181 0 17 (dk_at dksJ0_init_2_0 13 rfl rfl)
theorem dJ0_init_2_16 : decode cJ0_init_2 16 = .ok (.aload_n 0, 1) := dk_42 (dk_at dksJ0_init_2_0 16 rfl rfl)
theorem dJ0_init_2_17 : decode cJ0_init_2 17 = .ok (.getstatic 20, 3) := dk_178 0 20 (dk_at dksJ0_init_2_0 17 rfl rfl)
theorem dJ0_init_2_20 : decode cJ0_init_2 20 = .ok (.putfield 24, 3) := dk_181 0 24 (dk_at dksJ0_init_2_0 20 rfl rfl)
theorem dJ0_init_2_23 : decode cJ0_init_2 23 = .ok (.iload 4, 2) := dk_21 4 (dk_at dksJ0_init_2_1 0 rfl rfl)
theorem dJ0_init_2_25 : decode cJ0_init_2 25 = .ok (.ifCond .eq 11, 3) := dk_153 0 11 (dk_at dksJ0_init_2_1 2 rfl rfl)
theorem dJ0_init_2_28 : decode cJ0_init_2 28 = .ok (.aload_n 0, 1) := dk_42 (dk_at dksJ0_init_2_1 5 rfl rfl)
theorem dJ0_init_2_29 : decode cJ0_init_2 29 = .ok (.invokevirtual 27, 3) := dk_182 0 27 (dk_at dksJ0_init_2_1 6 rfl rfl)
theorem dJ0_init_2_32 : decode cJ0_init_2 32 = .ok (.pop, 1) := dk_87 (dk_at dksJ0_init_2_1 9 rfl rfl)
theorem dJ0_init_2_33 : decode cJ0_init_2 33 = .ok (.goto 8, 3) := dk_167 0 8 (dk_at dksJ0_init_2_1 10 rfl rfl)
theorem dJ0_init_2_36 : decode cJ0_init_2 36 = .ok (.aload_n 0, 1) := dk_42 (dk_at dksJ0_init_2_1 13 rfl rfl)
theorem dJ0_init_2_37 : decode cJ0_init_2 37 = .ok (.aconst_null, 1) := dk_1 (dk_at dksJ0_init_2_1 14 rfl rfl)
theorem dJ0_init_2_38 : decode cJ0_init_2 38 = .ok (.putfield 17, 3) := dk_181 0 17 (dk_at dksJ0_init_2_1 15 rfl rfl)
theorem dJ0_init_2_41 : decode cJ0_init_2 41 = .ok (.aload_n 0, 1) := dk_42 (dk_at dksJ0_init_2_1 18 rfl rfl)
theorem dJ0_init_2_42 : decode cJ0_init_2 42 = .ok (.aload_n 1, 1) := dk_43 (dk_at dksJ0_init_2_1 19 rfl rfl)
theorem dJ0_init_2_43 : decode cJ0_init_2 43 = .ok (.putfield 31, 3) := dk_181 0 31 (dk_at dksJ0_init_2_1 20 rfl rfl)
theorem dJ0_init_2_46 : decode cJ0_init_2 46 = .ok (.aload_n 0, 1) := dk_42 (dk_at dksJ0_init_2_1 23 rfl rfl)
theorem dJ0_init_2_47 : decode cJ0_init_2 47 = .ok (.aload_n 2, 1) := dk_44 (dk_at dksJ0_init_2_2 0 rfl rfl)
theorem dJ0_init_2_48 : decode cJ0_init_2 48 = .ok (.putfield 7, 3) := dk_181 0 7 (dk_at dksJ0_init_2_2 1 rfl rfl)
theorem dJ0_init_2_51 : decode cJ0_init_2 51 = .ok (.iload_n 3, 1) := dk_29 (dk_at dksJ0_init_2_2 4 rfl rfl)
theorem dJ0_init_2_52 : decode cJ0_init_2 52 = .ok (.ifCond .ne 8, 3) := dk_154 0 8 (dk_at dksJ0_init_2_2 5 rfl rfl)
theorem dJ0_init_2_55 : decode cJ0_init_2 55 = .ok (.aload_n 0, 1) := dk_42 (dk_at dksJ0_init_2_2 8 rfl rfl)
theorem dJ0_init_2_56 : decode cJ0_init_2 56 = .ok (.aconst_null, 1) := dk_1 (dk_at dksJ0_init_2_2 9 rfl rfl)
theorem dJ0_init_2_57 : decode cJ0_init_2 57 = .ok (.putfield 24, 3) := dk_181 0 24 (dk_at dksJ0_init_2_2 10 rfl rfl)
theorem dJ0_init_2_60 : decode cJ0_init_2 60 = .ok (.return_, 1) := dk_177 (dk_at dksJ0_init_2_2 13 rfl rfl)
theorem q122 : (Jvm.Cond.initialized "java/lang/Throwable") ∈ lw_all := lw_g (lw_at lw_m1 5 rfl) rfl
theorem q228 : (Jvm.Cond.declares ({ cls := "java/lang/Throwable", name := "<init>", desc := "()V" } : Jvm.MethodName)) ∈ lw_tbl := lw_at lw_m1 111 rfl
theorem q229 : (Jvm.Cond.declares ({ cls := "java/lang/Throwable", name := "<init>", desc := "(Ljava/lang/String;)V" } : Jvm.MethodName)) ∈ lw_tbl := lw_at lw_m1 112 rfl
theorem q233 : (Jvm.Cond.lays "java/lang/Throwable" "java/lang/Throwable" "cause" "Ljava/lang/Throwable;") ∈ lw_all := lw_g (lw_at lw_m1 116 rfl) rfl
theorem q235 : (Jvm.Cond.lays "java/lang/Throwable" "java/lang/Throwable" "stackTrace" "[Ljava/lang/StackTraceElement;") ∈ lw_all := lw_g (lw_at lw_m1 118 rfl) rfl
theorem q237 : (Jvm.Cond.lays "java/lang/Throwable" "java/lang/Throwable" "suppressedExceptions" "Ljava/util/List;") ∈ lw_all := lw_g (lw_at lw_m1 120 rfl) rfl
theorem q239 : (Jvm.Cond.lays "java/lang/Throwable" "java/lang/Throwable" "detailMessage" "Ljava/lang/String;") ∈ lw_all := lw_g (lw_at lw_m1 122 rfl) rfl
theorem q241 : (Jvm.Cond.lays "java/lang/Throwable" "java/lang/Throwable" "backtrace" "Ljava/lang/Object;") ∈ lw_all := lw_g (lw_at lw_m1 124 rfl) rfl
theorem q242 : (Jvm.Cond.fieldLink "java/lang/Throwable" (198 : Nat) "java/lang/Throwable" "backtrace" "Ljava/lang/Object;") ∈ lw_all := lw_g (lw_at lw_m1 125 rfl) rfl
theorem q243 : (Jvm.Cond.superclass "java/lang/Throwable" "java/lang/Object") ∈ lw_all := lw_g (lw_at lw_m1 126 rfl) rfl
theorem q244 : (Jvm.Cond.instanceMethod ({ cls := "java/lang/Throwable", name := "<init>", desc := "()V" } : Jvm.MethodName)) ∈ lw_all := lw_g (lw_at lw_m1 127 rfl) rfl
theorem q245 : (Jvm.Cond.code ({ cls := "java/lang/Throwable", name := "<init>", desc := "()V" } : Jvm.MethodName) prog_24_method_1_code (1 : Nat) (Option.none : Option Jvm.ClassFile.FieldType)) ∈ lw_all := lw_g (lw_at lw_m1 128 rfl) rfl
theorem q246 : (Jvm.Cond.methodLink "java/lang/Throwable" (1 : Nat) ({ cls := "java/lang/Object", name := "<init>", desc := "()V" } : Jvm.MethodName)) ∈ lw_all := lw_g (lw_at lw_m1 129 rfl) rfl
theorem q247 : (Jvm.Cond.fieldLink "java/lang/Throwable" (13 : Nat) "java/lang/Throwable" "UNASSIGNED_STACK" "[Ljava/lang/StackTraceElement;") ∈ lw_all := lw_g (lw_at lw_m1 130 rfl) rfl
theorem q248 : (Jvm.Cond.laysStatic "java/lang/Throwable" "UNASSIGNED_STACK" "[Ljava/lang/StackTraceElement;") ∈ lw_tbl := lw_at lw_m1 131 rfl
theorem q249 : (Jvm.Cond.fieldLink "java/lang/Throwable" (20 : Nat) "java/lang/Throwable" "SUPPRESSED_SENTINEL" "Ljava/util/List;") ∈ lw_all := lw_g (lw_at lw_m1 132 rfl) rfl
theorem q250 : (Jvm.Cond.laysStatic "java/lang/Throwable" "SUPPRESSED_SENTINEL" "Ljava/util/List;") ∈ lw_tbl := lw_at lw_m1 133 rfl
theorem q251 : (Jvm.Cond.methodLink "java/lang/Throwable" (27 : Nat) ({ cls := "java/lang/Throwable", name := "fillInStackTrace", desc := "()Ljava/lang/Throwable;" } : Jvm.MethodName)) ∈ lw_all := lw_g (lw_at lw_m1 134 rfl) rfl
theorem q252 : (Jvm.Cond.instanceMethod ({ cls := "java/lang/Throwable", name := "fillInStackTrace", desc := "()Ljava/lang/Throwable;" } : Jvm.MethodName)) ∈ lw_all := lw_g (lw_at lw_m1 135 rfl) rfl
theorem q253 : (Jvm.Cond.sameMethod "java/lang/Throwable" "java/lang/Throwable" "fillInStackTrace" "()Ljava/lang/Throwable;") ∈ lw_all := lw_g (lw_at lw_m1 136 rfl) rfl
theorem q255 : (Jvm.Cond.codeSync ({ cls := "java/lang/Throwable", name := "fillInStackTrace", desc := "()Ljava/lang/Throwable;" } : Jvm.MethodName) prog_24_method_18_code (1 : Nat) (Option.some (Jvm.ClassFile.FieldType.object "java/lang/Throwable"))) ∈ lw_all := lw_g (lw_at lw_m1 138 rfl) rfl
theorem q256 : (Jvm.Cond.methodLink "java/lang/Throwable" (202 : Nat) ({ cls := "java/lang/Throwable", name := "fillInStackTrace", desc := "(I)Ljava/lang/Throwable;" } : Jvm.MethodName)) ∈ lw_all := lw_g (lw_at lw_m1 139 rfl) rfl
theorem q257 : (Jvm.Cond.privateMethod ({ cls := "java/lang/Throwable", name := "fillInStackTrace", desc := "(I)Ljava/lang/Throwable;" } : Jvm.MethodName)) ∈ lw_tbl := lw_at lw_m1 140 rfl
theorem q258 : (Jvm.Cond.instanceMethod ({ cls := "java/lang/Throwable", name := "fillInStackTrace", desc := "(I)Ljava/lang/Throwable;" } : Jvm.MethodName)) ∈ lw_all := lw_g (lw_at lw_m1 141 rfl) rfl
theorem q259 : (Jvm.Cond.instantiable "java/lang/Throwable" (6 : Nat)) ∈ lw_all := lw_g (lw_at lw_m1 142 rfl) rfl
theorem q260 : (Jvm.Cond.native ({ cls := "java/lang/Throwable", name := "fillInStackTrace", desc := "(I)Ljava/lang/Throwable;" } : Jvm.MethodName)) ∈ lw_all := lw_g (lw_at lw_m1 143 rfl) rfl
theorem q271 : (Jvm.Cond.instanceMethod ({ cls := "java/lang/Throwable", name := "<init>", desc := "(Ljava/lang/String;Ljava/lang/Throwable;ZZ)V" } : Jvm.MethodName)) ∈ lw_all := lw_g (lw_at lw_m1 154 rfl) rfl
theorem q272 : (Jvm.Cond.code ({ cls := "java/lang/Throwable", name := "<init>", desc := "(Ljava/lang/String;Ljava/lang/Throwable;ZZ)V" } : Jvm.MethodName) prog_24_method_5_code (5 : Nat) (Option.none : Option Jvm.ClassFile.FieldType)) ∈ lw_all := lw_g (lw_at lw_m1 155 rfl) rfl
theorem q277 : (Jvm.Cond.fieldLink "java/lang/Throwable" (198 : Nat) "java/lang/Throwable" "backtrace" "Ljava/lang/Object;") ∈ lw_all := lw_g (lw_at lw_m1 160 rfl) rfl
theorem q278 : (Jvm.Cond.fieldLink "java/lang/Throwable" (31 : Nat) "java/lang/Throwable" "detailMessage" "Ljava/lang/String;") ∈ lw_all := lw_g (lw_at lw_m1 161 rfl) rfl
theorem q279 : (Jvm.Cond.fieldLink "java/lang/Throwable" (7 : Nat) "java/lang/Throwable" "cause" "Ljava/lang/Throwable;") ∈ lw_all := lw_g (lw_at lw_m1 162 rfl) rfl
theorem q280 : (Jvm.Cond.fieldLink "java/lang/Throwable" (17 : Nat) "java/lang/Throwable" "stackTrace" "[Ljava/lang/StackTraceElement;") ∈ lw_all := lw_g (lw_at lw_m1 163 rfl) rfl
theorem q281 : (Jvm.Cond.fieldLink "java/lang/Throwable" (24 : Nat) "java/lang/Throwable" "suppressedExceptions" "Ljava/util/List;") ∈ lw_all := lw_g (lw_at lw_m1 164 rfl) rfl
theorem q286 : (Jvm.Cond.soleField "java/lang/Throwable" "backtrace") ∈ lw_all := lw_g (lw_at lw_m1 169 rfl) rfl
theorem q287 : (Jvm.Cond.soleField "java/lang/Throwable" "detailMessage") ∈ lw_all := lw_g (lw_at lw_m1 170 rfl) rfl
theorem q288 : (Jvm.Cond.soleField "java/lang/Throwable" "cause") ∈ lw_all := lw_g (lw_at lw_m1 171 rfl) rfl
theorem q289 : (Jvm.Cond.soleField "java/lang/Throwable" "stackTrace") ∈ lw_all := lw_g (lw_at lw_m1 172 rfl) rfl
theorem q291 : (Jvm.Cond.soleField "java/lang/Throwable" "depth") ∈ lw_all := lw_g (lw_at lw_m1 174 rfl) rfl
theorem q292 : (Jvm.Cond.soleField "java/lang/Throwable" "suppressedExceptions") ∈ lw_all := lw_g (lw_at lw_m1 175 rfl) rfl
theorem q1843 : (Jvm.Cond.sameMethod "java/lang/Throwable" "java/lang/Throwable" "fillInStackTrace" "(I)Ljava/lang/Throwable;") ∈ lw_all := lw_g (lw_at lw_m8 46 rfl) rfl
theorem q1855 : (Jvm.Cond.castable "java/lang/Throwable" "java/lang/Object") ∈ lw_tbl := lw_at lw_m8 58 rfl
theorem in_J0 : ∀ w ∈ wsJ00, w ∈ lw_all := lw_in wsJ00 [233, 235, 237, 239, 241] (by decide +kernel) (by decide +kernel)

/-! java/lang/Exception -/
set_option maxRecDepth 100000
def RJ1 : String := "java/lang/Exception"
abbrev cJ1_init : ByteArray := prog_15_method_5_code
def yJ1_init : MethodName := ⟨RJ1, "<init>", "(Ljava/lang/String;Ljava/lang/Throwable;ZZ)V"⟩
def dkwJ1_init_0 : List UInt8 := [42, 43, 44, 29, 21, 4, 183, 0, 16, 177]
abbrev dktJ1_init_0 : List UInt8 := dkwJ1_init_0 ++ []
theorem dksJ1_init_0 : cJ1_init.data.toList.drop 0 = dktJ1_init_0 := by decide +kernel
theorem dJ1_init_0 : decode cJ1_init 0 = .ok (.aload_n 0, 1) := dk_42 (dk_at dksJ1_init_0 0 rfl rfl)
theorem dJ1_init_1 : decode cJ1_init 1 = .ok (.aload_n 1, 1) := dk_43 (dk_at dksJ1_init_0 1 rfl rfl)
theorem dJ1_init_2 : decode cJ1_init 2 = .ok (.aload_n 2, 1) := dk_44 (dk_at dksJ1_init_0 2 rfl rfl)
theorem dJ1_init_3 : decode cJ1_init 3 = .ok (.iload_n 3, 1) := dk_29 (dk_at dksJ1_init_0 3 rfl rfl)
theorem dJ1_init_4 : decode cJ1_init 4 = .ok (.iload 4, 2) := dk_21 4 (dk_at dksJ1_init_0 4 rfl rfl)
theorem dJ1_init_6 : decode cJ1_init 6 = .ok (.invokespecial 16, 3) := dk_183 0 16 (dk_at dksJ1_init_0 6 rfl rfl)
theorem dJ1_init_9 : decode cJ1_init 9 = .ok (.return_, 1) := dk_177 (dk_at dksJ1_init_0 9 rfl rfl)
abbrev cJ1_init_2 : ByteArray := prog_15_method_1_code
def yJ1_init_2 : MethodName := ⟨RJ1, "<init>", "()V"⟩
theorem dJ1_init_2_0 : decode cJ1_init_2 0 = .ok (.aload_n 0, 1) := by decide +kernel
theorem dJ1_init_2_1 : decode cJ1_init_2 1 = .ok (.invokespecial 1, 3) := by decide +kernel
theorem dJ1_init_2_4 : decode cJ1_init_2 4 = .ok (.return_, 1) := by decide +kernel
theorem q123 : (Jvm.Cond.initialized "java/lang/Exception") ∈ lw_all := lw_g (lw_at lw_m1 6 rfl) rfl
theorem q226 : (Jvm.Cond.declares ({ cls := "java/lang/Exception", name := "<init>", desc := "()V" } : Jvm.MethodName)) ∈ lw_tbl := lw_at lw_m1 109 rfl
theorem q227 : (Jvm.Cond.declares ({ cls := "java/lang/Exception", name := "<init>", desc := "(Ljava/lang/String;)V" } : Jvm.MethodName)) ∈ lw_tbl := lw_at lw_m1 110 rfl
theorem q268 : (Jvm.Cond.instanceMethod ({ cls := "java/lang/Exception", name := "<init>", desc := "(Ljava/lang/String;Ljava/lang/Throwable;ZZ)V" } : Jvm.MethodName)) ∈ lw_all := lw_g (lw_at lw_m1 151 rfl) rfl
theorem q269 : (Jvm.Cond.code ({ cls := "java/lang/Exception", name := "<init>", desc := "(Ljava/lang/String;Ljava/lang/Throwable;ZZ)V" } : Jvm.MethodName) prog_15_method_5_code (5 : Nat) (Option.none : Option Jvm.ClassFile.FieldType)) ∈ lw_all := lw_g (lw_at lw_m1 152 rfl) rfl
theorem q270 : (Jvm.Cond.methodLink "java/lang/Exception" (16 : Nat) ({ cls := "java/lang/Throwable", name := "<init>", desc := "(Ljava/lang/String;Ljava/lang/Throwable;ZZ)V" } : Jvm.MethodName)) ∈ lw_all := lw_g (lw_at lw_m1 153 rfl) rfl
theorem q1197 : (Jvm.Cond.instanceMethod ({ cls := "java/lang/Exception", name := "<init>", desc := "()V" } : Jvm.MethodName)) ∈ lw_all := lw_g (lw_at lw_m5 120 rfl) rfl
theorem q1198 : (Jvm.Cond.code ({ cls := "java/lang/Exception", name := "<init>", desc := "()V" } : Jvm.MethodName) prog_15_method_1_code (1 : Nat) (Option.none : Option Jvm.ClassFile.FieldType)) ∈ lw_all := lw_g (lw_at lw_m5 121 rfl) rfl
theorem q1199 : (Jvm.Cond.methodLink "java/lang/Exception" (1 : Nat) ({ cls := "java/lang/Throwable", name := "<init>", desc := "()V" } : Jvm.MethodName)) ∈ lw_all := lw_g (lw_at lw_m5 122 rfl) rfl

/-! java/lang/RuntimeException -/
set_option maxRecDepth 100000
def RJ2 : String := "java/lang/RuntimeException"
abbrev cJ2_init : ByteArray := prog_18_method_5_code
def yJ2_init : MethodName := ⟨RJ2, "<init>", "(Ljava/lang/String;Ljava/lang/Throwable;ZZ)V"⟩
def dkwJ2_init_0 : List UInt8 := [42, 43, 44, 29, 21, 4, 183, 0, 16, 177]
abbrev dktJ2_init_0 : List UInt8 := dkwJ2_init_0 ++ []
theorem dksJ2_init_0 : cJ2_init.data.toList.drop 0 = dktJ2_init_0 := by decide +kernel
theorem dJ2_init_0 : decode cJ2_init 0 = .ok (.aload_n 0, 1) := dk_42 (dk_at dksJ2_init_0 0 rfl rfl)
theorem dJ2_init_1 : decode cJ2_init 1 = .ok (.aload_n 1, 1) := dk_43 (dk_at dksJ2_init_0 1 rfl rfl)
theorem dJ2_init_2 : decode cJ2_init 2 = .ok (.aload_n 2, 1) := dk_44 (dk_at dksJ2_init_0 2 rfl rfl)
theorem dJ2_init_3 : decode cJ2_init 3 = .ok (.iload_n 3, 1) := dk_29 (dk_at dksJ2_init_0 3 rfl rfl)
theorem dJ2_init_4 : decode cJ2_init 4 = .ok (.iload 4, 2) := dk_21 4 (dk_at dksJ2_init_0 4 rfl rfl)
theorem dJ2_init_6 : decode cJ2_init 6 = .ok (.invokespecial 16, 3) := dk_183 0 16 (dk_at dksJ2_init_0 6 rfl rfl)
theorem dJ2_init_9 : decode cJ2_init 9 = .ok (.return_, 1) := dk_177 (dk_at dksJ2_init_0 9 rfl rfl)
abbrev cJ2_init_2 : ByteArray := prog_18_method_1_code
def yJ2_init_2 : MethodName := ⟨RJ2, "<init>", "()V"⟩
theorem dJ2_init_2_0 : decode cJ2_init_2 0 = .ok (.aload_n 0, 1) := by decide +kernel
theorem dJ2_init_2_1 : decode cJ2_init_2 1 = .ok (.invokespecial 1, 3) := by decide +kernel
theorem dJ2_init_2_4 : decode cJ2_init_2 4 = .ok (.return_, 1) := by decide +kernel
theorem q124 : (Jvm.Cond.initialized "java/lang/RuntimeException") ∈ lw_all := lw_g (lw_at lw_m1 7 rfl) rfl
theorem q224 : (Jvm.Cond.declares ({ cls := "java/lang/RuntimeException", name := "<init>", desc := "()V" } : Jvm.MethodName)) ∈ lw_tbl := lw_at lw_m1 107 rfl
theorem q225 : (Jvm.Cond.declares ({ cls := "java/lang/RuntimeException", name := "<init>", desc := "(Ljava/lang/String;)V" } : Jvm.MethodName)) ∈ lw_tbl := lw_at lw_m1 108 rfl
theorem q265 : (Jvm.Cond.instanceMethod ({ cls := "java/lang/RuntimeException", name := "<init>", desc := "(Ljava/lang/String;Ljava/lang/Throwable;ZZ)V" } : Jvm.MethodName)) ∈ lw_all := lw_g (lw_at lw_m1 148 rfl) rfl
theorem q266 : (Jvm.Cond.code ({ cls := "java/lang/RuntimeException", name := "<init>", desc := "(Ljava/lang/String;Ljava/lang/Throwable;ZZ)V" } : Jvm.MethodName) prog_18_method_5_code (5 : Nat) (Option.none : Option Jvm.ClassFile.FieldType)) ∈ lw_all := lw_g (lw_at lw_m1 149 rfl) rfl
theorem q267 : (Jvm.Cond.methodLink "java/lang/RuntimeException" (16 : Nat) ({ cls := "java/lang/Exception", name := "<init>", desc := "(Ljava/lang/String;Ljava/lang/Throwable;ZZ)V" } : Jvm.MethodName)) ∈ lw_all := lw_g (lw_at lw_m1 150 rfl) rfl
theorem q1194 : (Jvm.Cond.instanceMethod ({ cls := "java/lang/RuntimeException", name := "<init>", desc := "()V" } : Jvm.MethodName)) ∈ lw_all := lw_g (lw_at lw_m5 117 rfl) rfl
theorem q1195 : (Jvm.Cond.code ({ cls := "java/lang/RuntimeException", name := "<init>", desc := "()V" } : Jvm.MethodName) prog_18_method_1_code (1 : Nat) (Option.none : Option Jvm.ClassFile.FieldType)) ∈ lw_all := lw_g (lw_at lw_m5 118 rfl) rfl
theorem q1196 : (Jvm.Cond.methodLink "java/lang/RuntimeException" (1 : Nat) ({ cls := "java/lang/Exception", name := "<init>", desc := "()V" } : Jvm.MethodName)) ∈ lw_all := lw_g (lw_at lw_m5 119 rfl) rfl

/-! java/util/Arrays -/
set_option maxRecDepth 100000
def RJ3 : String := "java/util/Arrays"
abbrev cJ3_fill : ByteArray := prog_27_method_117_code
def yJ3_fill : MethodName := ⟨RJ3, "fill", "([Ljava/lang/Object;Ljava/lang/Object;)V"⟩
def dkwJ3_fill_0 : List UInt8 := [3, 61, 42, 190, 62, 28, 29, 162, 0, 13, 42, 28, 43, 83, 132, 2, 1, 167, 255, 244, 177]
abbrev dktJ3_fill_0 : List UInt8 := dkwJ3_fill_0 ++ []
theorem dksJ3_fill_0 : cJ3_fill.data.toList.drop 0 = dktJ3_fill_0 := by decide +kernel
theorem dJ3_fill_0 : decode cJ3_fill 0 = .ok (.iconst 0, 1) := dk_3 (dk_at dksJ3_fill_0 0 rfl rfl)
theorem dJ3_fill_1 : decode cJ3_fill 1 = .ok (.istore_n 2, 1) := dk_61 (dk_at dksJ3_fill_0 1 rfl rfl)
theorem dJ3_fill_2 : decode cJ3_fill 2 = .ok (.aload_n 0, 1) := dk_42 (dk_at dksJ3_fill_0 2 rfl rfl)
theorem dJ3_fill_3 : decode cJ3_fill 3 = .ok (.arraylength, 1) := dk_190 (dk_at dksJ3_fill_0 3 rfl rfl)
theorem dJ3_fill_4 : decode cJ3_fill 4 = .ok (.istore_n 3, 1) := dk_62 (dk_at dksJ3_fill_0 4 rfl rfl)
theorem dJ3_fill_5 : decode cJ3_fill 5 = .ok (.iload_n 2, 1) := dk_28 (dk_at dksJ3_fill_0 5 rfl rfl)
theorem dJ3_fill_6 : decode cJ3_fill 6 = .ok (.iload_n 3, 1) := dk_29 (dk_at dksJ3_fill_0 6 rfl rfl)
theorem dJ3_fill_7 : decode cJ3_fill 7 = .ok (.if_icmp .ge 13, 3) := dk_162 0 13 (dk_at dksJ3_fill_0 7 rfl rfl)
theorem dJ3_fill_10 : decode cJ3_fill 10 = .ok (.aload_n 0, 1) := dk_42 (dk_at dksJ3_fill_0 10 rfl rfl)
theorem dJ3_fill_11 : decode cJ3_fill 11 = .ok (.iload_n 2, 1) := dk_28 (dk_at dksJ3_fill_0 11 rfl rfl)
theorem dJ3_fill_12 : decode cJ3_fill 12 = .ok (.aload_n 1, 1) := dk_43 (dk_at dksJ3_fill_0 12 rfl rfl)
theorem dJ3_fill_13 : decode cJ3_fill 13 = .ok (.aastore, 1) := dk_83 (dk_at dksJ3_fill_0 13 rfl rfl)
theorem dJ3_fill_14 : decode cJ3_fill 14 = .ok (.iinc 2 1, 3) := dk_132 2 1 (dk_at dksJ3_fill_0 14 rfl rfl)
theorem dJ3_fill_17 : decode cJ3_fill 17 = .ok (.goto (-12), 3) := dk_167 255 244 (dk_at dksJ3_fill_0 17 rfl rfl)
theorem dJ3_fill_20 : decode cJ3_fill 20 = .ok (.return_, 1) := dk_177 (dk_at dksJ3_fill_0 20 rfl rfl)
abbrev cJ3_fill_2 : ByteArray := prog_27_method_103_code
def yJ3_fill_2 : MethodName := ⟨RJ3, "fill", "([II)V"⟩
def dkwJ3_fill_2_0 : List UInt8 := [3, 61, 42, 190, 62, 28, 29, 162, 0, 13, 42, 28, 27, 79, 132, 2, 1, 167, 255, 244, 177]
abbrev dktJ3_fill_2_0 : List UInt8 := dkwJ3_fill_2_0 ++ []
theorem dksJ3_fill_2_0 : cJ3_fill_2.data.toList.drop 0 = dktJ3_fill_2_0 := by decide +kernel
theorem dJ3_fill_2_0 : decode cJ3_fill_2 0 = .ok (.iconst 0, 1) := dk_3 (dk_at dksJ3_fill_2_0 0 rfl rfl)
theorem dJ3_fill_2_1 : decode cJ3_fill_2 1 = .ok (.istore_n 2, 1) := dk_61 (dk_at dksJ3_fill_2_0 1 rfl rfl)
theorem dJ3_fill_2_2 : decode cJ3_fill_2 2 = .ok (.aload_n 0, 1) := dk_42 (dk_at dksJ3_fill_2_0 2 rfl rfl)
theorem dJ3_fill_2_3 : decode cJ3_fill_2 3 = .ok (.arraylength, 1) := dk_190 (dk_at dksJ3_fill_2_0 3 rfl rfl)
theorem dJ3_fill_2_4 : decode cJ3_fill_2 4 = .ok (.istore_n 3, 1) := dk_62 (dk_at dksJ3_fill_2_0 4 rfl rfl)
theorem dJ3_fill_2_5 : decode cJ3_fill_2 5 = .ok (.iload_n 2, 1) := dk_28 (dk_at dksJ3_fill_2_0 5 rfl rfl)
theorem dJ3_fill_2_6 : decode cJ3_fill_2 6 = .ok (.iload_n 3, 1) := dk_29 (dk_at dksJ3_fill_2_0 6 rfl rfl)
theorem dJ3_fill_2_7 : decode cJ3_fill_2 7 = .ok (.if_icmp .ge 13, 3) := dk_162 0 13 (dk_at dksJ3_fill_2_0 7 rfl rfl)
theorem dJ3_fill_2_10 : decode cJ3_fill_2 10 = .ok (.aload_n 0, 1) := dk_42 (dk_at dksJ3_fill_2_0 10 rfl rfl)
theorem dJ3_fill_2_11 : decode cJ3_fill_2 11 = .ok (.iload_n 2, 1) := dk_28 (dk_at dksJ3_fill_2_0 11 rfl rfl)
theorem dJ3_fill_2_12 : decode cJ3_fill_2 12 = .ok (.iload_n 1, 1) := dk_27 (dk_at dksJ3_fill_2_0 12 rfl rfl)
theorem dJ3_fill_2_13 : decode cJ3_fill_2 13 = .ok (.iastore, 1) := dk_79 (dk_at dksJ3_fill_2_0 13 rfl rfl)
theorem dJ3_fill_2_14 : decode cJ3_fill_2 14 = .ok (.iinc 2 1, 3) := dk_132 2 1 (dk_at dksJ3_fill_2_0 14 rfl rfl)
theorem dJ3_fill_2_17 : decode cJ3_fill_2 17 = .ok (.goto (-12), 3) := dk_167 255 244 (dk_at dksJ3_fill_2_0 17 rfl rfl)
theorem dJ3_fill_2_20 : decode cJ3_fill_2 20 = .ok (.return_, 1) := dk_177 (dk_at dksJ3_fill_2_0 20 rfl rfl)
abbrev cJ3_copyOf : ByteArray := prog_27_method_123_code
def yJ3_copyOf : MethodName := ⟨RJ3, "copyOf", "([II)[I"⟩
def dkwJ3_copyOf_1 : List UInt8 := [27, 184, 1, 48, 184, 0, 150, 44, 176]
abbrev dktJ3_copyOf_1 : List UInt8 := dkwJ3_copyOf_1 ++ []
def dkwJ3_copyOf_0 : List UInt8 := [27, 42, 190, 160, 0, 11, 42, 182, 1, 60, 192, 1, 61, 176, 27, 188, 10, 77, 42, 3, 44, 3, 42, 190]
abbrev dktJ3_copyOf_0 : List UInt8 := dkwJ3_copyOf_0 ++ dktJ3_copyOf_1
theorem dksJ3_copyOf_0 : cJ3_copyOf.data.toList.drop 0 = dktJ3_copyOf_0 := by decide +kernel
theorem dksJ3_copyOf_1 : cJ3_copyOf.data.toList.drop 24 = dktJ3_copyOf_1 := dk_seg dksJ3_copyOf_0 24 rfl rfl
theorem dJ3_copyOf_0 : decode cJ3_copyOf 0 = .ok (.iload_n 1, 1) := dk_27 (dk_at dksJ3_copyOf_0 0 rfl rfl)
theorem dJ3_copyOf_1 : decode cJ3_copyOf 1 = .ok (.aload_n 0, 1) := dk_42 (dk_at dksJ3_copyOf_0 1 rfl rfl)
theorem dJ3_copyOf_2 : decode cJ3_copyOf 2 = .ok (.arraylength, 1) := dk_190 (dk_at dksJ3_copyOf_0 2 rfl rfl)
theorem dJ3_copyOf_3 : decode cJ3_copyOf 3 = .ok (.if_icmp .ne 11, 3) := dk_160 0 11 (dk_at dksJ3_copyOf_0 3 rfl rfl)
theorem dJ3_copyOf_6 : decode cJ3_copyOf 6 = .ok (.aload_n 0, 1) := dk_42 (dk_at dksJ3_copyOf_0 6 rfl rfl)
theorem dJ3_copyOf_7 : decode cJ3_copyOf 7 = .ok (.invokevirtual 316, 3) := dk_182 1 60 (dk_at dksJ3_copyOf_0 7 rfl rfl)
theorem dJ3_copyOf_10 : decode cJ3_copyOf 10 = .ok (.checkcast 317, 3) := dk_192 1 61 (dk_at dksJ3_copyOf_0 10 rfl rfl)
theorem dJ3_copyOf_13 : decode cJ3_copyOf 13 = .ok (.areturn, 1) := dk_176 (dk_at dksJ3_copyOf_0 13 rfl rfl)
theorem dJ3_copyOf_14 : decode cJ3_copyOf 14 = .ok (.iload_n 1, 1) := dk_27 (dk_at dksJ3_copyOf_0 14 rfl rfl)
theorem dJ3_copyOf_15 : decode cJ3_copyOf 15 = .ok (.newarray .int, 2) := dk_188_10 (dk_at dksJ3_copyOf_0 15 rfl rfl)
theorem dJ3_copyOf_17 : decode cJ3_copyOf 17 = .ok (.astore_n 2, 1) := dk_77 (dk_at dksJ3_copyOf_0 17 rfl rfl)
theorem dJ3_copyOf_18 : decode cJ3_copyOf 18 = .ok (.aload_n 0, 1) := dk_42 (dk_at dksJ3_copyOf_0 18 rfl rfl)
theorem dJ3_copyOf_19 : decode cJ3_copyOf 19 = .ok (.iconst 0, 1) := dk_3 (dk_at dksJ3_copyOf_0 19 rfl rfl)
theorem dJ3_copyOf_20 : decode cJ3_copyOf 20 = .ok (.aload_n 2, 1) := dk_44 (dk_at dksJ3_copyOf_0 20 rfl rfl)
theorem dJ3_copyOf_21 : decode cJ3_copyOf 21 = .ok (.iconst 0, 1) := dk_3 (dk_at dksJ3_copyOf_0 21 rfl rfl)
theorem dJ3_copyOf_22 : decode cJ3_copyOf 22 = .ok (.aload_n 0, 1) := dk_42 (dk_at dksJ3_copyOf_0 22 rfl rfl)
theorem dJ3_copyOf_23 : decode cJ3_copyOf 23 = .ok (.arraylength, 1) := dk_190 (dk_at dksJ3_copyOf_0 23 rfl rfl)
theorem dJ3_copyOf_24 : decode cJ3_copyOf 24 = .ok (.iload_n 1, 1) := dk_27 (dk_at dksJ3_copyOf_1 0 rfl rfl)
theorem dJ3_copyOf_25 : decode cJ3_copyOf 25 = .ok (.invokestatic 304, 3) := dk_184 1 48 (dk_at dksJ3_copyOf_1 1 rfl rfl)
theorem dJ3_copyOf_28 : decode cJ3_copyOf 28 = .ok (.invokestatic 150, 3) := dk_184 0 150 (dk_at dksJ3_copyOf_1 4 rfl rfl)
theorem dJ3_copyOf_31 : decode cJ3_copyOf 31 = .ok (.aload_n 2, 1) := dk_44 (dk_at dksJ3_copyOf_1 7 rfl rfl)
theorem dJ3_copyOf_32 : decode cJ3_copyOf 32 = .ok (.areturn, 1) := dk_176 (dk_at dksJ3_copyOf_1 8 rfl rfl)
theorem q127 : (Jvm.Cond.initialized "java/util/Arrays") ∈ lw_all := lw_g (lw_at lw_m1 10 rfl) rfl
theorem q381 : (Jvm.Cond.static ({ cls := "java/util/Arrays", name := "fill", desc := "([Ljava/lang/Object;Ljava/lang/Object;)V" } : Jvm.MethodName)) ∈ lw_all := lw_g (lw_at lw_m2 24 rfl) rfl
theorem q382 : (Jvm.Cond.code ({ cls := "java/util/Arrays", name := "fill", desc := "([Ljava/lang/Object;Ljava/lang/Object;)V" } : Jvm.MethodName) prog_27_method_117_code (4 : Nat) (Option.none : Option Jvm.ClassFile.FieldType)) ∈ lw_all := lw_g (lw_at lw_m2 25 rfl) rfl
theorem q742 : (Jvm.Cond.static ({ cls := "java/util/Arrays", name := "fill", desc := "([II)V" } : Jvm.MethodName)) ∈ lw_all := lw_g (lw_at lw_m3 145 rfl) rfl
theorem q743 : (Jvm.Cond.code ({ cls := "java/util/Arrays", name := "fill", desc := "([II)V" } : Jvm.MethodName) prog_27_method_103_code (4 : Nat) (Option.none : Option Jvm.ClassFile.FieldType)) ∈ lw_all := lw_g (lw_at lw_m3 146 rfl) rfl
theorem q977 : (Jvm.Cond.static ({ cls := "java/util/Arrays", name := "copyOf", desc := "([II)[I" } : Jvm.MethodName)) ∈ lw_all := lw_g (lw_at lw_m4 140 rfl) rfl
theorem q978 : (Jvm.Cond.code ({ cls := "java/util/Arrays", name := "copyOf", desc := "([II)[I" } : Jvm.MethodName) prog_27_method_123_code (3 : Nat) (Option.some (Jvm.ClassFile.FieldType.array Jvm.ClassFile.FieldType.int))) ∈ lw_all := lw_g (lw_at lw_m4 141 rfl) rfl
theorem q979 : (Jvm.Cond.methodLink "java/util/Arrays" (316 : Nat) ({ cls := "[I", name := "clone", desc := "()Ljava/lang/Object;" } : Jvm.MethodName)) ∈ lw_all := lw_g (lw_at lw_m4 142 rfl) rfl
theorem q985 : (Jvm.Cond.classLink "java/util/Arrays" (317 : Nat) "[I") ∈ lw_all := lw_g (lw_at lw_m4 148 rfl) rfl
theorem q986 : (Jvm.Cond.methodLink "java/util/Arrays" (304 : Nat) ({ cls := "java/lang/Math", name := "min", desc := "(II)I" } : Jvm.MethodName)) ∈ lw_all := lw_g (lw_at lw_m4 149 rfl) rfl
theorem q989 : (Jvm.Cond.methodLink "java/util/Arrays" (150 : Nat) ({ cls := "java/lang/System", name := "arraycopy", desc := "(Ljava/lang/Object;ILjava/lang/Object;II)V" } : Jvm.MethodName)) ∈ lw_all := lw_g (lw_at lw_m4 152 rfl) rfl

/-! java/lang/String -/
set_option maxRecDepth 100000
def RJ4 : String := "java/lang/String"
def TJ4 : u_T := fun k => match k with
  | 0 => ("java/lang/String", "value", "[B", true)
  | 1 => ("java/lang/String", "coder", "B", true)
  | 2 => ("java/lang/String", "hash", "I", false)
  | _ => ("java/lang/String", "hashIsZero", "Z", false)
def tyJ4 : Nat → FieldType := fun k => match k with
  | 0 => .array .byte
  | 1 => .byte
  | 2 => .int
  | _ => .boolean
abbrev wsJ40 : List Cond := u_ws RJ4 TJ4 4
theorem nmJ4 : ∀ a, a < 4 → ∀ b, b < 4 → a ≠ b → (TJ4 a).2.1 ≠ (TJ4 b).2.1 := by decide +kernel
theorem tyJ4_ok : ∀ k, k < 4 → parseFieldDescriptor (TJ4 k).2.2.1 = some (tyJ4 k) := by decide +kernel
abbrev cJ4_init : ByteArray := prog_19_method_4_code
def yJ4_init : MethodName := ⟨RJ4, "<init>", "([CII)V"⟩
def dkwJ4_init_0 : List UInt8 := [42, 43, 28, 29, 43, 28, 29, 184, 0, 30, 183, 0, 27, 177]
abbrev dktJ4_init_0 : List UInt8 := dkwJ4_init_0 ++ []
theorem dksJ4_init_0 : cJ4_init.data.toList.drop 0 = dktJ4_init_0 := by decide +kernel
theorem dJ4_init_0 : decode cJ4_init 0 = .ok (.aload_n 0, 1) := dk_42 (dk_at dksJ4_init_0 0 rfl rfl)
theorem dJ4_init_1 : decode cJ4_init 1 = .ok (.aload_n 1, 1) := dk_43 (dk_at dksJ4_init_0 1 rfl rfl)
theorem dJ4_init_2 : decode cJ4_init 2 = .ok (.iload_n 2, 1) := dk_28 (dk_at dksJ4_init_0 2 rfl rfl)
theorem dJ4_init_3 : decode cJ4_init 3 = .ok (.iload_n 3, 1) := dk_29 (dk_at dksJ4_init_0 3 rfl rfl)
theorem dJ4_init_4 : decode cJ4_init 4 = .ok (.aload_n 1, 1) := dk_43 (dk_at dksJ4_init_0 4 rfl rfl)
theorem dJ4_init_5 : decode cJ4_init 5 = .ok (.iload_n 2, 1) := dk_28 (dk_at dksJ4_init_0 5 rfl rfl)
theorem dJ4_init_6 : decode cJ4_init 6 = .ok (.iload_n 3, 1) := dk_29 (dk_at dksJ4_init_0 6 rfl rfl)
theorem dJ4_init_7 : decode cJ4_init 7 = .ok (.invokestatic 30, 3) := dk_184 0 30 (dk_at dksJ4_init_0 7 rfl rfl)
theorem dJ4_init_10 : decode cJ4_init 10 = .ok (.invokespecial 27, 3) := dk_183 0 27 (dk_at dksJ4_init_0 10 rfl rfl)
theorem dJ4_init_13 : decode cJ4_init 13 = .ok (.return_, 1) := dk_177 (dk_at dksJ4_init_0 13 rfl rfl)
abbrev cJ4_rangeCheck : ByteArray := prog_19_method_5_code
def yJ4_rangeCheck : MethodName := ⟨RJ4, "rangeCheck", "([CII)Ljava/lang/Void;"⟩
def dkwJ4_rangeCheck_0 : List UInt8 := [27, 28, 42, 190, 184, 0, 34, 87, 1, 176]
abbrev dktJ4_rangeCheck_0 : List UInt8 := dkwJ4_rangeCheck_0 ++ []
theorem dksJ4_rangeCheck_0 : cJ4_rangeCheck.data.toList.drop 0 = dktJ4_rangeCheck_0 := by decide +kernel
theorem dJ4_rangeCheck_0 : decode cJ4_rangeCheck 0 = .ok (.iload_n 1, 1) := dk_27 (dk_at dksJ4_rangeCheck_0 0 rfl rfl)
theorem dJ4_rangeCheck_1 : decode cJ4_rangeCheck 1 = .ok (.iload_n 2, 1) := dk_28 (dk_at dksJ4_rangeCheck_0 1 rfl rfl)
theorem dJ4_rangeCheck_2 : decode cJ4_rangeCheck 2 = .ok (.aload_n 0, 1) := dk_42 (dk_at dksJ4_rangeCheck_0 2 rfl rfl)
theorem dJ4_rangeCheck_3 : decode cJ4_rangeCheck 3 = .ok (.arraylength, 1) := dk_190 (dk_at dksJ4_rangeCheck_0 3 rfl rfl)
theorem dJ4_rangeCheck_4 : decode cJ4_rangeCheck 4 = .ok (.invokestatic 34, 3) := dk_184 0 34 (dk_at dksJ4_rangeCheck_0 4 rfl rfl)
theorem dJ4_rangeCheck_7 : decode cJ4_rangeCheck 7 = .ok (.pop, 1) := dk_87 (dk_at dksJ4_rangeCheck_0 7 rfl rfl)
theorem dJ4_rangeCheck_8 : decode cJ4_rangeCheck 8 = .ok (.aconst_null, 1) := dk_1 (dk_at dksJ4_rangeCheck_0 8 rfl rfl)
theorem dJ4_rangeCheck_9 : decode cJ4_rangeCheck 9 = .ok (.areturn, 1) := dk_176 (dk_at dksJ4_rangeCheck_0 9 rfl rfl)
abbrev cJ4_checkBoundsOffCount : ByteArray := prog_19_method_157_code
def yJ4_checkBoundsOffCount : MethodName := ⟨RJ4, "checkBoundsOffCount", "(III)I"⟩
def dkwJ4_checkBoundsOffCount_0 : List UInt8 := [26, 27, 28, 178, 4, 29, 184, 4, 41, 172]
abbrev dktJ4_checkBoundsOffCount_0 : List UInt8 := dkwJ4_checkBoundsOffCount_0 ++ []
theorem dksJ4_checkBoundsOffCount_0 : cJ4_checkBoundsOffCount.data.toList.drop 0 = dktJ4_checkBoundsOffCount_0 := by decide +kernel
theorem dJ4_checkBoundsOffCount_0 : decode cJ4_checkBoundsOffCount 0 = .ok (.iload_n 0, 1) := dk_26 (dk_at dksJ4_checkBoundsOffCount_0 0 rfl rfl)
theorem dJ4_checkBoundsOffCount_1 : decode cJ4_checkBoundsOffCount 1 = .ok (.iload_n 1, 1) := dk_27 (dk_at dksJ4_checkBoundsOffCount_0 1 rfl rfl)
theorem dJ4_checkBoundsOffCount_2 : decode cJ4_checkBoundsOffCount 2 = .ok (.iload_n 2, 1) := dk_28 (dk_at dksJ4_checkBoundsOffCount_0 2 rfl rfl)
theorem dJ4_checkBoundsOffCount_3 : decode cJ4_checkBoundsOffCount 3 = .ok (.getstatic 1053, 3) := dk_178 4 29 (dk_at dksJ4_checkBoundsOffCount_0 3 rfl rfl)
theorem dJ4_checkBoundsOffCount_6 : decode cJ4_checkBoundsOffCount 6 = .ok (.invokestatic 1065, 3) := dk_184 4 41 (dk_at dksJ4_checkBoundsOffCount_0 6 rfl rfl)
theorem dJ4_checkBoundsOffCount_9 : decode cJ4_checkBoundsOffCount 9 = .ok (.ireturn, 1) := dk_172 (dk_at dksJ4_checkBoundsOffCount_0 9 rfl rfl)
abbrev cJ4_init_2 : ByteArray := prog_19_method_149_code
def yJ4_init_2 : MethodName := ⟨RJ4, "<init>", "([CIILjava/lang/Void;)V"⟩
def dkwJ4_init_2_3 : List UInt8 := [184, 0, 180, 181, 0, 9, 177]
abbrev dktJ4_init_2_3 : List UInt8 := dkwJ4_init_2_3 ++ []
def dkwJ4_init_2_2 : List UInt8 := [184, 0, 47, 181, 0, 15, 42, 25, 5, 181, 0, 9, 177, 42, 4, 181, 0, 15, 42, 43, 28, 29]
abbrev dktJ4_init_2_2 : List UInt8 := dkwJ4_init_2_2 ++ dktJ4_init_2_3
def dkwJ4_init_2_1 : List UInt8 := [181, 0, 15, 177, 178, 0, 38, 153, 0, 28, 43, 28, 29, 184, 0, 177, 58, 5, 42, 25, 5, 29]
abbrev dktJ4_init_2_1 : List UInt8 := dkwJ4_init_2_1 ++ dktJ4_init_2_2
def dkwJ4_init_2_0 : List UInt8 := [42, 183, 0, 1, 29, 154, 0, 22, 42, 18, 7, 180, 0, 9, 181, 0, 9, 42, 18, 7, 180, 0, 15]
abbrev dktJ4_init_2_0 : List UInt8 := dkwJ4_init_2_0 ++ dktJ4_init_2_1
theorem dksJ4_init_2_0 : cJ4_init_2.data.toList.drop 0 = dktJ4_init_2_0 := by decide +kernel
theorem dksJ4_init_2_1 : cJ4_init_2.data.toList.drop 23 = dktJ4_init_2_1 := dk_seg dksJ4_init_2_0 23 rfl rfl
theorem dksJ4_init_2_2 : cJ4_init_2.data.toList.drop 45 = dktJ4_init_2_2 := dk_seg dksJ4_init_2_1 22 rfl rfl
theorem dksJ4_init_2_3 : cJ4_init_2.data.toList.drop 67 = dktJ4_init_2_3 := dk_seg dksJ4_init_2_2 22 rfl rfl
theorem dJ4_init_2_0 : decode cJ4_init_2 0 = .ok (.aload_n 0, 1) := dk_42 (dk_at dksJ4_init_2_0 0 rfl rfl)
theorem dJ4_init_2_1 : decode cJ4_init_2 1 = .ok (.invokespecial 1, 3) := dk_183 0 1 (dk_at dksJ4_init_2_0 1 rfl rfl)
theorem dJ4_init_2_4 : decode cJ4_init_2 4 = .ok (.iload_n 3, 1) := dk_29 (dk_at dksJ4_init_2_0 4 rfl rfl)
theorem dJ4_init_2_5 : decode cJ4_init_2 5 = .ok (.ifCond .ne 22, 3) := dk_154 0 22 (dk_at dksJ4_init_2_0 5 rfl rfl)
theorem dJ4_init_2_8 : decode cJ4_init_2 8 = .ok (.aload_n 0, 1) := dk_42 (dk_at dksJ4_init_2_0 8 rfl rfl)
theorem dJ4_init_2_9 : decode cJ4_init_2 9 = .ok (.ldc 7, 2) := dk_18 7 (dk_at dksJ4_init_2_0 9 rfl rfl)
theorem dJ4_init_2_11 : decode cJ4_init_2 11 = .ok (.getfield 9, 3) := dk_180 0 9 (dk_at dksJ4_init_2_0 11 rfl rfl)
theorem dJ4_init_2_14 : decode cJ4_init_2 14 = .ok (.putfield 9, 3) := dk_181 0 9 (dk_at dksJ4_init_2_0 14 rfl rfl)
theorem dJ4_init_2_17 : decode cJ4_init_2 17 = .ok (.aload_n 0, 1) := dk_42 (dk_at dksJ4_init_2_0 17 rfl rfl)
theorem dJ4_init_2_18 : decode cJ4_init_2 18 = .ok (.ldc 7, 2) := dk_18 7 (dk_at dksJ4_init_2_0 18 rfl rfl)
theorem dJ4_init_2_20 : decode cJ4_init_2 20 = .ok (.getfield 15, 3) := dk_180 0 15 (dk_at dksJ4_init_2_0 20 rfl rfl)
theorem dJ4_init_2_23 : decode cJ4_init_2 23 = .ok (.putfield 15, 3) := dk_181 0 15 (dk_at dksJ4_init_2_1 0 rfl rfl)
theorem dJ4_init_2_26 : decode cJ4_init_2 26 = .ok (.return_, 1) := dk_177 (dk_at dksJ4_init_2_1 3 rfl rfl)
theorem dJ4_init_2_27 : decode cJ4_init_2 27 = .ok (.getstatic 38, 3) := dk_178 0 38 (dk_at dksJ4_init_2_1 4 rfl rfl)
theorem dJ4_init_2_30 : decode cJ4_init_2 30 = .ok (.ifCond .eq 28, 3) := dk_153 0 28 (dk_at dksJ4_init_2_1 7 rfl rfl)
theorem dJ4_init_2_33 : decode cJ4_init_2 33 = .ok (.aload_n 1, 1) := dk_43 (dk_at dksJ4_init_2_1 10 rfl rfl)
theorem dJ4_init_2_34 : decode cJ4_init_2 34 = .ok (.iload_n 2, 1) := dk_28 (dk_at dksJ4_init_2_1 11 rfl rfl)
theorem dJ4_init_2_35 : decode cJ4_init_2 35 = .ok (.iload_n 3, 1) := dk_29 (dk_at dksJ4_init_2_1 12 rfl rfl)
theorem dJ4_init_2_36 : decode cJ4_init_2 36 = .ok (.invokestatic 177, 3) := dk_184 0 177 (dk_at dksJ4_init_2_1 13 rfl rfl)
theorem dJ4_init_2_39 : decode cJ4_init_2 39 = .ok (.astore 5, 2) := dk_58 5 (dk_at dksJ4_init_2_1 16 rfl rfl)
theorem dJ4_init_2_41 : decode cJ4_init_2 41 = .ok (.aload_n 0, 1) := dk_42 (dk_at dksJ4_init_2_1 18 rfl rfl)
theorem dJ4_init_2_42 : decode cJ4_init_2 42 = .ok (.aload 5, 2) := dk_25 5 (dk_at dksJ4_init_2_1 19 rfl rfl)
theorem dJ4_init_2_44 : decode cJ4_init_2 44 = .ok (.iload_n 3, 1) := dk_29 (dk_at dksJ4_init_2_1 21 rfl rfl)
theorem dJ4_init_2_45 : decode cJ4_init_2 45 = .ok (.invokestatic 47, 3) := dk_184 0 47 (dk_at dksJ4_init_2_2 0 rfl rfl)
theorem dJ4_init_2_48 : decode cJ4_init_2 48 = .ok (.putfield 15, 3) := dk_181 0 15 (dk_at dksJ4_init_2_2 3 rfl rfl)
theorem dJ4_init_2_51 : decode cJ4_init_2 51 = .ok (.aload_n 0, 1) := dk_42 (dk_at dksJ4_init_2_2 6 rfl rfl)
theorem dJ4_init_2_52 : decode cJ4_init_2 52 = .ok (.aload 5, 2) := dk_25 5 (dk_at dksJ4_init_2_2 7 rfl rfl)
theorem dJ4_init_2_54 : decode cJ4_init_2 54 = .ok (.putfield 9, 3) := dk_181 0 9 (dk_at dksJ4_init_2_2 9 rfl rfl)
theorem dJ4_init_2_57 : decode cJ4_init_2 57 = .ok (.return_, 1) := dk_177 (dk_at dksJ4_init_2_2 12 rfl rfl)
theorem dJ4_init_2_58 : decode cJ4_init_2 58 = .ok (.aload_n 0, 1) := dk_42 (dk_at dksJ4_init_2_2 13 rfl rfl)
theorem dJ4_init_2_59 : decode cJ4_init_2 59 = .ok (.iconst 1, 1) := dk_4 (dk_at dksJ4_init_2_2 14 rfl rfl)
theorem dJ4_init_2_60 : decode cJ4_init_2 60 = .ok (.putfield 15, 3) := dk_181 0 15 (dk_at dksJ4_init_2_2 15 rfl rfl)
theorem dJ4_init_2_63 : decode cJ4_init_2 63 = .ok (.aload_n 0, 1) := dk_42 (dk_at dksJ4_init_2_2 18 rfl rfl)
theorem dJ4_init_2_64 : decode cJ4_init_2 64 = .ok (.aload_n 1, 1) := dk_43 (dk_at dksJ4_init_2_2 19 rfl rfl)
theorem dJ4_init_2_65 : decode cJ4_init_2 65 = .ok (.iload_n 2, 1) := dk_28 (dk_at dksJ4_init_2_2 20 rfl rfl)
theorem dJ4_init_2_66 : decode cJ4_init_2 66 = .ok (.iload_n 3, 1) := dk_29 (dk_at dksJ4_init_2_2 21 rfl rfl)
theorem dJ4_init_2_67 : decode cJ4_init_2 67 = .ok (.invokestatic 180, 3) := dk_184 0 180 (dk_at dksJ4_init_2_3 0 rfl rfl)
theorem dJ4_init_2_70 : decode cJ4_init_2 70 = .ok (.putfield 9, 3) := dk_181 0 9 (dk_at dksJ4_init_2_3 3 rfl rfl)
theorem dJ4_init_2_73 : decode cJ4_init_2 73 = .ok (.return_, 1) := dk_177 (dk_at dksJ4_init_2_3 6 rfl rfl)
abbrev cJ4_hashCode : ByteArray := prog_19_method_78_code
def yJ4_hashCode : MethodName := ⟨RJ4, "hashCode", "()I"⟩
def dkwJ4_hashCode_2 : List UInt8 := [181, 0, 23, 167, 0, 8, 42, 27, 181, 0, 19, 27, 172]
abbrev dktJ4_hashCode_2 : List UInt8 := dkwJ4_hashCode_2 ++ []
def dkwJ4_hashCode_1 : List UInt8 := [180, 0, 9, 184, 2, 116, 167, 0, 10, 42, 180, 0, 9, 184, 2, 120, 60, 27, 154, 0, 11, 42, 4]
abbrev dktJ4_hashCode_1 : List UInt8 := dkwJ4_hashCode_1 ++ dktJ4_hashCode_2
def dkwJ4_hashCode_0 : List UInt8 := [42, 180, 0, 19, 60, 27, 154, 0, 52, 42, 180, 0, 23, 154, 0, 45, 42, 182, 1, 236, 153, 0, 13, 42]
abbrev dktJ4_hashCode_0 : List UInt8 := dkwJ4_hashCode_0 ++ dktJ4_hashCode_1
theorem dksJ4_hashCode_0 : cJ4_hashCode.data.toList.drop 0 = dktJ4_hashCode_0 := by decide +kernel
theorem dksJ4_hashCode_1 : cJ4_hashCode.data.toList.drop 24 = dktJ4_hashCode_1 := dk_seg dksJ4_hashCode_0 24 rfl rfl
theorem dksJ4_hashCode_2 : cJ4_hashCode.data.toList.drop 47 = dktJ4_hashCode_2 := dk_seg dksJ4_hashCode_1 23 rfl rfl
theorem dJ4_hashCode_0 : decode cJ4_hashCode 0 = .ok (.aload_n 0, 1) := dk_42 (dk_at dksJ4_hashCode_0 0 rfl rfl)
theorem dJ4_hashCode_1 : decode cJ4_hashCode 1 = .ok (.getfield 19, 3) := dk_180 0 19 (dk_at dksJ4_hashCode_0 1 rfl rfl)
theorem dJ4_hashCode_4 : decode cJ4_hashCode 4 = .ok (.istore_n 1, 1) := dk_60 (dk_at dksJ4_hashCode_0 4 rfl rfl)
theorem dJ4_hashCode_5 : decode cJ4_hashCode 5 = .ok (.iload_n 1, 1) := dk_27 (dk_at dksJ4_hashCode_0 5 rfl rfl)
theorem dJ4_hashCode_6 : decode cJ4_hashCode 6 = .ok (.ifCond .ne 52, 3) := dk_154 0 52 (dk_at dksJ4_hashCode_0 6 rfl rfl)
theorem dJ4_hashCode_9 : decode cJ4_hashCode 9 = .ok (.aload_n 0, 1) := dk_42 (dk_at dksJ4_hashCode_0 9 rfl rfl)
theorem dJ4_hashCode_10 : decode cJ4_hashCode 10 = .ok (.getfield 23, 3) := dk_180 0 23 (dk_at dksJ4_hashCode_0 10 rfl rfl)
theorem dJ4_hashCode_13 : decode cJ4_hashCode 13 = .ok (.ifCond .ne 45, 3) := dk_154 0 45 (dk_at dksJ4_hashCode_0 13 rfl rfl)
theorem dJ4_hashCode_16 : decode cJ4_hashCode 16 = .ok (.aload_n 0, 1) := dk_42 (dk_at dksJ4_hashCode_0 16 rfl rfl)
theorem dJ4_hashCode_17 : decode cJ4_hashCode 17 = .ok (.invokevirtual 492, 3) := dk_182 1 236 (dk_at dksJ4_hashCode_0 17 rfl rfl)
theorem dJ4_hashCode_20 : decode cJ4_hashCode 20 = .ok (.ifCond .eq 13, 3) := dk_153 0 13 (dk_at dksJ4_hashCode_0 20 rfl rfl)
theorem dJ4_hashCode_23 : decode cJ4_hashCode 23 = .ok (.aload_n 0, 1) := dk_42 (dk_at dksJ4_hashCode_0 23 rfl rfl)
theorem dJ4_hashCode_24 : decode cJ4_hashCode 24 = .ok (.getfield 9, 3) := dk_180 0 9 (dk_at dksJ4_hashCode_1 0 rfl rfl)
theorem dJ4_hashCode_27 : decode cJ4_hashCode 27 = .ok (.invokestatic 628, 3) := dk_184 2 116 (dk_at dksJ4_hashCode_1 3 rfl rfl)
theorem dJ4_hashCode_30 : decode cJ4_hashCode 30 = .ok (.goto 10, 3) := dk_167 0 10 (dk_at dksJ4_hashCode_1 6 rfl rfl)
theorem dJ4_hashCode_33 : decode cJ4_hashCode 33 = .ok (.aload_n 0, 1) := dk_42 (dk_at dksJ4_hashCode_1 9 rfl rfl)
theorem dJ4_hashCode_34 : decode cJ4_hashCode 34 = .ok (.getfield 9, 3) := dk_180 0 9 (dk_at dksJ4_hashCode_1 10 rfl rfl)
theorem dJ4_hashCode_37 : decode cJ4_hashCode 37 = .ok (.invokestatic 632, 3) := dk_184 2 120 (dk_at dksJ4_hashCode_1 13 rfl rfl)
theorem dJ4_hashCode_40 : decode cJ4_hashCode 40 = .ok (.istore_n 1, 1) := dk_60 (dk_at dksJ4_hashCode_1 16 rfl rfl)
theorem dJ4_hashCode_41 : decode cJ4_hashCode 41 = .ok (.iload_n 1, 1) := dk_27 (dk_at dksJ4_hashCode_1 17 rfl rfl)
theorem dJ4_hashCode_42 : decode cJ4_hashCode 42 = .ok (.ifCond .ne 11, 3) := dk_154 0 11 (dk_at dksJ4_hashCode_1 18 rfl rfl)
theorem dJ4_hashCode_45 : decode cJ4_hashCode 45 = .ok (.aload_n 0, 1) := dk_42 (dk_at dksJ4_hashCode_1 21 rfl rfl)
theorem dJ4_hashCode_46 : decode cJ4_hashCode 46 = .ok (.iconst 1, 1) := dk_4 (dk_at dksJ4_hashCode_1 22 rfl rfl)
theorem dJ4_hashCode_47 : decode cJ4_hashCode 47 = .ok (.putfield 23, 3) := dk_181 0 23 (dk_at dksJ4_hashCode_2 0 rfl rfl)
theorem dJ4_hashCode_50 : decode cJ4_hashCode 50 = .ok (.goto 8, 3) := dk_167 0 8 (dk_at dksJ4_hashCode_2 3 rfl rfl)
theorem dJ4_hashCode_53 : decode cJ4_hashCode 53 = .ok (.aload_n 0, 1) := dk_42 (dk_at dksJ4_hashCode_2 6 rfl rfl)
theorem dJ4_hashCode_54 : decode cJ4_hashCode 54 = .ok (.iload_n 1, 1) := dk_27 (dk_at dksJ4_hashCode_2 7 rfl rfl)
theorem dJ4_hashCode_55 : decode cJ4_hashCode 55 = .ok (.putfield 19, 3) := dk_181 0 19 (dk_at dksJ4_hashCode_2 8 rfl rfl)
theorem dJ4_hashCode_58 : decode cJ4_hashCode 58 = .ok (.iload_n 1, 1) := dk_27 (dk_at dksJ4_hashCode_2 11 rfl rfl)
theorem dJ4_hashCode_59 : decode cJ4_hashCode 59 = .ok (.ireturn, 1) := dk_172 (dk_at dksJ4_hashCode_2 12 rfl rfl)
abbrev cJ4_isLatin1 : ByteArray := prog_19_method_154_code
def yJ4_isLatin1 : MethodName := ⟨RJ4, "isLatin1", "()Z"⟩
def dkwJ4_isLatin1_0 : List UInt8 := [178, 0, 38, 153, 0, 14, 42, 180, 0, 15, 154, 0, 7, 4, 167, 0, 4, 3, 172]
abbrev dktJ4_isLatin1_0 : List UInt8 := dkwJ4_isLatin1_0 ++ []
theorem dksJ4_isLatin1_0 : cJ4_isLatin1.data.toList.drop 0 = dktJ4_isLatin1_0 := by decide +kernel
theorem dJ4_isLatin1_0 : decode cJ4_isLatin1 0 = .ok (.getstatic 38, 3) := dk_178 0 38 (dk_at dksJ4_isLatin1_0 0 rfl rfl)
theorem dJ4_isLatin1_3 : decode cJ4_isLatin1 3 = .ok (.ifCond .eq 14, 3) := dk_153 0 14 (dk_at dksJ4_isLatin1_0 3 rfl rfl)
theorem dJ4_isLatin1_6 : decode cJ4_isLatin1 6 = .ok (.aload_n 0, 1) := dk_42 (dk_at dksJ4_isLatin1_0 6 rfl rfl)
theorem dJ4_isLatin1_7 : decode cJ4_isLatin1 7 = .ok (.getfield 15, 3) := dk_180 0 15 (dk_at dksJ4_isLatin1_0 7 rfl rfl)
theorem dJ4_isLatin1_10 : decode cJ4_isLatin1 10 = .ok (.ifCond .ne 7, 3) := dk_154 0 7 (dk_at dksJ4_isLatin1_0 10 rfl rfl)
theorem dJ4_isLatin1_13 : decode cJ4_isLatin1 13 = .ok (.iconst 1, 1) := dk_4 (dk_at dksJ4_isLatin1_0 13 rfl rfl)
theorem dJ4_isLatin1_14 : decode cJ4_isLatin1 14 = .ok (.goto 4, 3) := dk_167 0 4 (dk_at dksJ4_isLatin1_0 14 rfl rfl)
theorem dJ4_isLatin1_17 : decode cJ4_isLatin1 17 = .ok (.iconst 0, 1) := dk_3 (dk_at dksJ4_isLatin1_0 17 rfl rfl)
theorem dJ4_isLatin1_18 : decode cJ4_isLatin1 18 = .ok (.ireturn, 1) := dk_172 (dk_at dksJ4_isLatin1_0 18 rfl rfl)
abbrev cJ4_equals : ByteArray := prog_19_method_66_code
def yJ4_equals : MethodName := ⟨RJ4, "equals", "(Ljava/lang/Object;)Z"⟩
def dkwJ4_equals_2 : List UInt8 := [184, 2, 29, 153, 0, 7, 4, 167, 0, 4, 3, 172]
abbrev dktJ4_equals_2 : List UInt8 := dkwJ4_equals_2 ++ []
def dkwJ4_equals_1 : List UInt8 := [153, 0, 14, 42, 180, 0, 15, 44, 180, 0, 15, 160, 0, 21, 42, 180, 0, 9, 44, 180, 0, 9]
abbrev dktJ4_equals_1 : List UInt8 := dkwJ4_equals_1 ++ dktJ4_equals_2
def dkwJ4_equals_0 : List UInt8 := [42, 43, 166, 0, 5, 4, 172, 43, 193, 0, 10, 153, 0, 43, 43, 192, 0, 10, 77, 178, 0, 38]
abbrev dktJ4_equals_0 : List UInt8 := dkwJ4_equals_0 ++ dktJ4_equals_1
theorem dksJ4_equals_0 : cJ4_equals.data.toList.drop 0 = dktJ4_equals_0 := by decide +kernel
theorem dksJ4_equals_1 : cJ4_equals.data.toList.drop 22 = dktJ4_equals_1 := dk_seg dksJ4_equals_0 22 rfl rfl
theorem dksJ4_equals_2 : cJ4_equals.data.toList.drop 44 = dktJ4_equals_2 := dk_seg dksJ4_equals_1 22 rfl rfl
theorem dJ4_equals_0 : decode cJ4_equals 0 = .ok (.aload_n 0, 1) := dk_42 (dk_at dksJ4_equals_0 0 rfl rfl)
theorem dJ4_equals_1 : decode cJ4_equals 1 = .ok (.aload_n 1, 1) := dk_43 (dk_at dksJ4_equals_0 1 rfl rfl)
theorem dJ4_equals_2 : decode cJ4_equals 2 = .ok (.if_acmp .ne 5, 3) := dk_166 0 5 (dk_at dksJ4_equals_0 2 rfl rfl)
theorem dJ4_equals_5 : decode cJ4_equals 5 = .ok (.iconst 1, 1) := dk_4 (dk_at dksJ4_equals_0 5 rfl rfl)
theorem dJ4_equals_6 : decode cJ4_equals 6 = .ok (.ireturn, 1) := dk_172 (dk_at dksJ4_equals_0 6 rfl rfl)
theorem dJ4_equals_7 : decode cJ4_equals 7 = .ok (.aload_n 1, 1) := dk_43 (dk_at dksJ4_equals_0 7 rfl rfl)
theorem dJ4_equals_8 : decode cJ4_equals 8 = .ok (.instanceof 10, 3) := dk_193 0 10 (dk_at dksJ4_equals_0 8 rfl rfl)
theorem dJ4_equals_11 : decode cJ4_equals 11 = .ok (.ifCond .eq 43, 3) := dk_153 0 43 (dk_at dksJ4_equals_0 11 rfl rfl)
theorem dJ4_equals_14 : decode cJ4_equals 14 = .ok (.aload_n 1, 1) := dk_43 (dk_at dksJ4_equals_0 14 rfl rfl)
theorem dJ4_equals_15 : decode cJ4_equals 15 = .ok (.checkcast 10, 3) := dk_192 0 10 (dk_at dksJ4_equals_0 15 rfl rfl)
theorem dJ4_equals_18 : decode cJ4_equals 18 = .ok (.astore_n 2, 1) := dk_77 (dk_at dksJ4_equals_0 18 rfl rfl)
theorem dJ4_equals_19 : decode cJ4_equals 19 = .ok (.getstatic 38, 3) := dk_178 0 38 (dk_at dksJ4_equals_0 19 rfl rfl)
theorem dJ4_equals_22 : decode cJ4_equals 22 = .ok (.ifCond .eq 14, 3) := dk_153 0 14 (dk_at dksJ4_equals_1 0 rfl rfl)
theorem dJ4_equals_25 : decode cJ4_equals 25 = .ok (.aload_n 0, 1) := dk_42 (dk_at dksJ4_equals_1 3 rfl rfl)
theorem dJ4_equals_26 : decode cJ4_equals 26 = .ok (.getfield 15, 3) := dk_180 0 15 (dk_at dksJ4_equals_1 4 rfl rfl)
theorem dJ4_equals_29 : decode cJ4_equals 29 = .ok (.aload_n 2, 1) := dk_44 (dk_at dksJ4_equals_1 7 rfl rfl)
theorem dJ4_equals_30 : decode cJ4_equals 30 = .ok (.getfield 15, 3) := dk_180 0 15 (dk_at dksJ4_equals_1 8 rfl rfl)
theorem dJ4_equals_33 : decode cJ4_equals 33 = .ok (.if_icmp .ne 21, 3) := dk_160 0 21 (dk_at dksJ4_equals_1 11 rfl rfl)
theorem dJ4_equals_36 : decode cJ4_equals 36 = .ok (.aload_n 0, 1) := dk_42 (dk_at dksJ4_equals_1 14 rfl rfl)
theorem dJ4_equals_37 : decode cJ4_equals 37 = .ok (.getfield 9, 3) := dk_180 0 9 (dk_at dksJ4_equals_1 15 rfl rfl)
theorem dJ4_equals_40 : decode cJ4_equals 40 = .ok (.aload_n 2, 1) := dk_44 (dk_at dksJ4_equals_1 18 rfl rfl)
theorem dJ4_equals_41 : decode cJ4_equals 41 = .ok (.getfield 9, 3) := dk_180 0 9 (dk_at dksJ4_equals_1 19 rfl rfl)
theorem dJ4_equals_44 : decode cJ4_equals 44 = .ok (.invokestatic 541, 3) := dk_184 2 29 (dk_at dksJ4_equals_2 0 rfl rfl)
theorem dJ4_equals_47 : decode cJ4_equals 47 = .ok (.ifCond .eq 7, 3) := dk_153 0 7 (dk_at dksJ4_equals_2 3 rfl rfl)
theorem dJ4_equals_50 : decode cJ4_equals 50 = .ok (.iconst 1, 1) := dk_4 (dk_at dksJ4_equals_2 6 rfl rfl)
theorem dJ4_equals_51 : decode cJ4_equals 51 = .ok (.goto 4, 3) := dk_167 0 4 (dk_at dksJ4_equals_2 7 rfl rfl)
theorem dJ4_equals_54 : decode cJ4_equals 54 = .ok (.iconst 0, 1) := dk_3 (dk_at dksJ4_equals_2 10 rfl rfl)
theorem dJ4_equals_55 : decode cJ4_equals 55 = .ok (.ireturn, 1) := dk_172 (dk_at dksJ4_equals_2 11 rfl rfl)
abbrev cJ4_length : ByteArray := prog_19_method_54_code
def yJ4_length : MethodName := ⟨RJ4, "length", "()I"⟩
def dkwJ4_length_0 : List UInt8 := [42, 180, 0, 9, 190, 42, 182, 1, 79, 122, 172]
abbrev dktJ4_length_0 : List UInt8 := dkwJ4_length_0 ++ []
theorem dksJ4_length_0 : cJ4_length.data.toList.drop 0 = dktJ4_length_0 := by decide +kernel
theorem dJ4_length_0 : decode cJ4_length 0 = .ok (.aload_n 0, 1) := dk_42 (dk_at dksJ4_length_0 0 rfl rfl)
theorem dJ4_length_1 : decode cJ4_length 1 = .ok (.getfield 9, 3) := dk_180 0 9 (dk_at dksJ4_length_0 1 rfl rfl)
theorem dJ4_length_4 : decode cJ4_length 4 = .ok (.arraylength, 1) := dk_190 (dk_at dksJ4_length_0 4 rfl rfl)
theorem dJ4_length_5 : decode cJ4_length 5 = .ok (.aload_n 0, 1) := dk_42 (dk_at dksJ4_length_0 5 rfl rfl)
theorem dJ4_length_6 : decode cJ4_length 6 = .ok (.invokevirtual 335, 3) := dk_182 1 79 (dk_at dksJ4_length_0 6 rfl rfl)
theorem dJ4_length_9 : decode cJ4_length 9 = .ok (.ishr, 1) := dk_122 (dk_at dksJ4_length_0 9 rfl rfl)
theorem dJ4_length_10 : decode cJ4_length 10 = .ok (.ireturn, 1) := dk_172 (dk_at dksJ4_length_0 10 rfl rfl)
abbrev cJ4_coder : ByteArray := prog_19_method_152_code
def yJ4_coder : MethodName := ⟨RJ4, "coder", "()B"⟩
def dkwJ4_coder_0 : List UInt8 := [178, 0, 38, 153, 0, 10, 42, 180, 0, 15, 167, 0, 4, 4, 172]
abbrev dktJ4_coder_0 : List UInt8 := dkwJ4_coder_0 ++ []
theorem dksJ4_coder_0 : cJ4_coder.data.toList.drop 0 = dktJ4_coder_0 := by decide +kernel
theorem dJ4_coder_0 : decode cJ4_coder 0 = .ok (.getstatic 38, 3) := dk_178 0 38 (dk_at dksJ4_coder_0 0 rfl rfl)
theorem dJ4_coder_3 : decode cJ4_coder 3 = .ok (.ifCond .eq 10, 3) := dk_153 0 10 (dk_at dksJ4_coder_0 3 rfl rfl)
theorem dJ4_coder_6 : decode cJ4_coder 6 = .ok (.aload_n 0, 1) := dk_42 (dk_at dksJ4_coder_0 6 rfl rfl)
theorem dJ4_coder_7 : decode cJ4_coder 7 = .ok (.getfield 15, 3) := dk_180 0 15 (dk_at dksJ4_coder_0 7 rfl rfl)
theorem dJ4_coder_10 : decode cJ4_coder 10 = .ok (.goto 4, 3) := dk_167 0 4 (dk_at dksJ4_coder_0 10 rfl rfl)
theorem dJ4_coder_13 : decode cJ4_coder 13 = .ok (.iconst 1, 1) := dk_4 (dk_at dksJ4_coder_0 13 rfl rfl)
theorem dJ4_coder_14 : decode cJ4_coder 14 = .ok (.ireturn, 1) := dk_172 (dk_at dksJ4_coder_0 14 rfl rfl)
abbrev cJ4_charAt : ByteArray := prog_19_method_56_code
def yJ4_charAt : MethodName := ⟨RJ4, "charAt", "(I)C"⟩
def dkwJ4_charAt_1 : List UInt8 := [172]
abbrev dktJ4_charAt_1 : List UInt8 := dkwJ4_charAt_1 ++ []
def dkwJ4_charAt_0 : List UInt8 := [42, 182, 1, 236, 153, 0, 12, 42, 180, 0, 9, 27, 184, 1, 239, 172, 42, 180, 0, 9, 27, 184, 1, 242]
abbrev dktJ4_charAt_0 : List UInt8 := dkwJ4_charAt_0 ++ dktJ4_charAt_1
theorem dksJ4_charAt_0 : cJ4_charAt.data.toList.drop 0 = dktJ4_charAt_0 := by decide +kernel
theorem dksJ4_charAt_1 : cJ4_charAt.data.toList.drop 24 = dktJ4_charAt_1 := dk_seg dksJ4_charAt_0 24 rfl rfl
theorem dJ4_charAt_0 : decode cJ4_charAt 0 = .ok (.aload_n 0, 1) := dk_42 (dk_at dksJ4_charAt_0 0 rfl rfl)
theorem dJ4_charAt_1 : decode cJ4_charAt 1 = .ok (.invokevirtual 492, 3) := dk_182 1 236 (dk_at dksJ4_charAt_0 1 rfl rfl)
theorem dJ4_charAt_4 : decode cJ4_charAt 4 = .ok (.ifCond .eq 12, 3) := dk_153 0 12 (dk_at dksJ4_charAt_0 4 rfl rfl)
theorem dJ4_charAt_7 : decode cJ4_charAt 7 = .ok (.aload_n 0, 1) := dk_42 (dk_at dksJ4_charAt_0 7 rfl rfl)
theorem dJ4_charAt_8 : decode cJ4_charAt 8 = .ok (.getfield 9, 3) := dk_180 0 9 (dk_at dksJ4_charAt_0 8 rfl rfl)
theorem dJ4_charAt_11 : decode cJ4_charAt 11 = .ok (.iload_n 1, 1) := dk_27 (dk_at dksJ4_charAt_0 11 rfl rfl)
theorem dJ4_charAt_12 : decode cJ4_charAt 12 = .ok (.invokestatic 495, 3) := dk_184 1 239 (dk_at dksJ4_charAt_0 12 rfl rfl)
theorem dJ4_charAt_15 : decode cJ4_charAt 15 = .ok (.ireturn, 1) := dk_172 (dk_at dksJ4_charAt_0 15 rfl rfl)
theorem dJ4_charAt_16 : decode cJ4_charAt 16 = .ok (.aload_n 0, 1) := dk_42 (dk_at dksJ4_charAt_0 16 rfl rfl)
theorem dJ4_charAt_17 : decode cJ4_charAt 17 = .ok (.getfield 9, 3) := dk_180 0 9 (dk_at dksJ4_charAt_0 17 rfl rfl)
theorem dJ4_charAt_20 : decode cJ4_charAt 20 = .ok (.iload_n 1, 1) := dk_27 (dk_at dksJ4_charAt_0 20 rfl rfl)
theorem dJ4_charAt_21 : decode cJ4_charAt 21 = .ok (.invokestatic 498, 3) := dk_184 1 242 (dk_at dksJ4_charAt_0 21 rfl rfl)
theorem dJ4_charAt_24 : decode cJ4_charAt 24 = .ok (.ireturn, 1) := dk_172 (dk_at dksJ4_charAt_1 0 rfl rfl)
abbrev cJ4_checkIndex : ByteArray := prog_19_method_155_code
def yJ4_checkIndex : MethodName := ⟨RJ4, "checkIndex", "(II)V"⟩
def dkwJ4_checkIndex_0 : List UInt8 := [26, 27, 178, 4, 29, 184, 4, 35, 87, 177]
abbrev dktJ4_checkIndex_0 : List UInt8 := dkwJ4_checkIndex_0 ++ []
theorem dksJ4_checkIndex_0 : cJ4_checkIndex.data.toList.drop 0 = dktJ4_checkIndex_0 := by decide +kernel
theorem dJ4_checkIndex_0 : decode cJ4_checkIndex 0 = .ok (.iload_n 0, 1) := dk_26 (dk_at dksJ4_checkIndex_0 0 rfl rfl)
theorem dJ4_checkIndex_1 : decode cJ4_checkIndex 1 = .ok (.iload_n 1, 1) := dk_27 (dk_at dksJ4_checkIndex_0 1 rfl rfl)
theorem dJ4_checkIndex_2 : decode cJ4_checkIndex 2 = .ok (.getstatic 1053, 3) := dk_178 4 29 (dk_at dksJ4_checkIndex_0 2 rfl rfl)
theorem dJ4_checkIndex_5 : decode cJ4_checkIndex 5 = .ok (.invokestatic 1059, 3) := dk_184 4 35 (dk_at dksJ4_checkIndex_0 5 rfl rfl)
theorem dJ4_checkIndex_8 : decode cJ4_checkIndex 8 = .ok (.pop, 1) := dk_87 (dk_at dksJ4_checkIndex_0 8 rfl rfl)
theorem dJ4_checkIndex_9 : decode cJ4_checkIndex 9 = .ok (.return_, 1) := dk_177 (dk_at dksJ4_checkIndex_0 9 rfl rfl)
theorem q129 : (Jvm.Cond.initialized "java/lang/String") ∈ lw_all := lw_g (lw_at lw_m1 12 rfl) rfl
theorem q508 : (Jvm.Cond.instantiable "java/lang/String" (4 : Nat)) ∈ lw_all := lw_g (lw_at lw_m2 151 rfl) rfl
theorem q510 : (Jvm.Cond.instanceMethod ({ cls := "java/lang/String", name := "<init>", desc := "([CII)V" } : Jvm.MethodName)) ∈ lw_all := lw_g (lw_at lw_m2 153 rfl) rfl
theorem q511 : (Jvm.Cond.code ({ cls := "java/lang/String", name := "<init>", desc := "([CII)V" } : Jvm.MethodName) prog_19_method_4_code (4 : Nat) (Option.none : Option Jvm.ClassFile.FieldType)) ∈ lw_all := lw_g (lw_at lw_m2 154 rfl) rfl
theorem q512 : (Jvm.Cond.methodLink "java/lang/String" (30 : Nat) ({ cls := "java/lang/String", name := "rangeCheck", desc := "([CII)Ljava/lang/Void;" } : Jvm.MethodName)) ∈ lw_all := lw_g (lw_at lw_m2 155 rfl) rfl
theorem q513 : (Jvm.Cond.static ({ cls := "java/lang/String", name := "rangeCheck", desc := "([CII)Ljava/lang/Void;" } : Jvm.MethodName)) ∈ lw_all := lw_g (lw_at lw_m2 156 rfl) rfl
theorem q514 : (Jvm.Cond.code ({ cls := "java/lang/String", name := "rangeCheck", desc := "([CII)Ljava/lang/Void;" } : Jvm.MethodName) prog_19_method_5_code (3 : Nat) (Option.some (Jvm.ClassFile.FieldType.object "java/lang/Void"))) ∈ lw_all := lw_g (lw_at lw_m2 157 rfl) rfl
theorem q515 : (Jvm.Cond.methodLink "java/lang/String" (34 : Nat) ({ cls := "java/lang/String", name := "checkBoundsOffCount", desc := "(III)I" } : Jvm.MethodName)) ∈ lw_all := lw_g (lw_at lw_m2 158 rfl) rfl
theorem q516 : (Jvm.Cond.static ({ cls := "java/lang/String", name := "checkBoundsOffCount", desc := "(III)I" } : Jvm.MethodName)) ∈ lw_all := lw_g (lw_at lw_m2 159 rfl) rfl
theorem q517 : (Jvm.Cond.code ({ cls := "java/lang/String", name := "checkBoundsOffCount", desc := "(III)I" } : Jvm.MethodName) prog_19_method_157_code (3 : Nat) (Option.some Jvm.ClassFile.FieldType.int)) ∈ lw_all := lw_g (lw_at lw_m2 160 rfl) rfl
theorem q518 : (Jvm.Cond.fieldLink "java/lang/String" (1053 : Nat) "jdk/internal/util/Preconditions" "SIOOBE_FORMATTER" "Ljava/util/function/BiFunction;") ∈ lw_all := lw_g (lw_at lw_m2 161 rfl) rfl
theorem q520 : (Jvm.Cond.methodLink "java/lang/String" (1065 : Nat) ({ cls := "jdk/internal/util/Preconditions", name := "checkFromIndexSize", desc := "(IIILjava/util/function/BiFunction;)I" } : Jvm.MethodName)) ∈ lw_all := lw_g (lw_at lw_m2 163 rfl) rfl
theorem q523 : (Jvm.Cond.methodLink "java/lang/String" (27 : Nat) ({ cls := "java/lang/String", name := "<init>", desc := "([CIILjava/lang/Void;)V" } : Jvm.MethodName)) ∈ lw_all := lw_g (lw_at lw_m2 166 rfl) rfl
theorem q524 : (Jvm.Cond.instanceMethod ({ cls := "java/lang/String", name := "<init>", desc := "([CIILjava/lang/Void;)V" } : Jvm.MethodName)) ∈ lw_all := lw_g (lw_at lw_m2 167 rfl) rfl
theorem q525 : (Jvm.Cond.code ({ cls := "java/lang/String", name := "<init>", desc := "([CIILjava/lang/Void;)V" } : Jvm.MethodName) prog_19_method_149_code (6 : Nat) (Option.none : Option Jvm.ClassFile.FieldType)) ∈ lw_all := lw_g (lw_at lw_m2 168 rfl) rfl
theorem q526 : (Jvm.Cond.methodLink "java/lang/String" (1 : Nat) ({ cls := "java/lang/Object", name := "<init>", desc := "()V" } : Jvm.MethodName)) ∈ lw_all := lw_g (lw_at lw_m2 169 rfl) rfl
theorem q527 : (Jvm.Cond.stringRef "java/lang/String" (7 : Nat) "") ∈ lw_tbl := lw_at lw_m2 170 rfl
theorem q528 : (Jvm.Cond.fieldLink "java/lang/String" (38 : Nat) "java/lang/String" "COMPACT_STRINGS" "Z") ∈ lw_all := lw_g (lw_at lw_m2 171 rfl) rfl
theorem q529 : (Jvm.Cond.laysStatic "java/lang/String" "COMPACT_STRINGS" "Z") ∈ lw_tbl := lw_at lw_m2 172 rfl
theorem q530 : (Jvm.Cond.methodLink "java/lang/String" (177 : Nat) ({ cls := "java/lang/StringUTF16", name := "compress", desc := "([CII)[B" } : Jvm.MethodName)) ∈ lw_all := lw_g (lw_at lw_m2 173 rfl) rfl
theorem q568 : (Jvm.Cond.methodLink "java/lang/String" (47 : Nat) ({ cls := "java/lang/StringUTF16", name := "coderFromArrayLen", desc := "([BI)B" } : Jvm.MethodName)) ∈ lw_all := lw_g (lw_at lw_m2 211 rfl) rfl
theorem q571 : (Jvm.Cond.methodLink "java/lang/String" (180 : Nat) ({ cls := "java/lang/StringUTF16", name := "toBytes", desc := "([CII)[B" } : Jvm.MethodName)) ∈ lw_all := lw_g (lw_at lw_m2 214 rfl) rfl
theorem q572 : (Jvm.Cond.fieldLink "java/lang/String" (9 : Nat) "java/lang/String" "value" "[B") ∈ lw_all := lw_g (lw_at lw_m2 215 rfl) rfl
theorem q573 : (Jvm.Cond.fieldLink "java/lang/String" (15 : Nat) "java/lang/String" "coder" "B") ∈ lw_all := lw_g (lw_at lw_m2 216 rfl) rfl
theorem q574 : (Jvm.Cond.fieldLink "java/lang/String" (19 : Nat) "java/lang/String" "hash" "I") ∈ lw_all := lw_g (lw_at lw_m2 217 rfl) rfl
theorem q575 : (Jvm.Cond.fieldLink "java/lang/String" (23 : Nat) "java/lang/String" "hashIsZero" "Z") ∈ lw_all := lw_g (lw_at lw_m2 218 rfl) rfl
theorem q576 : (Jvm.Cond.laysFinal "java/lang/String" "java/lang/String" "value" "[B") ∈ lw_all := lw_g (lw_at lw_m2 219 rfl) rfl
theorem q577 : (Jvm.Cond.soleField "java/lang/String" "value") ∈ lw_all := lw_g (lw_at lw_m2 220 rfl) rfl
theorem q578 : (Jvm.Cond.laysFinal "java/lang/String" "java/lang/String" "coder" "B") ∈ lw_all := lw_g (lw_at lw_m2 221 rfl) rfl
theorem q579 : (Jvm.Cond.soleField "java/lang/String" "coder") ∈ lw_all := lw_g (lw_at lw_m2 222 rfl) rfl
theorem q580 : (Jvm.Cond.lays "java/lang/String" "java/lang/String" "hash" "I") ∈ lw_all := lw_g (lw_at lw_m2 223 rfl) rfl
theorem q581 : (Jvm.Cond.soleField "java/lang/String" "hash") ∈ lw_all := lw_g (lw_at lw_m2 224 rfl) rfl
theorem q582 : (Jvm.Cond.lays "java/lang/String" "java/lang/String" "hashIsZero" "Z") ∈ lw_all := lw_g (lw_at lw_m2 225 rfl) rfl
theorem q583 : (Jvm.Cond.soleField "java/lang/String" "hashIsZero") ∈ lw_all := lw_g (lw_at lw_m2 226 rfl) rfl
theorem q584 : (Jvm.Cond.superclass "java/lang/String" "java/lang/Object") ∈ lw_all := lw_g (lw_at lw_m2 227 rfl) rfl
theorem q607 : (Jvm.Cond.instanceMethod ({ cls := "java/lang/String", name := "hashCode", desc := "()I" } : Jvm.MethodName)) ∈ lw_all := lw_g (lw_at lw_m3 10 rfl) rfl
theorem q608 : (Jvm.Cond.selects "java/lang/String" ({ cls := "java/lang/String", name := "hashCode", desc := "()I" } : Jvm.MethodName) ({ cls := "java/lang/String", name := "hashCode", desc := "()I" } : Jvm.MethodName)) ∈ lw_all := lw_g (lw_at lw_m3 11 rfl) rfl
theorem q609 : (Jvm.Cond.code ({ cls := "java/lang/String", name := "hashCode", desc := "()I" } : Jvm.MethodName) prog_19_method_78_code (2 : Nat) (Option.some Jvm.ClassFile.FieldType.int)) ∈ lw_all := lw_g (lw_at lw_m3 12 rfl) rfl
theorem q610 : (Jvm.Cond.methodLink "java/lang/String" (492 : Nat) ({ cls := "java/lang/String", name := "isLatin1", desc := "()Z" } : Jvm.MethodName)) ∈ lw_all := lw_g (lw_at lw_m3 13 rfl) rfl
theorem q611 : (Jvm.Cond.instanceMethod ({ cls := "java/lang/String", name := "isLatin1", desc := "()Z" } : Jvm.MethodName)) ∈ lw_all := lw_g (lw_at lw_m3 14 rfl) rfl
theorem q612 : (Jvm.Cond.selects "java/lang/String" ({ cls := "java/lang/String", name := "isLatin1", desc := "()Z" } : Jvm.MethodName) ({ cls := "java/lang/String", name := "isLatin1", desc := "()Z" } : Jvm.MethodName)) ∈ lw_all := lw_g (lw_at lw_m3 15 rfl) rfl
theorem q613 : (Jvm.Cond.code ({ cls := "java/lang/String", name := "isLatin1", desc := "()Z" } : Jvm.MethodName) prog_19_method_154_code (1 : Nat) (Option.some Jvm.ClassFile.FieldType.boolean)) ∈ lw_all := lw_g (lw_at lw_m3 16 rfl) rfl
theorem q614 : (Jvm.Cond.methodLink "java/lang/String" (628 : Nat) ({ cls := "java/lang/StringLatin1", name := "hashCode", desc := "([B)I" } : Jvm.MethodName)) ∈ lw_all := lw_g (lw_at lw_m3 17 rfl) rfl
theorem q655 : (Jvm.Cond.methodLink "java/lang/String" (632 : Nat) ({ cls := "java/lang/StringUTF16", name := "hashCode", desc := "([B)I" } : Jvm.MethodName)) ∈ lw_all := lw_g (lw_at lw_m3 58 rfl) rfl
theorem q661 : (Jvm.Cond.instanceMethod ({ cls := "java/lang/String", name := "equals", desc := "(Ljava/lang/Object;)Z" } : Jvm.MethodName)) ∈ lw_all := lw_g (lw_at lw_m3 64 rfl) rfl
theorem q662 : (Jvm.Cond.selects "java/lang/String" ({ cls := "java/lang/String", name := "equals", desc := "(Ljava/lang/Object;)Z" } : Jvm.MethodName) ({ cls := "java/lang/String", name := "equals", desc := "(Ljava/lang/Object;)Z" } : Jvm.MethodName)) ∈ lw_all := lw_g (lw_at lw_m3 65 rfl) rfl
theorem q663 : (Jvm.Cond.code ({ cls := "java/lang/String", name := "equals", desc := "(Ljava/lang/Object;)Z" } : Jvm.MethodName) prog_19_method_66_code (3 : Nat) (Option.some Jvm.ClassFile.FieldType.boolean)) ∈ lw_all := lw_g (lw_at lw_m3 66 rfl) rfl
theorem q664 : (Jvm.Cond.classLink "java/lang/String" (10 : Nat) "java/lang/String") ∈ lw_all := lw_g (lw_at lw_m3 67 rfl) rfl
theorem q665 : (Jvm.Cond.methodLink "java/lang/String" (541 : Nat) ({ cls := "java/lang/StringLatin1", name := "equals", desc := "([B[B)Z" } : Jvm.MethodName)) ∈ lw_all := lw_g (lw_at lw_m3 68 rfl) rfl
theorem q1419 : (Jvm.Cond.instanceMethod ({ cls := "java/lang/String", name := "length", desc := "()I" } : Jvm.MethodName)) ∈ lw_all := lw_g (lw_at lw_m6 102 rfl) rfl
theorem q1420 : (Jvm.Cond.selects "java/lang/String" ({ cls := "java/lang/String", name := "length", desc := "()I" } : Jvm.MethodName) ({ cls := "java/lang/String", name := "length", desc := "()I" } : Jvm.MethodName)) ∈ lw_all := lw_g (lw_at lw_m6 103 rfl) rfl
theorem q1421 : (Jvm.Cond.code ({ cls := "java/lang/String", name := "length", desc := "()I" } : Jvm.MethodName) prog_19_method_54_code (1 : Nat) (Option.some Jvm.ClassFile.FieldType.int)) ∈ lw_all := lw_g (lw_at lw_m6 104 rfl) rfl
theorem q1422 : (Jvm.Cond.methodLink "java/lang/String" (335 : Nat) ({ cls := "java/lang/String", name := "coder", desc := "()B" } : Jvm.MethodName)) ∈ lw_all := lw_g (lw_at lw_m6 105 rfl) rfl
theorem q1423 : (Jvm.Cond.instanceMethod ({ cls := "java/lang/String", name := "coder", desc := "()B" } : Jvm.MethodName)) ∈ lw_all := lw_g (lw_at lw_m6 106 rfl) rfl
theorem q1424 : (Jvm.Cond.selects "java/lang/String" ({ cls := "java/lang/String", name := "coder", desc := "()B" } : Jvm.MethodName) ({ cls := "java/lang/String", name := "coder", desc := "()B" } : Jvm.MethodName)) ∈ lw_all := lw_g (lw_at lw_m6 107 rfl) rfl
theorem q1425 : (Jvm.Cond.code ({ cls := "java/lang/String", name := "coder", desc := "()B" } : Jvm.MethodName) prog_19_method_152_code (1 : Nat) (Option.some Jvm.ClassFile.FieldType.byte)) ∈ lw_all := lw_g (lw_at lw_m6 108 rfl) rfl
theorem q1427 : (Jvm.Cond.instanceMethod ({ cls := "java/lang/String", name := "charAt", desc := "(I)C" } : Jvm.MethodName)) ∈ lw_all := lw_g (lw_at lw_m6 110 rfl) rfl
theorem q1428 : (Jvm.Cond.selects "java/lang/String" ({ cls := "java/lang/String", name := "charAt", desc := "(I)C" } : Jvm.MethodName) ({ cls := "java/lang/String", name := "charAt", desc := "(I)C" } : Jvm.MethodName)) ∈ lw_all := lw_g (lw_at lw_m6 111 rfl) rfl
theorem q1429 : (Jvm.Cond.code ({ cls := "java/lang/String", name := "charAt", desc := "(I)C" } : Jvm.MethodName) prog_19_method_56_code (2 : Nat) (Option.some Jvm.ClassFile.FieldType.char)) ∈ lw_all := lw_g (lw_at lw_m6 112 rfl) rfl
theorem q1430 : (Jvm.Cond.methodLink "java/lang/String" (495 : Nat) ({ cls := "java/lang/StringLatin1", name := "charAt", desc := "([BI)C" } : Jvm.MethodName)) ∈ lw_all := lw_g (lw_at lw_m6 113 rfl) rfl
theorem q1434 : (Jvm.Cond.static ({ cls := "java/lang/String", name := "checkIndex", desc := "(II)V" } : Jvm.MethodName)) ∈ lw_all := lw_g (lw_at lw_m6 117 rfl) rfl
theorem q1435 : (Jvm.Cond.code ({ cls := "java/lang/String", name := "checkIndex", desc := "(II)V" } : Jvm.MethodName) prog_19_method_155_code (2 : Nat) (Option.none : Option Jvm.ClassFile.FieldType)) ∈ lw_all := lw_g (lw_at lw_m6 118 rfl) rfl
theorem q1436 : (Jvm.Cond.methodLink "java/lang/String" (1059 : Nat) ({ cls := "jdk/internal/util/Preconditions", name := "checkIndex", desc := "(IILjava/util/function/BiFunction;)I" } : Jvm.MethodName)) ∈ lw_all := lw_g (lw_at lw_m6 119 rfl) rfl
theorem q1439 : (Jvm.Cond.methodLink "java/lang/String" (498 : Nat) ({ cls := "java/lang/StringUTF16", name := "charAt", desc := "([BI)C" } : Jvm.MethodName)) ∈ lw_all := lw_g (lw_at lw_m6 122 rfl) rfl
theorem q1851 : (Jvm.Cond.castable "java/lang/String" "java/lang/Object") ∈ lw_tbl := lw_at lw_m8 54 rfl
theorem in_J4 : ∀ w ∈ wsJ40, w ∈ lw_all := lw_in wsJ40 [576, 578, 580, 582] (by decide +kernel) (by decide +kernel)

/-! jdk/internal/util/Preconditions -/
set_option maxRecDepth 100000
def RJ5 : String := "jdk/internal/util/Preconditions"
abbrev cJ5_checkFromIndexSize : ByteArray := prog_31_method_13_code
def yJ5_checkFromIndexSize : MethodName := ⟨RJ5, "checkFromIndexSize", "(IIILjava/util/function/BiFunction;)I"⟩
def dkwJ5_checkFromIndexSize_1 : List UInt8 := [172]
abbrev dktJ5_checkFromIndexSize_1 : List UInt8 := dkwJ5_checkFromIndexSize_1 ++ []
def dkwJ5_checkFromIndexSize_0 : List UInt8 := [28, 26, 128, 27, 128, 155, 0, 10, 27, 28, 26, 100, 164, 0, 11, 45, 26, 27, 28, 184, 0, 103, 191, 26]
abbrev dktJ5_checkFromIndexSize_0 : List UInt8 := dkwJ5_checkFromIndexSize_0 ++ dktJ5_checkFromIndexSize_1
theorem dksJ5_checkFromIndexSize_0 : cJ5_checkFromIndexSize.data.toList.drop 0 = dktJ5_checkFromIndexSize_0 := by decide +kernel
theorem dksJ5_checkFromIndexSize_1 : cJ5_checkFromIndexSize.data.toList.drop 24 = dktJ5_checkFromIndexSize_1 := dk_seg dksJ5_checkFromIndexSize_0 24 rfl rfl
theorem dJ5_checkFromIndexSize_0 : decode cJ5_checkFromIndexSize 0 = .ok (.iload_n 2, 1) := dk_28 (dk_at dksJ5_checkFromIndexSize_0 0 rfl rfl)
theorem dJ5_checkFromIndexSize_1 : decode cJ5_checkFromIndexSize 1 = .ok (.iload_n 0, 1) := dk_26 (dk_at dksJ5_checkFromIndexSize_0 1 rfl rfl)
theorem dJ5_checkFromIndexSize_2 : decode cJ5_checkFromIndexSize 2 = .ok (.ior, 1) := dk_128 (dk_at dksJ5_checkFromIndexSize_0 2 rfl rfl)
theorem dJ5_checkFromIndexSize_3 : decode cJ5_checkFromIndexSize 3 = .ok (.iload_n 1, 1) := dk_27 (dk_at dksJ5_checkFromIndexSize_0 3 rfl rfl)
theorem dJ5_checkFromIndexSize_4 : decode cJ5_checkFromIndexSize 4 = .ok (.ior, 1) := dk_128 (dk_at dksJ5_checkFromIndexSize_0 4 rfl rfl)
theorem dJ5_checkFromIndexSize_5 : decode cJ5_checkFromIndexSize 5 = .ok (.ifCond .lt 10, 3) := dk_155 0 10 (dk_at dksJ5_checkFromIndexSize_0 5 rfl rfl)
theorem dJ5_checkFromIndexSize_8 : decode cJ5_checkFromIndexSize 8 = .ok (.iload_n 1, 1) := dk_27 (dk_at dksJ5_checkFromIndexSize_0 8 rfl rfl)
theorem dJ5_checkFromIndexSize_9 : decode cJ5_checkFromIndexSize 9 = .ok (.iload_n 2, 1) := dk_28 (dk_at dksJ5_checkFromIndexSize_0 9 rfl rfl)
theorem dJ5_checkFromIndexSize_10 : decode cJ5_checkFromIndexSize 10 = .ok (.iload_n 0, 1) := dk_26 (dk_at dksJ5_checkFromIndexSize_0 10 rfl rfl)
theorem dJ5_checkFromIndexSize_11 : decode cJ5_checkFromIndexSize 11 = .ok (.isub, 1) := dk_100 (dk_at dksJ5_checkFromIndexSize_0 11 rfl rfl)
theorem dJ5_checkFromIndexSize_12 : decode cJ5_checkFromIndexSize 12 = .ok (.if_icmp .le 11, 3) := dk_164 0 11 (dk_at dksJ5_checkFromIndexSize_0 12 rfl rfl)
theorem dJ5_checkFromIndexSize_15 : decode cJ5_checkFromIndexSize 15 = .ok (.aload_n 3, 1) := dk_45 (dk_at dksJ5_checkFromIndexSize_0 15 rfl rfl)
theorem dJ5_checkFromIndexSize_16 : decode cJ5_checkFromIndexSize 16 = .ok (.iload_n 0, 1) := dk_26 (dk_at dksJ5_checkFromIndexSize_0 16 rfl rfl)
theorem dJ5_checkFromIndexSize_17 : decode cJ5_checkFromIndexSize 17 = .ok (.iload_n 1, 1) := dk_27 (dk_at dksJ5_checkFromIndexSize_0 17 rfl rfl)
theorem dJ5_checkFromIndexSize_18 : decode cJ5_checkFromIndexSize 18 = .ok (.iload_n 2, 1) := dk_28 (dk_at dksJ5_checkFromIndexSize_0 18 rfl rfl)
theorem dJ5_checkFromIndexSize_19 : decode cJ5_checkFromIndexSize 19 = .ok (.invokestatic 103, 3) := dk_184 0 103 (dk_at dksJ5_checkFromIndexSize_0 19 rfl rfl)
theorem dJ5_checkFromIndexSize_22 : decode cJ5_checkFromIndexSize 22 = .ok (.athrow, 1) := dk_191 (dk_at dksJ5_checkFromIndexSize_0 22 rfl rfl)
theorem dJ5_checkFromIndexSize_23 : decode cJ5_checkFromIndexSize 23 = .ok (.iload_n 0, 1) := dk_26 (dk_at dksJ5_checkFromIndexSize_0 23 rfl rfl)
theorem dJ5_checkFromIndexSize_24 : decode cJ5_checkFromIndexSize 24 = .ok (.ireturn, 1) := dk_172 (dk_at dksJ5_checkFromIndexSize_1 0 rfl rfl)
abbrev cJ5_checkIndex : ByteArray := prog_31_method_11_code
def yJ5_checkIndex : MethodName := ⟨RJ5, "checkIndex", "(IILjava/util/function/BiFunction;)I"⟩
def dkwJ5_checkIndex_0 : List UInt8 := [26, 155, 0, 8, 26, 27, 161, 0, 10, 44, 26, 27, 184, 0, 95, 191, 26, 172]
abbrev dktJ5_checkIndex_0 : List UInt8 := dkwJ5_checkIndex_0 ++ []
theorem dksJ5_checkIndex_0 : cJ5_checkIndex.data.toList.drop 0 = dktJ5_checkIndex_0 := by decide +kernel
theorem dJ5_checkIndex_0 : decode cJ5_checkIndex 0 = .ok (.iload_n 0, 1) := dk_26 (dk_at dksJ5_checkIndex_0 0 rfl rfl)
theorem dJ5_checkIndex_1 : decode cJ5_checkIndex 1 = .ok (.ifCond .lt 8, 3) := dk_155 0 8 (dk_at dksJ5_checkIndex_0 1 rfl rfl)
theorem dJ5_checkIndex_4 : decode cJ5_checkIndex 4 = .ok (.iload_n 0, 1) := dk_26 (dk_at dksJ5_checkIndex_0 4 rfl rfl)
theorem dJ5_checkIndex_5 : decode cJ5_checkIndex 5 = .ok (.iload_n 1, 1) := dk_27 (dk_at dksJ5_checkIndex_0 5 rfl rfl)
theorem dJ5_checkIndex_6 : decode cJ5_checkIndex 6 = .ok (.if_icmp .lt 10, 3) := dk_161 0 10 (dk_at dksJ5_checkIndex_0 6 rfl rfl)
theorem dJ5_checkIndex_9 : decode cJ5_checkIndex 9 = .ok (.aload_n 2, 1) := dk_44 (dk_at dksJ5_checkIndex_0 9 rfl rfl)
theorem dJ5_checkIndex_10 : decode cJ5_checkIndex 10 = .ok (.iload_n 0, 1) := dk_26 (dk_at dksJ5_checkIndex_0 10 rfl rfl)
theorem dJ5_checkIndex_11 : decode cJ5_checkIndex 11 = .ok (.iload_n 1, 1) := dk_27 (dk_at dksJ5_checkIndex_0 11 rfl rfl)
theorem dJ5_checkIndex_12 : decode cJ5_checkIndex 12 = .ok (.invokestatic 95, 3) := dk_184 0 95 (dk_at dksJ5_checkIndex_0 12 rfl rfl)
theorem dJ5_checkIndex_15 : decode cJ5_checkIndex 15 = .ok (.athrow, 1) := dk_191 (dk_at dksJ5_checkIndex_0 15 rfl rfl)
theorem dJ5_checkIndex_16 : decode cJ5_checkIndex 16 = .ok (.iload_n 0, 1) := dk_26 (dk_at dksJ5_checkIndex_0 16 rfl rfl)
theorem dJ5_checkIndex_17 : decode cJ5_checkIndex 17 = .ok (.ireturn, 1) := dk_172 (dk_at dksJ5_checkIndex_0 17 rfl rfl)
theorem q130 : (Jvm.Cond.initialized "jdk/internal/util/Preconditions") ∈ lw_all := lw_g (lw_at lw_m1 13 rfl) rfl
theorem q519 : (Jvm.Cond.laysStatic "jdk/internal/util/Preconditions" "SIOOBE_FORMATTER" "Ljava/util/function/BiFunction;") ∈ lw_tbl := lw_at lw_m2 162 rfl
theorem q521 : (Jvm.Cond.static ({ cls := "jdk/internal/util/Preconditions", name := "checkFromIndexSize", desc := "(IIILjava/util/function/BiFunction;)I" } : Jvm.MethodName)) ∈ lw_all := lw_g (lw_at lw_m2 164 rfl) rfl
theorem q522 : (Jvm.Cond.code ({ cls := "jdk/internal/util/Preconditions", name := "checkFromIndexSize", desc := "(IIILjava/util/function/BiFunction;)I" } : Jvm.MethodName) prog_31_method_13_code (4 : Nat) (Option.some Jvm.ClassFile.FieldType.int)) ∈ lw_all := lw_g (lw_at lw_m2 165 rfl) rfl
theorem q1437 : (Jvm.Cond.static ({ cls := "jdk/internal/util/Preconditions", name := "checkIndex", desc := "(IILjava/util/function/BiFunction;)I" } : Jvm.MethodName)) ∈ lw_all := lw_g (lw_at lw_m6 120 rfl) rfl
theorem q1438 : (Jvm.Cond.code ({ cls := "jdk/internal/util/Preconditions", name := "checkIndex", desc := "(IILjava/util/function/BiFunction;)I" } : Jvm.MethodName) prog_31_method_11_code (3 : Nat) (Option.some Jvm.ClassFile.FieldType.int)) ∈ lw_all := lw_g (lw_at lw_m6 121 rfl) rfl

/-! java/lang/StringUTF16 -/
set_option maxRecDepth 100000
def RJ6 : String := "java/lang/StringUTF16"
abbrev cJ6_compress : ByteArray := prog_21_method_16_code
def yJ6_compress : MethodName := ⟨RJ6, "compress", "([CII)[B"⟩
def dkwJ6_compress_2 : List UInt8 := [184, 0, 123, 28, 159, 0, 6, 25, 5, 176, 45, 176]
abbrev dktJ6_compress_2 : List UInt8 := dkwJ6_compress_2 ++ []
def dkwJ6_compress_1 : List UInt8 := [184, 0, 119, 58, 5, 25, 5, 21, 4, 184, 0, 71, 17, 0, 255, 163, 0, 16, 25, 5, 3, 45, 3, 28]
abbrev dktJ6_compress_1 : List UInt8 := dkwJ6_compress_1 ++ dktJ6_compress_2
def dkwJ6_compress_0 : List UInt8 := [28, 188, 8, 78, 42, 27, 45, 3, 28, 184, 0, 115, 54, 4, 21, 4, 28, 159, 0, 40, 42, 27, 28]
abbrev dktJ6_compress_0 : List UInt8 := dkwJ6_compress_0 ++ dktJ6_compress_1
theorem dksJ6_compress_0 : cJ6_compress.data.toList.drop 0 = dktJ6_compress_0 := by decide +kernel
theorem dksJ6_compress_1 : cJ6_compress.data.toList.drop 23 = dktJ6_compress_1 := dk_seg dksJ6_compress_0 23 rfl rfl
theorem dksJ6_compress_2 : cJ6_compress.data.toList.drop 47 = dktJ6_compress_2 := dk_seg dksJ6_compress_1 24 rfl rfl
theorem dJ6_compress_0 : decode cJ6_compress 0 = .ok (.iload_n 2, 1) := dk_28 (dk_at dksJ6_compress_0 0 rfl rfl)
theorem dJ6_compress_1 : decode cJ6_compress 1 = .ok (.newarray .byte, 2) := dk_188_8 (dk_at dksJ6_compress_0 1 rfl rfl)
theorem dJ6_compress_3 : decode cJ6_compress 3 = .ok (.astore_n 3, 1) := dk_78 (dk_at dksJ6_compress_0 3 rfl rfl)
theorem dJ6_compress_4 : decode cJ6_compress 4 = .ok (.aload_n 0, 1) := dk_42 (dk_at dksJ6_compress_0 4 rfl rfl)
theorem dJ6_compress_5 : decode cJ6_compress 5 = .ok (.iload_n 1, 1) := dk_27 (dk_at dksJ6_compress_0 5 rfl rfl)
theorem dJ6_compress_6 : decode cJ6_compress 6 = .ok (.aload_n 3, 1) := dk_45 (dk_at dksJ6_compress_0 6 rfl rfl)
theorem dJ6_compress_7 : decode cJ6_compress 7 = .ok (.iconst 0, 1) := dk_3 (dk_at dksJ6_compress_0 7 rfl rfl)
theorem dJ6_compress_8 : decode cJ6_compress 8 = .ok (.iload_n 2, 1) := dk_28 (dk_at dksJ6_compress_0 8 rfl rfl)
theorem dJ6_compress_9 : decode cJ6_compress 9 = .ok (.invokestatic 115, 3) := dk_184 0 115 (dk_at dksJ6_compress_0 9 rfl rfl)
theorem dJ6_compress_12 : decode cJ6_compress 12 = .ok (.istore 4, 2) := dk_54 4 (dk_at dksJ6_compress_0 12 rfl rfl)
theorem dJ6_compress_14 : decode cJ6_compress 14 = .ok (.iload 4, 2) := dk_21 4 (dk_at dksJ6_compress_0 14 rfl rfl)
theorem dJ6_compress_16 : decode cJ6_compress 16 = .ok (.iload_n 2, 1) := dk_28 (dk_at dksJ6_compress_0 16 rfl rfl)
theorem dJ6_compress_17 : decode cJ6_compress 17 = .ok (.if_icmp .eq 40, 3) := dk_159 0 40 (dk_at dksJ6_compress_0 17 rfl rfl)
theorem dJ6_compress_20 : decode cJ6_compress 20 = .ok (.aload_n 0, 1) := dk_42 (dk_at dksJ6_compress_0 20 rfl rfl)
theorem dJ6_compress_21 : decode cJ6_compress 21 = .ok (.iload_n 1, 1) := dk_27 (dk_at dksJ6_compress_0 21 rfl rfl)
theorem dJ6_compress_22 : decode cJ6_compress 22 = .ok (.iload_n 2, 1) := dk_28 (dk_at dksJ6_compress_0 22 rfl rfl)
theorem dJ6_compress_23 : decode cJ6_compress 23 = .ok (.invokestatic 119, 3) := dk_184 0 119 (dk_at dksJ6_compress_1 0 rfl rfl)
theorem dJ6_compress_26 : decode cJ6_compress 26 = .ok (.astore 5, 2) := dk_58 5 (dk_at dksJ6_compress_1 3 rfl rfl)
theorem dJ6_compress_28 : decode cJ6_compress 28 = .ok (.aload 5, 2) := dk_25 5 (dk_at dksJ6_compress_1 5 rfl rfl)
theorem dJ6_compress_30 : decode cJ6_compress 30 = .ok (.iload 4, 2) := dk_21 4 (dk_at dksJ6_compress_1 7 rfl rfl)
theorem dJ6_compress_32 : decode cJ6_compress 32 = .ok (.invokestatic 71, 3) := dk_184 0 71 (dk_at dksJ6_compress_1 9 rfl rfl)
theorem dJ6_compress_35 : decode cJ6_compress 35 = .ok (.sipush 255, 3) := dk_17 0 255 (dk_at dksJ6_compress_1 12 rfl rfl)
theorem dJ6_compress_38 : decode cJ6_compress 38 = .ok (.if_icmp .gt 16, 3) := dk_163 0 16 (dk_at dksJ6_compress_1 15 rfl rfl)
theorem dJ6_compress_41 : decode cJ6_compress 41 = .ok (.aload 5, 2) := dk_25 5 (dk_at dksJ6_compress_1 18 rfl rfl)
theorem dJ6_compress_43 : decode cJ6_compress 43 = .ok (.iconst 0, 1) := dk_3 (dk_at dksJ6_compress_1 20 rfl rfl)
theorem dJ6_compress_44 : decode cJ6_compress 44 = .ok (.aload_n 3, 1) := dk_45 (dk_at dksJ6_compress_1 21 rfl rfl)
theorem dJ6_compress_45 : decode cJ6_compress 45 = .ok (.iconst 0, 1) := dk_3 (dk_at dksJ6_compress_1 22 rfl rfl)
theorem dJ6_compress_46 : decode cJ6_compress 46 = .ok (.iload_n 2, 1) := dk_28 (dk_at dksJ6_compress_1 23 rfl rfl)
theorem dJ6_compress_47 : decode cJ6_compress 47 = .ok (.invokestatic 123, 3) := dk_184 0 123 (dk_at dksJ6_compress_2 0 rfl rfl)
theorem dJ6_compress_50 : decode cJ6_compress 50 = .ok (.iload_n 2, 1) := dk_28 (dk_at dksJ6_compress_2 3 rfl rfl)
theorem dJ6_compress_51 : decode cJ6_compress 51 = .ok (.if_icmp .eq 6, 3) := dk_159 0 6 (dk_at dksJ6_compress_2 4 rfl rfl)
theorem dJ6_compress_54 : decode cJ6_compress 54 = .ok (.aload 5, 2) := dk_25 5 (dk_at dksJ6_compress_2 7 rfl rfl)
theorem dJ6_compress_56 : decode cJ6_compress 56 = .ok (.areturn, 1) := dk_176 (dk_at dksJ6_compress_2 9 rfl rfl)
theorem dJ6_compress_57 : decode cJ6_compress 57 = .ok (.aload_n 3, 1) := dk_45 (dk_at dksJ6_compress_2 10 rfl rfl)
theorem dJ6_compress_58 : decode cJ6_compress 58 = .ok (.areturn, 1) := dk_176 (dk_at dksJ6_compress_2 11 rfl rfl)
abbrev cJ6_compress_2 : ByteArray := prog_21_method_21_code
def yJ6_compress_2 : MethodName := ⟨RJ6, "compress", "([CI[BII)I"⟩
def dkwJ6_compress_2_1 : List UInt8 := [21, 5, 172, 44, 29, 21, 6, 145, 84, 132, 1, 1, 132, 3, 1, 132, 5, 1, 167, 255, 218, 21, 4, 172]
abbrev dktJ6_compress_2_1 : List UInt8 := dkwJ6_compress_2_1 ++ []
def dkwJ6_compress_2_0 : List UInt8 := [3, 54, 5, 21, 5, 21, 4, 162, 0, 37, 42, 27, 52, 54, 6, 21, 6, 17, 0, 255, 164, 0, 6]
abbrev dktJ6_compress_2_0 : List UInt8 := dkwJ6_compress_2_0 ++ dktJ6_compress_2_1
theorem dksJ6_compress_2_0 : cJ6_compress_2.data.toList.drop 0 = dktJ6_compress_2_0 := by decide +kernel
theorem dksJ6_compress_2_1 : cJ6_compress_2.data.toList.drop 23 = dktJ6_compress_2_1 := dk_seg dksJ6_compress_2_0 23 rfl rfl
theorem dJ6_compress_2_0 : decode cJ6_compress_2 0 = .ok (.iconst 0, 1) := dk_3 (dk_at dksJ6_compress_2_0 0 rfl rfl)
theorem dJ6_compress_2_1 : decode cJ6_compress_2 1 = .ok (.istore 5, 2) := dk_54 5 (dk_at dksJ6_compress_2_0 1 rfl rfl)
theorem dJ6_compress_2_3 : decode cJ6_compress_2 3 = .ok (.iload 5, 2) := dk_21 5 (dk_at dksJ6_compress_2_0 3 rfl rfl)
theorem dJ6_compress_2_5 : decode cJ6_compress_2 5 = .ok (.iload 4, 2) := dk_21 4 (dk_at dksJ6_compress_2_0 5 rfl rfl)
theorem dJ6_compress_2_7 : decode cJ6_compress_2 7 = .ok (.if_icmp .ge 37, 3) := dk_162 0 37 (dk_at dksJ6_compress_2_0 7 rfl rfl)
theorem dJ6_compress_2_10 : decode cJ6_compress_2 10 = .ok (.aload_n 0, 1) := dk_42 (dk_at dksJ6_compress_2_0 10 rfl rfl)
theorem dJ6_compress_2_11 : decode cJ6_compress_2 11 = .ok (.iload_n 1, 1) := dk_27 (dk_at dksJ6_compress_2_0 11 rfl rfl)
theorem dJ6_compress_2_12 : decode cJ6_compress_2 12 = .ok (.caload, 1) := dk_52 (dk_at dksJ6_compress_2_0 12 rfl rfl)
theorem dJ6_compress_2_13 : decode cJ6_compress_2 13 = .ok (.istore 6, 2) := dk_54 6 (dk_at dksJ6_compress_2_0 13 rfl rfl)
theorem dJ6_compress_2_15 : decode cJ6_compress_2 15 = .ok (.iload 6, 2) := dk_21 6 (dk_at dksJ6_compress_2_0 15 rfl rfl)
theorem dJ6_compress_2_17 : decode cJ6_compress_2 17 = .ok (.sipush 255, 3) := dk_17 0 255 (dk_at dksJ6_compress_2_0 17 rfl rfl)
theorem dJ6_compress_2_20 : decode cJ6_compress_2 20 = .ok (.if_icmp .le 6, 3) := dk_164 0 6 (dk_at dksJ6_compress_2_0 20 rfl rfl)
theorem dJ6_compress_2_23 : decode cJ6_compress_2 23 = .ok (.iload 5, 2) := dk_21 5 (dk_at dksJ6_compress_2_1 0 rfl rfl)
theorem dJ6_compress_2_25 : decode cJ6_compress_2 25 = .ok (.ireturn, 1) := dk_172 (dk_at dksJ6_compress_2_1 2 rfl rfl)
theorem dJ6_compress_2_26 : decode cJ6_compress_2 26 = .ok (.aload_n 2, 1) := dk_44 (dk_at dksJ6_compress_2_1 3 rfl rfl)
theorem dJ6_compress_2_27 : decode cJ6_compress_2 27 = .ok (.iload_n 3, 1) := dk_29 (dk_at dksJ6_compress_2_1 4 rfl rfl)
theorem dJ6_compress_2_28 : decode cJ6_compress_2 28 = .ok (.iload 6, 2) := dk_21 6 (dk_at dksJ6_compress_2_1 5 rfl rfl)
theorem dJ6_compress_2_30 : decode cJ6_compress_2 30 = .ok (.i2b, 1) := dk_145 (dk_at dksJ6_compress_2_1 7 rfl rfl)
theorem dJ6_compress_2_31 : decode cJ6_compress_2 31 = .ok (.bastore, 1) := dk_84 (dk_at dksJ6_compress_2_1 8 rfl rfl)
theorem dJ6_compress_2_32 : decode cJ6_compress_2 32 = .ok (.iinc 1 1, 3) := dk_132 1 1 (dk_at dksJ6_compress_2_1 9 rfl rfl)
theorem dJ6_compress_2_35 : decode cJ6_compress_2 35 = .ok (.iinc 3 1, 3) := dk_132 3 1 (dk_at dksJ6_compress_2_1 12 rfl rfl)
theorem dJ6_compress_2_38 : decode cJ6_compress_2 38 = .ok (.iinc 5 1, 3) := dk_132 5 1 (dk_at dksJ6_compress_2_1 15 rfl rfl)
theorem dJ6_compress_2_41 : decode cJ6_compress_2 41 = .ok (.goto (-38), 3) := dk_167 255 218 (dk_at dksJ6_compress_2_1 18 rfl rfl)
theorem dJ6_compress_2_44 : decode cJ6_compress_2 44 = .ok (.iload 4, 2) := dk_21 4 (dk_at dksJ6_compress_2_1 21 rfl rfl)
theorem dJ6_compress_2_46 : decode cJ6_compress_2 46 = .ok (.ireturn, 1) := dk_172 (dk_at dksJ6_compress_2_1 23 rfl rfl)
abbrev cJ6_toBytes : ByteArray := prog_21_method_14_code
def yJ6_toBytes : MethodName := ⟨RJ6, "toBytes", "([CII)[B"⟩
def dkwJ6_toBytes_1 : List UInt8 := [132, 1, 1, 132, 4, 1, 167, 255, 235, 45, 176]
abbrev dktJ6_toBytes_1 : List UInt8 := dkwJ6_toBytes_1 ++ []
def dkwJ6_toBytes_0 : List UInt8 := [28, 184, 0, 107, 78, 3, 54, 4, 21, 4, 28, 162, 0, 21, 45, 21, 4, 42, 27, 52, 184, 0, 111]
abbrev dktJ6_toBytes_0 : List UInt8 := dkwJ6_toBytes_0 ++ dktJ6_toBytes_1
theorem dksJ6_toBytes_0 : cJ6_toBytes.data.toList.drop 0 = dktJ6_toBytes_0 := by decide +kernel
theorem dksJ6_toBytes_1 : cJ6_toBytes.data.toList.drop 23 = dktJ6_toBytes_1 := dk_seg dksJ6_toBytes_0 23 rfl rfl
theorem dJ6_toBytes_0 : decode cJ6_toBytes 0 = .ok (.iload_n 2, 1) := dk_28 (dk_at dksJ6_toBytes_0 0 rfl rfl)
theorem dJ6_toBytes_1 : decode cJ6_toBytes 1 = .ok (.invokestatic 107, 3) := dk_184 0 107 (dk_at dksJ6_toBytes_0 1 rfl rfl)
theorem dJ6_toBytes_4 : decode cJ6_toBytes 4 = .ok (.astore_n 3, 1) := dk_78 (dk_at dksJ6_toBytes_0 4 rfl rfl)
theorem dJ6_toBytes_5 : decode cJ6_toBytes 5 = .ok (.iconst 0, 1) := dk_3 (dk_at dksJ6_toBytes_0 5 rfl rfl)
theorem dJ6_toBytes_6 : decode cJ6_toBytes 6 = .ok (.istore 4, 2) := dk_54 4 (dk_at dksJ6_toBytes_0 6 rfl rfl)
theorem dJ6_toBytes_8 : decode cJ6_toBytes 8 = .ok (.iload 4, 2) := dk_21 4 (dk_at dksJ6_toBytes_0 8 rfl rfl)
theorem dJ6_toBytes_10 : decode cJ6_toBytes 10 = .ok (.iload_n 2, 1) := dk_28 (dk_at dksJ6_toBytes_0 10 rfl rfl)
theorem dJ6_toBytes_11 : decode cJ6_toBytes 11 = .ok (.if_icmp .ge 21, 3) := dk_162 0 21 (dk_at dksJ6_toBytes_0 11 rfl rfl)
theorem dJ6_toBytes_14 : decode cJ6_toBytes 14 = .ok (.aload_n 3, 1) := dk_45 (dk_at dksJ6_toBytes_0 14 rfl rfl)
theorem dJ6_toBytes_15 : decode cJ6_toBytes 15 = .ok (.iload 4, 2) := dk_21 4 (dk_at dksJ6_toBytes_0 15 rfl rfl)
theorem dJ6_toBytes_17 : decode cJ6_toBytes 17 = .ok (.aload_n 0, 1) := dk_42 (dk_at dksJ6_toBytes_0 17 rfl rfl)
theorem dJ6_toBytes_18 : decode cJ6_toBytes 18 = .ok (.iload_n 1, 1) := dk_27 (dk_at dksJ6_toBytes_0 18 rfl rfl)
theorem dJ6_toBytes_19 : decode cJ6_toBytes 19 = .ok (.caload, 1) := dk_52 (dk_at dksJ6_toBytes_0 19 rfl rfl)
theorem dJ6_toBytes_20 : decode cJ6_toBytes 20 = .ok (.invokestatic 111, 3) := dk_184 0 111 (dk_at dksJ6_toBytes_0 20 rfl rfl)
theorem dJ6_toBytes_23 : decode cJ6_toBytes 23 = .ok (.iinc 1 1, 3) := dk_132 1 1 (dk_at dksJ6_toBytes_1 0 rfl rfl)
theorem dJ6_toBytes_26 : decode cJ6_toBytes 26 = .ok (.iinc 4 1, 3) := dk_132 4 1 (dk_at dksJ6_toBytes_1 3 rfl rfl)
theorem dJ6_toBytes_29 : decode cJ6_toBytes 29 = .ok (.goto (-21), 3) := dk_167 255 235 (dk_at dksJ6_toBytes_1 6 rfl rfl)
theorem dJ6_toBytes_32 : decode cJ6_toBytes 32 = .ok (.aload_n 3, 1) := dk_45 (dk_at dksJ6_toBytes_1 9 rfl rfl)
theorem dJ6_toBytes_33 : decode cJ6_toBytes 33 = .ok (.areturn, 1) := dk_176 (dk_at dksJ6_toBytes_1 10 rfl rfl)
abbrev cJ6_newBytesFor : ByteArray := prog_21_method_2_code
def yJ6_newBytesFor : MethodName := ⟨RJ6, "newBytesFor", "(I)[B"⟩
def dkwJ6_newBytesFor_0 : List UInt8 := [26, 184, 0, 11, 188, 8, 176]
abbrev dktJ6_newBytesFor_0 : List UInt8 := dkwJ6_newBytesFor_0 ++ []
theorem dksJ6_newBytesFor_0 : cJ6_newBytesFor.data.toList.drop 0 = dktJ6_newBytesFor_0 := by decide +kernel
theorem dJ6_newBytesFor_0 : decode cJ6_newBytesFor 0 = .ok (.iload_n 0, 1) := dk_26 (dk_at dksJ6_newBytesFor_0 0 rfl rfl)
theorem dJ6_newBytesFor_1 : decode cJ6_newBytesFor 1 = .ok (.invokestatic 11, 3) := dk_184 0 11 (dk_at dksJ6_newBytesFor_0 1 rfl rfl)
theorem dJ6_newBytesFor_4 : decode cJ6_newBytesFor 4 = .ok (.newarray .byte, 2) := dk_188_8 (dk_at dksJ6_newBytesFor_0 4 rfl rfl)
theorem dJ6_newBytesFor_6 : decode cJ6_newBytesFor 6 = .ok (.areturn, 1) := dk_176 (dk_at dksJ6_newBytesFor_0 6 rfl rfl)
abbrev cJ6_newBytesLength : ByteArray := prog_21_method_3_code
def yJ6_newBytesLength : MethodName := ⟨RJ6, "newBytesLength", "(I)I"⟩
def dkwJ6_newBytesLength_2 : List UInt8 := [182, 0, 32, 182, 0, 37, 183, 0, 41, 191, 26, 4, 120, 172]
abbrev dktJ6_newBytesLength_2 : List UInt8 := dkwJ6_newBytesLength_2 ++ []
def dkwJ6_newBytesLength_1 : List UInt8 := [187, 0, 23, 89, 183, 0, 25, 18, 26, 182, 0, 28, 26, 182, 0, 32, 18, 35, 182, 0, 28, 18, 20]
abbrev dktJ6_newBytesLength_1 : List UInt8 := dkwJ6_newBytesLength_1 ++ dktJ6_newBytesLength_2
def dkwJ6_newBytesLength_0 : List UInt8 := [26, 156, 0, 11, 187, 0, 17, 89, 183, 0, 19, 191, 26, 18, 20, 161, 0, 40, 187, 0, 21, 89]
abbrev dktJ6_newBytesLength_0 : List UInt8 := dkwJ6_newBytesLength_0 ++ dktJ6_newBytesLength_1
theorem dksJ6_newBytesLength_0 : cJ6_newBytesLength.data.toList.drop 0 = dktJ6_newBytesLength_0 := by decide +kernel
theorem dksJ6_newBytesLength_1 : cJ6_newBytesLength.data.toList.drop 22 = dktJ6_newBytesLength_1 := dk_seg dksJ6_newBytesLength_0 22 rfl rfl
theorem dksJ6_newBytesLength_2 : cJ6_newBytesLength.data.toList.drop 45 = dktJ6_newBytesLength_2 := dk_seg dksJ6_newBytesLength_1 23 rfl rfl
theorem dJ6_newBytesLength_0 : decode cJ6_newBytesLength 0 = .ok (.iload_n 0, 1) := dk_26 (dk_at dksJ6_newBytesLength_0 0 rfl rfl)
theorem dJ6_newBytesLength_1 : decode cJ6_newBytesLength 1 = .ok (.ifCond .ge 11, 3) := dk_156 0 11 (dk_at dksJ6_newBytesLength_0 1 rfl rfl)
theorem dJ6_newBytesLength_4 : decode cJ6_newBytesLength 4 = .ok (.new 17, 3) := dk_187 0 17 (dk_at dksJ6_newBytesLength_0 4 rfl rfl)
theorem dJ6_newBytesLength_7 : decode cJ6_newBytesLength 7 = .ok (.dup, 1) := dk_89 (dk_at dksJ6_newBytesLength_0 7 rfl rfl)
theorem dJ6_newBytesLength_8 : decode cJ6_newBytesLength 8 = .ok (.invokespecial 19, 3) := dk_183 0 19 (dk_at dksJ6_newBytesLength_0 8 rfl rfl)
theorem dJ6_newBytesLength_11 : decode cJ6_newBytesLength 11 = .ok (.athrow, 1) := dk_191 (dk_at dksJ6_newBytesLength_0 11 rfl rfl)
theorem dJ6_newBytesLength_12 : decode cJ6_newBytesLength 12 = .ok (.iload_n 0, 1) := dk_26 (dk_at dksJ6_newBytesLength_0 12 rfl rfl)
theorem dJ6_newBytesLength_13 : decode cJ6_newBytesLength 13 = .ok (.ldc 20, 2) := dk_18 20 (dk_at dksJ6_newBytesLength_0 13 rfl rfl)
theorem dJ6_newBytesLength_15 : decode cJ6_newBytesLength 15 = .ok (.if_icmp .lt 40, 3) := dk_161 0 40 (dk_at dksJ6_newBytesLength_0 15 rfl rfl)
theorem dJ6_newBytesLength_18 : decode cJ6_newBytesLength 18 = .ok (.new 21, 3) := dk_187 0 21 (dk_at dksJ6_newBytesLength_0 18 rfl rfl)
theorem dJ6_newBytesLength_21 : decode cJ6_newBytesLength 21 = .ok (.dup, 1) := dk_89 (dk_at dksJ6_newBytesLength_0 21 rfl rfl)
theorem dJ6_newBytesLength_22 : decode cJ6_newBytesLength 22 = .ok (.new 23, 3) := dk_187 0 23 (dk_at dksJ6_newBytesLength_1 0 rfl rfl)
theorem dJ6_newBytesLength_25 : decode cJ6_newBytesLength 25 = .ok (.dup, 1) := dk_89 (dk_at dksJ6_newBytesLength_1 3 rfl rfl)
theorem dJ6_newBytesLength_26 : decode cJ6_newBytesLength 26 = .ok (.invokespecial 25, 3) := dk_183 0 25 (dk_at dksJ6_newBytesLength_1 4 rfl rfl)
theorem dJ6_newBytesLength_29 : decode cJ6_newBytesLength 29 = .ok (.ldc 26, 2) := dk_18 26 (dk_at dksJ6_newBytesLength_1 7 rfl rfl)
theorem dJ6_newBytesLength_31 : decode cJ6_newBytesLength 31 = .ok (.invokevirtual 28, 3) := dk_182 0 28 (dk_at dksJ6_newBytesLength_1 9 rfl rfl)
theorem dJ6_newBytesLength_34 : decode cJ6_newBytesLength 34 = .ok (.iload_n 0, 1) := dk_26 (dk_at dksJ6_newBytesLength_1 12 rfl rfl)
theorem dJ6_newBytesLength_35 : decode cJ6_newBytesLength 35 = .ok (.invokevirtual 32, 3) := dk_182 0 32 (dk_at dksJ6_newBytesLength_1 13 rfl rfl)
theorem dJ6_newBytesLength_38 : decode cJ6_newBytesLength 38 = .ok (.ldc 35, 2) := dk_18 35 (dk_at dksJ6_newBytesLength_1 16 rfl rfl)
theorem dJ6_newBytesLength_40 : decode cJ6_newBytesLength 40 = .ok (.invokevirtual 28, 3) := dk_182 0 28 (dk_at dksJ6_newBytesLength_1 18 rfl rfl)
theorem dJ6_newBytesLength_43 : decode cJ6_newBytesLength 43 = .ok (.ldc 20, 2) := dk_18 20 (dk_at dksJ6_newBytesLength_1 21 rfl rfl)
theorem dJ6_newBytesLength_45 : decode cJ6_newBytesLength 45 = .ok (.invokevirtual 32, 3) := dk_182 0 32 (dk_at dksJ6_newBytesLength_2 0 rfl rfl)
theorem dJ6_newBytesLength_48 : decode cJ6_newBytesLength 48 = .ok (.invokevirtual 37, 3) := dk_182 0 37 (dk_at dksJ6_newBytesLength_2 3 rfl rfl)
theorem dJ6_newBytesLength_51 : decode cJ6_newBytesLength 51 = .ok (.invokespecial 41, 3) := dk_183 0 41 (dk_at dksJ6_newBytesLength_2 6 rfl rfl)
theorem dJ6_newBytesLength_54 : decode cJ6_newBytesLength 54 = .ok (.athrow, 1) := dk_191 (dk_at dksJ6_newBytesLength_2 9 rfl rfl)
theorem dJ6_newBytesLength_55 : decode cJ6_newBytesLength 55 = .ok (.iload_n 0, 1) := dk_26 (dk_at dksJ6_newBytesLength_2 10 rfl rfl)
theorem dJ6_newBytesLength_56 : decode cJ6_newBytesLength 56 = .ok (.iconst 1, 1) := dk_4 (dk_at dksJ6_newBytesLength_2 11 rfl rfl)
theorem dJ6_newBytesLength_57 : decode cJ6_newBytesLength 57 = .ok (.ishl, 1) := dk_120 (dk_at dksJ6_newBytesLength_2 12 rfl rfl)
theorem dJ6_newBytesLength_58 : decode cJ6_newBytesLength 58 = .ok (.ireturn, 1) := dk_172 (dk_at dksJ6_newBytesLength_2 13 rfl rfl)
abbrev cJ6_putChar : ByteArray := prog_21_method_4_code
def yJ6_putChar : MethodName := ⟨RJ6, "putChar", "([BII)V"⟩
def dkwJ6_putChar_2 : List UInt8 := [178, 0, 63, 122, 145, 84, 177]
abbrev dktJ6_putChar_2 : List UInt8 := dkwJ6_putChar_2 ++ []
def dkwJ6_putChar_1 : List UInt8 := [183, 0, 56, 191, 27, 4, 120, 60, 42, 27, 132, 1, 1, 28, 178, 0, 59, 122, 145, 84, 42, 27, 28]
abbrev dktJ6_putChar_1 : List UInt8 := dkwJ6_putChar_1 ++ dktJ6_putChar_2
def dkwJ6_putChar_0 : List UInt8 := [178, 0, 44, 154, 0, 25, 27, 155, 0, 11, 27, 42, 184, 0, 48, 161, 0, 13, 187, 0, 52, 89, 18, 54]
abbrev dktJ6_putChar_0 : List UInt8 := dkwJ6_putChar_0 ++ dktJ6_putChar_1
theorem dksJ6_putChar_0 : cJ6_putChar.data.toList.drop 0 = dktJ6_putChar_0 := by decide +kernel
theorem dksJ6_putChar_1 : cJ6_putChar.data.toList.drop 24 = dktJ6_putChar_1 := dk_seg dksJ6_putChar_0 24 rfl rfl
theorem dksJ6_putChar_2 : cJ6_putChar.data.toList.drop 47 = dktJ6_putChar_2 := dk_seg dksJ6_putChar_1 23 rfl rfl
theorem dJ6_putChar_0 : decode cJ6_putChar 0 = .ok (.getstatic 44, 3) := dk_178 0 44 (dk_at dksJ6_putChar_0 0 rfl rfl)
theorem dJ6_putChar_3 : decode cJ6_putChar 3 = .ok (.ifCond .ne 25, 3) := dk_154 0 25 (dk_at dksJ6_putChar_0 3 rfl rfl)
theorem dJ6_putChar_6 : decode cJ6_putChar 6 = .ok (.iload_n 1, 1) := dk_27 (dk_at dksJ6_putChar_0 6 rfl rfl)
theorem dJ6_putChar_7 : decode cJ6_putChar 7 = .ok (.ifCond .lt 11, 3) := dk_155 0 11 (dk_at dksJ6_putChar_0 7 rfl rfl)
theorem dJ6_putChar_10 : decode cJ6_putChar 10 = .ok (.iload_n 1, 1) := dk_27 (dk_at dksJ6_putChar_0 10 rfl rfl)
theorem dJ6_putChar_11 : decode cJ6_putChar 11 = .ok (.aload_n 0, 1) := dk_42 (dk_at dksJ6_putChar_0 11 rfl rfl)
theorem dJ6_putChar_12 : decode cJ6_putChar 12 = .ok (.invokestatic 48, 3) := dk_184 0 48 (dk_at dksJ6_putChar_0 12 rfl rfl)
theorem dJ6_putChar_15 : decode cJ6_putChar 15 = .ok (.if_icmp .lt 13, 3) := dk_161 0 13 (dk_at dksJ6_putChar_0 15 rfl rfl)
theorem dJ6_putChar_18 : decode cJ6_putChar 18 = .ok (.new 52, 3) := dk_187 0 52 (dk_at dksJ6_putChar_0 18 rfl rfl)
theorem dJ6_putChar_21 : decode cJ6_putChar 21 = .ok (.dup, 1) := dk_89 (dk_at dksJ6_putChar_0 21 rfl rfl)
theorem dJ6_putChar_22 : decode cJ6_putChar 22 = .ok (.ldc 54, 2) := dk_18 54 (dk_at dksJ6_putChar_0 22 rfl rfl)
theorem dJ6_putChar_24 : decode cJ6_putChar 24 = .ok (.invokespecial 56, 3) := dk_183 0 56 (dk_at dksJ6_putChar_1 0 rfl rfl)
theorem dJ6_putChar_27 : decode cJ6_putChar 27 = .ok (.athrow, 1) := dk_191 (dk_at dksJ6_putChar_1 3 rfl rfl)
theorem dJ6_putChar_28 : decode cJ6_putChar 28 = .ok (.iload_n 1, 1) := dk_27 (dk_at dksJ6_putChar_1 4 rfl rfl)
theorem dJ6_putChar_29 : decode cJ6_putChar 29 = .ok (.iconst 1, 1) := dk_4 (dk_at dksJ6_putChar_1 5 rfl rfl)
theorem dJ6_putChar_30 : decode cJ6_putChar 30 = .ok (.ishl, 1) := dk_120 (dk_at dksJ6_putChar_1 6 rfl rfl)
theorem dJ6_putChar_31 : decode cJ6_putChar 31 = .ok (.istore_n 1, 1) := dk_60 (dk_at dksJ6_putChar_1 7 rfl rfl)
theorem dJ6_putChar_32 : decode cJ6_putChar 32 = .ok (.aload_n 0, 1) := dk_42 (dk_at dksJ6_putChar_1 8 rfl rfl)
theorem dJ6_putChar_33 : decode cJ6_putChar 33 = .ok (.iload_n 1, 1) := dk_27 (dk_at dksJ6_putChar_1 9 rfl rfl)
theorem dJ6_putChar_34 : decode cJ6_putChar 34 = .ok (.iinc 1 1, 3) := dk_132 1 1 (dk_at dksJ6_putChar_1 10 rfl rfl)
theorem dJ6_putChar_37 : decode cJ6_putChar 37 = .ok (.iload_n 2, 1) := dk_28 (dk_at dksJ6_putChar_1 13 rfl rfl)
theorem dJ6_putChar_38 : decode cJ6_putChar 38 = .ok (.getstatic 59, 3) := dk_178 0 59 (dk_at dksJ6_putChar_1 14 rfl rfl)
theorem dJ6_putChar_41 : decode cJ6_putChar 41 = .ok (.ishr, 1) := dk_122 (dk_at dksJ6_putChar_1 17 rfl rfl)
theorem dJ6_putChar_42 : decode cJ6_putChar 42 = .ok (.i2b, 1) := dk_145 (dk_at dksJ6_putChar_1 18 rfl rfl)
theorem dJ6_putChar_43 : decode cJ6_putChar 43 = .ok (.bastore, 1) := dk_84 (dk_at dksJ6_putChar_1 19 rfl rfl)
theorem dJ6_putChar_44 : decode cJ6_putChar 44 = .ok (.aload_n 0, 1) := dk_42 (dk_at dksJ6_putChar_1 20 rfl rfl)
theorem dJ6_putChar_45 : decode cJ6_putChar 45 = .ok (.iload_n 1, 1) := dk_27 (dk_at dksJ6_putChar_1 21 rfl rfl)
theorem dJ6_putChar_46 : decode cJ6_putChar 46 = .ok (.iload_n 2, 1) := dk_28 (dk_at dksJ6_putChar_1 22 rfl rfl)
theorem dJ6_putChar_47 : decode cJ6_putChar 47 = .ok (.getstatic 63, 3) := dk_178 0 63 (dk_at dksJ6_putChar_2 0 rfl rfl)
theorem dJ6_putChar_50 : decode cJ6_putChar 50 = .ok (.ishr, 1) := dk_122 (dk_at dksJ6_putChar_2 3 rfl rfl)
theorem dJ6_putChar_51 : decode cJ6_putChar 51 = .ok (.i2b, 1) := dk_145 (dk_at dksJ6_putChar_2 4 rfl rfl)
theorem dJ6_putChar_52 : decode cJ6_putChar 52 = .ok (.bastore, 1) := dk_84 (dk_at dksJ6_putChar_2 5 rfl rfl)
theorem dJ6_putChar_53 : decode cJ6_putChar 53 = .ok (.return_, 1) := dk_177 (dk_at dksJ6_putChar_2 6 rfl rfl)
abbrev cJ6_length : ByteArray := prog_21_method_6_code
def yJ6_length : MethodName := ⟨RJ6, "length", "([B)I"⟩
def dkwJ6_length_0 : List UInt8 := [42, 190, 4, 122, 172]
abbrev dktJ6_length_0 : List UInt8 := dkwJ6_length_0 ++ []
theorem dksJ6_length_0 : cJ6_length.data.toList.drop 0 = dktJ6_length_0 := by decide +kernel
theorem dJ6_length_0 : decode cJ6_length 0 = .ok (.aload_n 0, 1) := dk_42 (dk_at dksJ6_length_0 0 rfl rfl)
theorem dJ6_length_1 : decode cJ6_length 1 = .ok (.arraylength, 1) := dk_190 (dk_at dksJ6_length_0 1 rfl rfl)
theorem dJ6_length_2 : decode cJ6_length 2 = .ok (.iconst 1, 1) := dk_4 (dk_at dksJ6_length_0 2 rfl rfl)
theorem dJ6_length_3 : decode cJ6_length 3 = .ok (.ishr, 1) := dk_122 (dk_at dksJ6_length_0 3 rfl rfl)
theorem dJ6_length_4 : decode cJ6_length 4 = .ok (.ireturn, 1) := dk_172 (dk_at dksJ6_length_0 4 rfl rfl)
abbrev cJ6_getChar : ByteArray := prog_21_method_5_code
def yJ6_getChar : MethodName := ⟨RJ6, "getChar", "([BI)C"⟩
def dkwJ6_getChar_2 : List UInt8 := [51, 17, 0, 255, 126, 178, 0, 63, 120, 128, 146, 172]
abbrev dktJ6_getChar_2 : List UInt8 := dkwJ6_getChar_2 ++ []
def dkwJ6_getChar_1 : List UInt8 := [183, 0, 56, 191, 27, 4, 120, 60, 42, 27, 132, 1, 1, 51, 17, 0, 255, 126, 178, 0, 59, 120, 42, 27]
abbrev dktJ6_getChar_1 : List UInt8 := dkwJ6_getChar_1 ++ dktJ6_getChar_2
def dkwJ6_getChar_0 : List UInt8 := [178, 0, 44, 154, 0, 25, 27, 155, 0, 11, 27, 42, 184, 0, 48, 161, 0, 13, 187, 0, 52, 89, 18, 54]
abbrev dktJ6_getChar_0 : List UInt8 := dkwJ6_getChar_0 ++ dktJ6_getChar_1
theorem dksJ6_getChar_0 : cJ6_getChar.data.toList.drop 0 = dktJ6_getChar_0 := by decide +kernel
theorem dksJ6_getChar_1 : cJ6_getChar.data.toList.drop 24 = dktJ6_getChar_1 := dk_seg dksJ6_getChar_0 24 rfl rfl
theorem dksJ6_getChar_2 : cJ6_getChar.data.toList.drop 48 = dktJ6_getChar_2 := dk_seg dksJ6_getChar_1 24 rfl rfl
theorem dJ6_getChar_0 : decode cJ6_getChar 0 = .ok (.getstatic 44, 3) := dk_178 0 44 (dk_at dksJ6_getChar_0 0 rfl rfl)
theorem dJ6_getChar_3 : decode cJ6_getChar 3 = .ok (.ifCond .ne 25, 3) := dk_154 0 25 (dk_at dksJ6_getChar_0 3 rfl rfl)
theorem dJ6_getChar_6 : decode cJ6_getChar 6 = .ok (.iload_n 1, 1) := dk_27 (dk_at dksJ6_getChar_0 6 rfl rfl)
theorem dJ6_getChar_7 : decode cJ6_getChar 7 = .ok (.ifCond .lt 11, 3) := dk_155 0 11 (dk_at dksJ6_getChar_0 7 rfl rfl)
theorem dJ6_getChar_10 : decode cJ6_getChar 10 = .ok (.iload_n 1, 1) := dk_27 (dk_at dksJ6_getChar_0 10 rfl rfl)
theorem dJ6_getChar_11 : decode cJ6_getChar 11 = .ok (.aload_n 0, 1) := dk_42 (dk_at dksJ6_getChar_0 11 rfl rfl)
theorem dJ6_getChar_12 : decode cJ6_getChar 12 = .ok (.invokestatic 48, 3) := dk_184 0 48 (dk_at dksJ6_getChar_0 12 rfl rfl)
theorem dJ6_getChar_15 : decode cJ6_getChar 15 = .ok (.if_icmp .lt 13, 3) := dk_161 0 13 (dk_at dksJ6_getChar_0 15 rfl rfl)
theorem dJ6_getChar_18 : decode cJ6_getChar 18 = .ok (.new 52, 3) := dk_187 0 52 (dk_at dksJ6_getChar_0 18 rfl rfl)
theorem dJ6_getChar_21 : decode cJ6_getChar 21 = .ok (.dup, 1) := dk_89 (dk_at dksJ6_getChar_0 21 rfl rfl)
theorem dJ6_getChar_22 : decode cJ6_getChar 22 = .ok (.ldc 54, 2) := dk_18 54 (dk_at dksJ6_getChar_0 22 rfl rfl)
theorem dJ6_getChar_24 : decode cJ6_getChar 24 = .ok (.invokespecial 56, 3) := dk_183 0 56 (dk_at dksJ6_getChar_1 0 rfl rfl)
theorem dJ6_getChar_27 : decode cJ6_getChar 27 = .ok (.athrow, 1) := dk_191 (dk_at dksJ6_getChar_1 3 rfl rfl)
theorem dJ6_getChar_28 : decode cJ6_getChar 28 = .ok (.iload_n 1, 1) := dk_27 (dk_at dksJ6_getChar_1 4 rfl rfl)
theorem dJ6_getChar_29 : decode cJ6_getChar 29 = .ok (.iconst 1, 1) := dk_4 (dk_at dksJ6_getChar_1 5 rfl rfl)
theorem dJ6_getChar_30 : decode cJ6_getChar 30 = .ok (.ishl, 1) := dk_120 (dk_at dksJ6_getChar_1 6 rfl rfl)
theorem dJ6_getChar_31 : decode cJ6_getChar 31 = .ok (.istore_n 1, 1) := dk_60 (dk_at dksJ6_getChar_1 7 rfl rfl)
theorem dJ6_getChar_32 : decode cJ6_getChar 32 = .ok (.aload_n 0, 1) := dk_42 (dk_at dksJ6_getChar_1 8 rfl rfl)
theorem dJ6_getChar_33 : decode cJ6_getChar 33 = .ok (.iload_n 1, 1) := dk_27 (dk_at dksJ6_getChar_1 9 rfl rfl)
theorem dJ6_getChar_34 : decode cJ6_getChar 34 = .ok (.iinc 1 1, 3) := dk_132 1 1 (dk_at dksJ6_getChar_1 10 rfl rfl)
theorem dJ6_getChar_37 : decode cJ6_getChar 37 = .ok (.baload, 1) := dk_51 (dk_at dksJ6_getChar_1 13 rfl rfl)
theorem dJ6_getChar_38 : decode cJ6_getChar 38 = .ok (.sipush 255, 3) := dk_17 0 255 (dk_at dksJ6_getChar_1 14 rfl rfl)
theorem dJ6_getChar_41 : decode cJ6_getChar 41 = .ok (.iand, 1) := dk_126 (dk_at dksJ6_getChar_1 17 rfl rfl)
theorem dJ6_getChar_42 : decode cJ6_getChar 42 = .ok (.getstatic 59, 3) := dk_178 0 59 (dk_at dksJ6_getChar_1 18 rfl rfl)
theorem dJ6_getChar_45 : decode cJ6_getChar 45 = .ok (.ishl, 1) := dk_120 (dk_at dksJ6_getChar_1 21 rfl rfl)
theorem dJ6_getChar_46 : decode cJ6_getChar 46 = .ok (.aload_n 0, 1) := dk_42 (dk_at dksJ6_getChar_1 22 rfl rfl)
theorem dJ6_getChar_47 : decode cJ6_getChar 47 = .ok (.iload_n 1, 1) := dk_27 (dk_at dksJ6_getChar_1 23 rfl rfl)
theorem dJ6_getChar_48 : decode cJ6_getChar 48 = .ok (.baload, 1) := dk_51 (dk_at dksJ6_getChar_2 0 rfl rfl)
theorem dJ6_getChar_49 : decode cJ6_getChar 49 = .ok (.sipush 255, 3) := dk_17 0 255 (dk_at dksJ6_getChar_2 1 rfl rfl)
theorem dJ6_getChar_52 : decode cJ6_getChar 52 = .ok (.iand, 1) := dk_126 (dk_at dksJ6_getChar_2 4 rfl rfl)
theorem dJ6_getChar_53 : decode cJ6_getChar 53 = .ok (.getstatic 63, 3) := dk_178 0 63 (dk_at dksJ6_getChar_2 5 rfl rfl)
theorem dJ6_getChar_56 : decode cJ6_getChar 56 = .ok (.ishl, 1) := dk_120 (dk_at dksJ6_getChar_2 8 rfl rfl)
theorem dJ6_getChar_57 : decode cJ6_getChar 57 = .ok (.ior, 1) := dk_128 (dk_at dksJ6_getChar_2 9 rfl rfl)
theorem dJ6_getChar_58 : decode cJ6_getChar 58 = .ok (.i2c, 1) := dk_146 (dk_at dksJ6_getChar_2 10 rfl rfl)
theorem dJ6_getChar_59 : decode cJ6_getChar 59 = .ok (.ireturn, 1) := dk_172 (dk_at dksJ6_getChar_2 11 rfl rfl)
abbrev cJ6_compress_3 : ByteArray := prog_21_method_22_code
def yJ6_compress_3 : MethodName := ⟨RJ6, "compress", "([BI[BII)I"⟩
def dkwJ6_compress_3_2 : List UInt8 := [132, 5, 1, 167, 255, 216, 21, 4, 172]
abbrev dktJ6_compress_3_2 : List UInt8 := dkwJ6_compress_3_2 ++ []
def dkwJ6_compress_3_1 : List UInt8 := [21, 6, 17, 0, 255, 164, 0, 6, 21, 5, 172, 44, 29, 21, 6, 145, 84, 132, 1, 1, 132, 3, 1]
abbrev dktJ6_compress_3_1 : List UInt8 := dkwJ6_compress_3_1 ++ dktJ6_compress_3_2
def dkwJ6_compress_3_0 : List UInt8 := [27, 21, 4, 42, 184, 0, 173, 3, 54, 5, 21, 5, 21, 4, 162, 0, 39, 42, 27, 184, 0, 71, 54, 6]
abbrev dktJ6_compress_3_0 : List UInt8 := dkwJ6_compress_3_0 ++ dktJ6_compress_3_1
theorem dksJ6_compress_3_0 : cJ6_compress_3.data.toList.drop 0 = dktJ6_compress_3_0 := by decide +kernel
theorem dksJ6_compress_3_1 : cJ6_compress_3.data.toList.drop 24 = dktJ6_compress_3_1 := dk_seg dksJ6_compress_3_0 24 rfl rfl
theorem dksJ6_compress_3_2 : cJ6_compress_3.data.toList.drop 47 = dktJ6_compress_3_2 := dk_seg dksJ6_compress_3_1 23 rfl rfl
theorem dJ6_compress_3_0 : decode cJ6_compress_3 0 = .ok (.iload_n 1, 1) := dk_27 (dk_at dksJ6_compress_3_0 0 rfl rfl)
theorem dJ6_compress_3_1 : decode cJ6_compress_3 1 = .ok (.iload 4, 2) := dk_21 4 (dk_at dksJ6_compress_3_0 1 rfl rfl)
theorem dJ6_compress_3_3 : decode cJ6_compress_3 3 = .ok (.aload_n 0, 1) := dk_42 (dk_at dksJ6_compress_3_0 3 rfl rfl)
theorem dJ6_compress_3_4 : decode cJ6_compress_3 4 = .ok (.invokestatic 173, 3) := dk_184 0 173 (dk_at dksJ6_compress_3_0 4 rfl rfl)
theorem dJ6_compress_3_7 : decode cJ6_compress_3 7 = .ok (.iconst 0, 1) := dk_3 (dk_at dksJ6_compress_3_0 7 rfl rfl)
theorem dJ6_compress_3_8 : decode cJ6_compress_3 8 = .ok (.istore 5, 2) := dk_54 5 (dk_at dksJ6_compress_3_0 8 rfl rfl)
theorem dJ6_compress_3_10 : decode cJ6_compress_3 10 = .ok (.iload 5, 2) := dk_21 5 (dk_at dksJ6_compress_3_0 10 rfl rfl)
theorem dJ6_compress_3_12 : decode cJ6_compress_3 12 = .ok (.iload 4, 2) := dk_21 4 (dk_at dksJ6_compress_3_0 12 rfl rfl)
theorem dJ6_compress_3_14 : decode cJ6_compress_3 14 = .ok (.if_icmp .ge 39, 3) := dk_162 0 39 (dk_at dksJ6_compress_3_0 14 rfl rfl)
theorem dJ6_compress_3_17 : decode cJ6_compress_3 17 = .ok (.aload_n 0, 1) := dk_42 (dk_at dksJ6_compress_3_0 17 rfl rfl)
theorem dJ6_compress_3_18 : decode cJ6_compress_3 18 = .ok (.iload_n 1, 1) := dk_27 (dk_at dksJ6_compress_3_0 18 rfl rfl)
theorem dJ6_compress_3_19 : decode cJ6_compress_3 19 = .ok (.invokestatic 71, 3) := dk_184 0 71 (dk_at dksJ6_compress_3_0 19 rfl rfl)
theorem dJ6_compress_3_22 : decode cJ6_compress_3 22 = .ok (.istore 6, 2) := dk_54 6 (dk_at dksJ6_compress_3_0 22 rfl rfl)
theorem dJ6_compress_3_24 : decode cJ6_compress_3 24 = .ok (.iload 6, 2) := dk_21 6 (dk_at dksJ6_compress_3_1 0 rfl rfl)
theorem dJ6_compress_3_26 : decode cJ6_compress_3 26 = .ok (.sipush 255, 3) := dk_17 0 255 (dk_at dksJ6_compress_3_1 2 rfl rfl)
theorem dJ6_compress_3_29 : decode cJ6_compress_3 29 = .ok (.if_icmp .le 6, 3) := dk_164 0 6 (dk_at dksJ6_compress_3_1 5 rfl rfl)
theorem dJ6_compress_3_32 : decode cJ6_compress_3 32 = .ok (.iload 5, 2) := dk_21 5 (dk_at dksJ6_compress_3_1 8 rfl rfl)
theorem dJ6_compress_3_34 : decode cJ6_compress_3 34 = .ok (.ireturn, 1) := dk_172 (dk_at dksJ6_compress_3_1 10 rfl rfl)
theorem dJ6_compress_3_35 : decode cJ6_compress_3 35 = .ok (.aload_n 2, 1) := dk_44 (dk_at dksJ6_compress_3_1 11 rfl rfl)
theorem dJ6_compress_3_36 : decode cJ6_compress_3 36 = .ok (.iload_n 3, 1) := dk_29 (dk_at dksJ6_compress_3_1 12 rfl rfl)
theorem dJ6_compress_3_37 : decode cJ6_compress_3 37 = .ok (.iload 6, 2) := dk_21 6 (dk_at dksJ6_compress_3_1 13 rfl rfl)
theorem dJ6_compress_3_39 : decode cJ6_compress_3 39 = .ok (.i2b, 1) := dk_145 (dk_at dksJ6_compress_3_1 15 rfl rfl)
theorem dJ6_compress_3_40 : decode cJ6_compress_3 40 = .ok (.bastore, 1) := dk_84 (dk_at dksJ6_compress_3_1 16 rfl rfl)
theorem dJ6_compress_3_41 : decode cJ6_compress_3 41 = .ok (.iinc 1 1, 3) := dk_132 1 1 (dk_at dksJ6_compress_3_1 17 rfl rfl)
theorem dJ6_compress_3_44 : decode cJ6_compress_3 44 = .ok (.iinc 3 1, 3) := dk_132 3 1 (dk_at dksJ6_compress_3_1 20 rfl rfl)
theorem dJ6_compress_3_47 : decode cJ6_compress_3 47 = .ok (.iinc 5 1, 3) := dk_132 5 1 (dk_at dksJ6_compress_3_2 0 rfl rfl)
theorem dJ6_compress_3_50 : decode cJ6_compress_3 50 = .ok (.goto (-40), 3) := dk_167 255 216 (dk_at dksJ6_compress_3_2 3 rfl rfl)
theorem dJ6_compress_3_53 : decode cJ6_compress_3 53 = .ok (.iload 4, 2) := dk_21 4 (dk_at dksJ6_compress_3_2 6 rfl rfl)
theorem dJ6_compress_3_55 : decode cJ6_compress_3 55 = .ok (.ireturn, 1) := dk_172 (dk_at dksJ6_compress_3_2 8 rfl rfl)
abbrev cJ6_checkBoundsOffCount : ByteArray := prog_21_method_94_code
def yJ6_checkBoundsOffCount : MethodName := ⟨RJ6, "checkBoundsOffCount", "(II[B)V"⟩
def dkwJ6_checkBoundsOffCount_0 : List UInt8 := [26, 27, 44, 184, 0, 48, 184, 1, 163, 87, 177]
abbrev dktJ6_checkBoundsOffCount_0 : List UInt8 := dkwJ6_checkBoundsOffCount_0 ++ []
theorem dksJ6_checkBoundsOffCount_0 : cJ6_checkBoundsOffCount.data.toList.drop 0 = dktJ6_checkBoundsOffCount_0 := by decide +kernel
theorem dJ6_checkBoundsOffCount_0 : decode cJ6_checkBoundsOffCount 0 = .ok (.iload_n 0, 1) := dk_26 (dk_at dksJ6_checkBoundsOffCount_0 0 rfl rfl)
theorem dJ6_checkBoundsOffCount_1 : decode cJ6_checkBoundsOffCount 1 = .ok (.iload_n 1, 1) := dk_27 (dk_at dksJ6_checkBoundsOffCount_0 1 rfl rfl)
theorem dJ6_checkBoundsOffCount_2 : decode cJ6_checkBoundsOffCount 2 = .ok (.aload_n 2, 1) := dk_44 (dk_at dksJ6_checkBoundsOffCount_0 2 rfl rfl)
theorem dJ6_checkBoundsOffCount_3 : decode cJ6_checkBoundsOffCount 3 = .ok (.invokestatic 48, 3) := dk_184 0 48 (dk_at dksJ6_checkBoundsOffCount_0 3 rfl rfl)
theorem dJ6_checkBoundsOffCount_6 : decode cJ6_checkBoundsOffCount 6 = .ok (.invokestatic 419, 3) := dk_184 1 163 (dk_at dksJ6_checkBoundsOffCount_0 6 rfl rfl)
theorem dJ6_checkBoundsOffCount_9 : decode cJ6_checkBoundsOffCount 9 = .ok (.pop, 1) := dk_87 (dk_at dksJ6_checkBoundsOffCount_0 9 rfl rfl)
theorem dJ6_checkBoundsOffCount_10 : decode cJ6_checkBoundsOffCount 10 = .ok (.return_, 1) := dk_177 (dk_at dksJ6_checkBoundsOffCount_0 10 rfl rfl)
abbrev cJ6_coderFromArrayLen : ByteArray := prog_21_method_15_code
def yJ6_coderFromArrayLen : MethodName := ⟨RJ6, "coderFromArrayLen", "([BI)B"⟩
def dkwJ6_coderFromArrayLen_0 : List UInt8 := [27, 42, 190, 100, 16, 31, 124, 145, 172]
abbrev dktJ6_coderFromArrayLen_0 : List UInt8 := dkwJ6_coderFromArrayLen_0 ++ []
theorem dksJ6_coderFromArrayLen_0 : cJ6_coderFromArrayLen.data.toList.drop 0 = dktJ6_coderFromArrayLen_0 := by decide +kernel
theorem dJ6_coderFromArrayLen_0 : decode cJ6_coderFromArrayLen 0 = .ok (.iload_n 1, 1) := dk_27 (dk_at dksJ6_coderFromArrayLen_0 0 rfl rfl)
theorem dJ6_coderFromArrayLen_1 : decode cJ6_coderFromArrayLen 1 = .ok (.aload_n 0, 1) := dk_42 (dk_at dksJ6_coderFromArrayLen_0 1 rfl rfl)
theorem dJ6_coderFromArrayLen_2 : decode cJ6_coderFromArrayLen 2 = .ok (.arraylength, 1) := dk_190 (dk_at dksJ6_coderFromArrayLen_0 2 rfl rfl)
theorem dJ6_coderFromArrayLen_3 : decode cJ6_coderFromArrayLen 3 = .ok (.isub, 1) := dk_100 (dk_at dksJ6_coderFromArrayLen_0 3 rfl rfl)
theorem dJ6_coderFromArrayLen_4 : decode cJ6_coderFromArrayLen 4 = .ok (.bipush 31, 2) := dk_16 31 (dk_at dksJ6_coderFromArrayLen_0 4 rfl rfl)
theorem dJ6_coderFromArrayLen_6 : decode cJ6_coderFromArrayLen 6 = .ok (.iushr, 1) := dk_124 (dk_at dksJ6_coderFromArrayLen_0 6 rfl rfl)
theorem dJ6_coderFromArrayLen_7 : decode cJ6_coderFromArrayLen 7 = .ok (.i2b, 1) := dk_145 (dk_at dksJ6_coderFromArrayLen_0 7 rfl rfl)
theorem dJ6_coderFromArrayLen_8 : decode cJ6_coderFromArrayLen 8 = .ok (.ireturn, 1) := dk_172 (dk_at dksJ6_coderFromArrayLen_0 8 rfl rfl)
abbrev cJ6_hashCode : ByteArray := prog_21_method_39_code
def yJ6_hashCode : MethodName := ⟨RJ6, "hashCode", "([B)I"⟩
def dkwJ6_hashCode_2 : List UInt8 := [3, 167, 0, 22, 42, 3, 184, 0, 71, 167, 0, 14, 42, 3, 42, 190, 4, 122, 3, 8, 184, 0, 220, 172]
abbrev dktJ6_hashCode_2 : List UInt8 := dkwJ6_hashCode_2 ++ []
def dkwJ6_hashCode_1 : List UInt8 := [171, 0, 0, 0, 0, 38, 0, 0, 0, 2, 0, 0, 0, 0, 0, 0, 0, 26, 0, 0, 0, 2, 0, 0, 0, 30]
abbrev dktJ6_hashCode_1 : List UInt8 := dkwJ6_hashCode_1 ++ dktJ6_hashCode_2
def dkwJ6_hashCode_0 : List UInt8 := [42, 190]
abbrev dktJ6_hashCode_0 : List UInt8 := dkwJ6_hashCode_0 ++ dktJ6_hashCode_1
theorem dksJ6_hashCode_0 : cJ6_hashCode.data.toList.drop 0 = dktJ6_hashCode_0 := by decide +kernel
theorem dksJ6_hashCode_1 : cJ6_hashCode.data.toList.drop 2 = dktJ6_hashCode_1 := dk_seg dksJ6_hashCode_0 2 rfl rfl
theorem dksJ6_hashCode_2 : cJ6_hashCode.data.toList.drop 28 = dktJ6_hashCode_2 := dk_seg dksJ6_hashCode_1 26 rfl rfl
theorem dJ6_hashCode_0 : decode cJ6_hashCode 0 = .ok (.aload_n 0, 1) := dk_42 (dk_at dksJ6_hashCode_0 0 rfl rfl)
theorem dJ6_hashCode_1 : decode cJ6_hashCode 1 = .ok (.arraylength, 1) := dk_190 (dk_at dksJ6_hashCode_0 1 rfl rfl)
theorem dJ6_hashCode_2 : decode cJ6_hashCode 2 = .ok (.lookupswitch 38 #[(0, 26), (2, 30)], 26) := by decide +kernel
theorem dJ6_hashCode_28 : decode cJ6_hashCode 28 = .ok (.iconst 0, 1) := dk_3 (dk_at dksJ6_hashCode_2 0 rfl rfl)
theorem dJ6_hashCode_29 : decode cJ6_hashCode 29 = .ok (.goto 22, 3) := dk_167 0 22 (dk_at dksJ6_hashCode_2 1 rfl rfl)
theorem dJ6_hashCode_32 : decode cJ6_hashCode 32 = .ok (.aload_n 0, 1) := dk_42 (dk_at dksJ6_hashCode_2 4 rfl rfl)
theorem dJ6_hashCode_33 : decode cJ6_hashCode 33 = .ok (.iconst 0, 1) := dk_3 (dk_at dksJ6_hashCode_2 5 rfl rfl)
theorem dJ6_hashCode_34 : decode cJ6_hashCode 34 = .ok (.invokestatic 71, 3) := dk_184 0 71 (dk_at dksJ6_hashCode_2 6 rfl rfl)
theorem dJ6_hashCode_37 : decode cJ6_hashCode 37 = .ok (.goto 14, 3) := dk_167 0 14 (dk_at dksJ6_hashCode_2 9 rfl rfl)
theorem dJ6_hashCode_40 : decode cJ6_hashCode 40 = .ok (.aload_n 0, 1) := dk_42 (dk_at dksJ6_hashCode_2 12 rfl rfl)
theorem dJ6_hashCode_41 : decode cJ6_hashCode 41 = .ok (.iconst 0, 1) := dk_3 (dk_at dksJ6_hashCode_2 13 rfl rfl)
theorem dJ6_hashCode_42 : decode cJ6_hashCode 42 = .ok (.aload_n 0, 1) := dk_42 (dk_at dksJ6_hashCode_2 14 rfl rfl)
theorem dJ6_hashCode_43 : decode cJ6_hashCode 43 = .ok (.arraylength, 1) := dk_190 (dk_at dksJ6_hashCode_2 15 rfl rfl)
theorem dJ6_hashCode_44 : decode cJ6_hashCode 44 = .ok (.iconst 1, 1) := dk_4 (dk_at dksJ6_hashCode_2 16 rfl rfl)
theorem dJ6_hashCode_45 : decode cJ6_hashCode 45 = .ok (.ishr, 1) := dk_122 (dk_at dksJ6_hashCode_2 17 rfl rfl)
theorem dJ6_hashCode_46 : decode cJ6_hashCode 46 = .ok (.iconst 0, 1) := dk_3 (dk_at dksJ6_hashCode_2 18 rfl rfl)
theorem dJ6_hashCode_47 : decode cJ6_hashCode 47 = .ok (.iconst 5, 1) := dk_8 (dk_at dksJ6_hashCode_2 19 rfl rfl)
theorem dJ6_hashCode_48 : decode cJ6_hashCode 48 = .ok (.invokestatic 220, 3) := dk_184 0 220 (dk_at dksJ6_hashCode_2 20 rfl rfl)
theorem dJ6_hashCode_51 : decode cJ6_hashCode 51 = .ok (.ireturn, 1) := dk_172 (dk_at dksJ6_hashCode_2 23 rfl rfl)
abbrev cJ6_charAt : ByteArray := prog_21_method_83_code
def yJ6_charAt : MethodName := ⟨RJ6, "charAt", "([BI)C"⟩
def dkwJ6_charAt_0 : List UInt8 := [27, 42, 184, 0, 67, 42, 27, 184, 0, 71, 172]
abbrev dktJ6_charAt_0 : List UInt8 := dkwJ6_charAt_0 ++ []
theorem dksJ6_charAt_0 : cJ6_charAt.data.toList.drop 0 = dktJ6_charAt_0 := by decide +kernel
theorem dJ6_charAt_0 : decode cJ6_charAt 0 = .ok (.iload_n 1, 1) := dk_27 (dk_at dksJ6_charAt_0 0 rfl rfl)
theorem dJ6_charAt_1 : decode cJ6_charAt 1 = .ok (.aload_n 0, 1) := dk_42 (dk_at dksJ6_charAt_0 1 rfl rfl)
theorem dJ6_charAt_2 : decode cJ6_charAt 2 = .ok (.invokestatic 67, 3) := dk_184 0 67 (dk_at dksJ6_charAt_0 2 rfl rfl)
theorem dJ6_charAt_5 : decode cJ6_charAt 5 = .ok (.aload_n 0, 1) := dk_42 (dk_at dksJ6_charAt_0 5 rfl rfl)
theorem dJ6_charAt_6 : decode cJ6_charAt 6 = .ok (.iload_n 1, 1) := dk_27 (dk_at dksJ6_charAt_0 6 rfl rfl)
theorem dJ6_charAt_7 : decode cJ6_charAt 7 = .ok (.invokestatic 71, 3) := dk_184 0 71 (dk_at dksJ6_charAt_0 7 rfl rfl)
theorem dJ6_charAt_10 : decode cJ6_charAt 10 = .ok (.ireturn, 1) := dk_172 (dk_at dksJ6_charAt_0 10 rfl rfl)
abbrev cJ6_checkIndex : ByteArray := prog_21_method_91_code
def yJ6_checkIndex : MethodName := ⟨RJ6, "checkIndex", "(I[B)V"⟩
def dkwJ6_checkIndex_0 : List UInt8 := [26, 43, 184, 0, 48, 184, 1, 158, 177]
abbrev dktJ6_checkIndex_0 : List UInt8 := dkwJ6_checkIndex_0 ++ []
theorem dksJ6_checkIndex_0 : cJ6_checkIndex.data.toList.drop 0 = dktJ6_checkIndex_0 := by decide +kernel
theorem dJ6_checkIndex_0 : decode cJ6_checkIndex 0 = .ok (.iload_n 0, 1) := dk_26 (dk_at dksJ6_checkIndex_0 0 rfl rfl)
theorem dJ6_checkIndex_1 : decode cJ6_checkIndex 1 = .ok (.aload_n 1, 1) := dk_43 (dk_at dksJ6_checkIndex_0 1 rfl rfl)
theorem dJ6_checkIndex_2 : decode cJ6_checkIndex 2 = .ok (.invokestatic 48, 3) := dk_184 0 48 (dk_at dksJ6_checkIndex_0 2 rfl rfl)
theorem dJ6_checkIndex_5 : decode cJ6_checkIndex 5 = .ok (.invokestatic 414, 3) := dk_184 1 158 (dk_at dksJ6_checkIndex_0 5 rfl rfl)
theorem dJ6_checkIndex_8 : decode cJ6_checkIndex 8 = .ok (.return_, 1) := dk_177 (dk_at dksJ6_checkIndex_0 8 rfl rfl)
theorem q131 : (Jvm.Cond.initialized "java/lang/StringUTF16") ∈ lw_all := lw_g (lw_at lw_m1 14 rfl) rfl
theorem q531 : (Jvm.Cond.static ({ cls := "java/lang/StringUTF16", name := "compress", desc := "([CII)[B" } : Jvm.MethodName)) ∈ lw_all := lw_g (lw_at lw_m2 174 rfl) rfl
theorem q532 : (Jvm.Cond.code ({ cls := "java/lang/StringUTF16", name := "compress", desc := "([CII)[B" } : Jvm.MethodName) prog_21_method_16_code (6 : Nat) (Option.some (Jvm.ClassFile.FieldType.array Jvm.ClassFile.FieldType.byte))) ∈ lw_all := lw_g (lw_at lw_m2 175 rfl) rfl
theorem q533 : (Jvm.Cond.methodLink "java/lang/StringUTF16" (115 : Nat) ({ cls := "java/lang/StringUTF16", name := "compress", desc := "([CI[BII)I" } : Jvm.MethodName)) ∈ lw_all := lw_g (lw_at lw_m2 176 rfl) rfl
theorem q534 : (Jvm.Cond.static ({ cls := "java/lang/StringUTF16", name := "compress", desc := "([CI[BII)I" } : Jvm.MethodName)) ∈ lw_all := lw_g (lw_at lw_m2 177 rfl) rfl
theorem q535 : (Jvm.Cond.code ({ cls := "java/lang/StringUTF16", name := "compress", desc := "([CI[BII)I" } : Jvm.MethodName) prog_21_method_21_code (7 : Nat) (Option.some Jvm.ClassFile.FieldType.int)) ∈ lw_all := lw_g (lw_at lw_m2 178 rfl) rfl
theorem q536 : (Jvm.Cond.methodLink "java/lang/StringUTF16" (119 : Nat) ({ cls := "java/lang/StringUTF16", name := "toBytes", desc := "([CII)[B" } : Jvm.MethodName)) ∈ lw_all := lw_g (lw_at lw_m2 179 rfl) rfl
theorem q537 : (Jvm.Cond.static ({ cls := "java/lang/StringUTF16", name := "toBytes", desc := "([CII)[B" } : Jvm.MethodName)) ∈ lw_all := lw_g (lw_at lw_m2 180 rfl) rfl
theorem q538 : (Jvm.Cond.code ({ cls := "java/lang/StringUTF16", name := "toBytes", desc := "([CII)[B" } : Jvm.MethodName) prog_21_method_14_code (5 : Nat) (Option.some (Jvm.ClassFile.FieldType.array Jvm.ClassFile.FieldType.byte))) ∈ lw_all := lw_g (lw_at lw_m2 181 rfl) rfl
theorem q539 : (Jvm.Cond.methodLink "java/lang/StringUTF16" (107 : Nat) ({ cls := "java/lang/StringUTF16", name := "newBytesFor", desc := "(I)[B" } : Jvm.MethodName)) ∈ lw_all := lw_g (lw_at lw_m2 182 rfl) rfl
theorem q540 : (Jvm.Cond.static ({ cls := "java/lang/StringUTF16", name := "newBytesFor", desc := "(I)[B" } : Jvm.MethodName)) ∈ lw_all := lw_g (lw_at lw_m2 183 rfl) rfl
theorem q541 : (Jvm.Cond.code ({ cls := "java/lang/StringUTF16", name := "newBytesFor", desc := "(I)[B" } : Jvm.MethodName) prog_21_method_2_code (1 : Nat) (Option.some (Jvm.ClassFile.FieldType.array Jvm.ClassFile.FieldType.byte))) ∈ lw_all := lw_g (lw_at lw_m2 184 rfl) rfl
theorem q542 : (Jvm.Cond.methodLink "java/lang/StringUTF16" (11 : Nat) ({ cls := "java/lang/StringUTF16", name := "newBytesLength", desc := "(I)I" } : Jvm.MethodName)) ∈ lw_all := lw_g (lw_at lw_m2 185 rfl) rfl
theorem q543 : (Jvm.Cond.static ({ cls := "java/lang/StringUTF16", name := "newBytesLength", desc := "(I)I" } : Jvm.MethodName)) ∈ lw_all := lw_g (lw_at lw_m2 186 rfl) rfl
theorem q544 : (Jvm.Cond.code ({ cls := "java/lang/StringUTF16", name := "newBytesLength", desc := "(I)I" } : Jvm.MethodName) prog_21_method_3_code (1 : Nat) (Option.some Jvm.ClassFile.FieldType.int)) ∈ lw_all := lw_g (lw_at lw_m2 187 rfl) rfl
theorem q545 : (Jvm.Cond.constant "java/lang/StringUTF16" (20 : Nat) (1073741823 : Int32)) ∈ lw_all := lw_g (lw_at lw_m2 188 rfl) rfl
theorem q546 : (Jvm.Cond.methodLink "java/lang/StringUTF16" (111 : Nat) ({ cls := "java/lang/StringUTF16", name := "putChar", desc := "([BII)V" } : Jvm.MethodName)) ∈ lw_all := lw_g (lw_at lw_m2 189 rfl) rfl
theorem q547 : (Jvm.Cond.static ({ cls := "java/lang/StringUTF16", name := "putChar", desc := "([BII)V" } : Jvm.MethodName)) ∈ lw_all := lw_g (lw_at lw_m2 190 rfl) rfl
theorem q548 : (Jvm.Cond.code ({ cls := "java/lang/StringUTF16", name := "putChar", desc := "([BII)V" } : Jvm.MethodName) prog_21_method_4_code (3 : Nat) (Option.none : Option Jvm.ClassFile.FieldType)) ∈ lw_all := lw_g (lw_at lw_m2 191 rfl) rfl
theorem q549 : (Jvm.Cond.fieldLink "java/lang/StringUTF16" (44 : Nat) "java/lang/StringUTF16" "$assertionsDisabled" "Z") ∈ lw_all := lw_g (lw_at lw_m2 192 rfl) rfl
theorem q550 : (Jvm.Cond.laysStatic "java/lang/StringUTF16" "$assertionsDisabled" "Z") ∈ lw_tbl := lw_at lw_m2 193 rfl
theorem q551 : (Jvm.Cond.methodLink "java/lang/StringUTF16" (48 : Nat) ({ cls := "java/lang/StringUTF16", name := "length", desc := "([B)I" } : Jvm.MethodName)) ∈ lw_all := lw_g (lw_at lw_m2 194 rfl) rfl
theorem q552 : (Jvm.Cond.static ({ cls := "java/lang/StringUTF16", name := "length", desc := "([B)I" } : Jvm.MethodName)) ∈ lw_all := lw_g (lw_at lw_m2 195 rfl) rfl
theorem q553 : (Jvm.Cond.code ({ cls := "java/lang/StringUTF16", name := "length", desc := "([B)I" } : Jvm.MethodName) prog_21_method_6_code (1 : Nat) (Option.some Jvm.ClassFile.FieldType.int)) ∈ lw_all := lw_g (lw_at lw_m2 196 rfl) rfl
theorem q554 : (Jvm.Cond.fieldLink "java/lang/StringUTF16" (59 : Nat) "java/lang/StringUTF16" "HI_BYTE_SHIFT" "I") ∈ lw_all := lw_g (lw_at lw_m2 197 rfl) rfl
theorem q555 : (Jvm.Cond.laysStatic "java/lang/StringUTF16" "HI_BYTE_SHIFT" "I") ∈ lw_tbl := lw_at lw_m2 198 rfl
theorem q556 : (Jvm.Cond.fieldLink "java/lang/StringUTF16" (63 : Nat) "java/lang/StringUTF16" "LO_BYTE_SHIFT" "I") ∈ lw_all := lw_g (lw_at lw_m2 199 rfl) rfl
theorem q557 : (Jvm.Cond.laysStatic "java/lang/StringUTF16" "LO_BYTE_SHIFT" "I") ∈ lw_tbl := lw_at lw_m2 200 rfl
theorem q558 : (Jvm.Cond.methodLink "java/lang/StringUTF16" (71 : Nat) ({ cls := "java/lang/StringUTF16", name := "getChar", desc := "([BI)C" } : Jvm.MethodName)) ∈ lw_all := lw_g (lw_at lw_m2 201 rfl) rfl
theorem q559 : (Jvm.Cond.static ({ cls := "java/lang/StringUTF16", name := "getChar", desc := "([BI)C" } : Jvm.MethodName)) ∈ lw_all := lw_g (lw_at lw_m2 202 rfl) rfl
theorem q560 : (Jvm.Cond.code ({ cls := "java/lang/StringUTF16", name := "getChar", desc := "([BI)C" } : Jvm.MethodName) prog_21_method_5_code (2 : Nat) (Option.some Jvm.ClassFile.FieldType.char)) ∈ lw_all := lw_g (lw_at lw_m2 203 rfl) rfl
theorem q561 : (Jvm.Cond.methodLink "java/lang/StringUTF16" (123 : Nat) ({ cls := "java/lang/StringUTF16", name := "compress", desc := "([BI[BII)I" } : Jvm.MethodName)) ∈ lw_all := lw_g (lw_at lw_m2 204 rfl) rfl
theorem q562 : (Jvm.Cond.static ({ cls := "java/lang/StringUTF16", name := "compress", desc := "([BI[BII)I" } : Jvm.MethodName)) ∈ lw_all := lw_g (lw_at lw_m2 205 rfl) rfl
theorem q563 : (Jvm.Cond.code ({ cls := "java/lang/StringUTF16", name := "compress", desc := "([BI[BII)I" } : Jvm.MethodName) prog_21_method_22_code (7 : Nat) (Option.some Jvm.ClassFile.FieldType.int)) ∈ lw_all := lw_g (lw_at lw_m2 206 rfl) rfl
theorem q564 : (Jvm.Cond.methodLink "java/lang/StringUTF16" (173 : Nat) ({ cls := "java/lang/StringUTF16", name := "checkBoundsOffCount", desc := "(II[B)V" } : Jvm.MethodName)) ∈ lw_all := lw_g (lw_at lw_m2 207 rfl) rfl
theorem q565 : (Jvm.Cond.static ({ cls := "java/lang/StringUTF16", name := "checkBoundsOffCount", desc := "(II[B)V" } : Jvm.MethodName)) ∈ lw_all := lw_g (lw_at lw_m2 208 rfl) rfl
theorem q566 : (Jvm.Cond.code ({ cls := "java/lang/StringUTF16", name := "checkBoundsOffCount", desc := "(II[B)V" } : Jvm.MethodName) prog_21_method_94_code (3 : Nat) (Option.none : Option Jvm.ClassFile.FieldType)) ∈ lw_all := lw_g (lw_at lw_m2 209 rfl) rfl
theorem q567 : (Jvm.Cond.methodLink "java/lang/StringUTF16" (419 : Nat) ({ cls := "java/lang/String", name := "checkBoundsOffCount", desc := "(III)I" } : Jvm.MethodName)) ∈ lw_all := lw_g (lw_at lw_m2 210 rfl) rfl
theorem q569 : (Jvm.Cond.static ({ cls := "java/lang/StringUTF16", name := "coderFromArrayLen", desc := "([BI)B" } : Jvm.MethodName)) ∈ lw_all := lw_g (lw_at lw_m2 212 rfl) rfl
theorem q570 : (Jvm.Cond.code ({ cls := "java/lang/StringUTF16", name := "coderFromArrayLen", desc := "([BI)B" } : Jvm.MethodName) prog_21_method_15_code (2 : Nat) (Option.some Jvm.ClassFile.FieldType.byte)) ∈ lw_all := lw_g (lw_at lw_m2 213 rfl) rfl
theorem q656 : (Jvm.Cond.static ({ cls := "java/lang/StringUTF16", name := "hashCode", desc := "([B)I" } : Jvm.MethodName)) ∈ lw_all := lw_g (lw_at lw_m3 59 rfl) rfl
theorem q657 : (Jvm.Cond.code ({ cls := "java/lang/StringUTF16", name := "hashCode", desc := "([B)I" } : Jvm.MethodName) prog_21_method_39_code (1 : Nat) (Option.some Jvm.ClassFile.FieldType.int)) ∈ lw_all := lw_g (lw_at lw_m3 60 rfl) rfl
theorem q658 : (Jvm.Cond.methodLink "java/lang/StringUTF16" (220 : Nat) ({ cls := "jdk/internal/util/ArraysSupport", name := "vectorizedHashCode", desc := "(Ljava/lang/Object;IIII)I" } : Jvm.MethodName)) ∈ lw_all := lw_g (lw_at lw_m3 61 rfl) rfl
theorem q1440 : (Jvm.Cond.static ({ cls := "java/lang/StringUTF16", name := "charAt", desc := "([BI)C" } : Jvm.MethodName)) ∈ lw_all := lw_g (lw_at lw_m6 123 rfl) rfl
theorem q1441 : (Jvm.Cond.code ({ cls := "java/lang/StringUTF16", name := "charAt", desc := "([BI)C" } : Jvm.MethodName) prog_21_method_83_code (2 : Nat) (Option.some Jvm.ClassFile.FieldType.char)) ∈ lw_all := lw_g (lw_at lw_m6 124 rfl) rfl
theorem q1442 : (Jvm.Cond.methodLink "java/lang/StringUTF16" (67 : Nat) ({ cls := "java/lang/StringUTF16", name := "checkIndex", desc := "(I[B)V" } : Jvm.MethodName)) ∈ lw_all := lw_g (lw_at lw_m6 125 rfl) rfl
theorem q1443 : (Jvm.Cond.static ({ cls := "java/lang/StringUTF16", name := "checkIndex", desc := "(I[B)V" } : Jvm.MethodName)) ∈ lw_all := lw_g (lw_at lw_m6 126 rfl) rfl
theorem q1444 : (Jvm.Cond.code ({ cls := "java/lang/StringUTF16", name := "checkIndex", desc := "(I[B)V" } : Jvm.MethodName) prog_21_method_91_code (2 : Nat) (Option.none : Option Jvm.ClassFile.FieldType)) ∈ lw_all := lw_g (lw_at lw_m6 127 rfl) rfl
theorem q1445 : (Jvm.Cond.methodLink "java/lang/StringUTF16" (414 : Nat) ({ cls := "java/lang/String", name := "checkIndex", desc := "(II)V" } : Jvm.MethodName)) ∈ lw_all := lw_g (lw_at lw_m6 128 rfl) rfl

/-! java/lang/StringLatin1 -/
set_option maxRecDepth 100000
def RJ7 : String := "java/lang/StringLatin1"
abbrev cJ7_hashCode : ByteArray := prog_20_method_21_code
def yJ7_hashCode : MethodName := ⟨RJ7, "hashCode", "([B)I"⟩
def dkwJ7_hashCode_2 : List UInt8 := [3, 167, 0, 22, 42, 3, 51, 17, 0, 255, 126, 167, 0, 12, 42, 3, 42, 190, 3, 7, 184, 0, 84, 172]
abbrev dktJ7_hashCode_2 : List UInt8 := dkwJ7_hashCode_2 ++ []
def dkwJ7_hashCode_1 : List UInt8 := [171, 0, 0, 0, 0, 40, 0, 0, 0, 2, 0, 0, 0, 0, 0, 0, 0, 26, 0, 0, 0, 1, 0, 0, 0, 30]
abbrev dktJ7_hashCode_1 : List UInt8 := dkwJ7_hashCode_1 ++ dktJ7_hashCode_2
def dkwJ7_hashCode_0 : List UInt8 := [42, 190]
abbrev dktJ7_hashCode_0 : List UInt8 := dkwJ7_hashCode_0 ++ dktJ7_hashCode_1
theorem dksJ7_hashCode_0 : cJ7_hashCode.data.toList.drop 0 = dktJ7_hashCode_0 := by decide +kernel
theorem dksJ7_hashCode_1 : cJ7_hashCode.data.toList.drop 2 = dktJ7_hashCode_1 := dk_seg dksJ7_hashCode_0 2 rfl rfl
theorem dksJ7_hashCode_2 : cJ7_hashCode.data.toList.drop 28 = dktJ7_hashCode_2 := dk_seg dksJ7_hashCode_1 26 rfl rfl
theorem dJ7_hashCode_0 : decode cJ7_hashCode 0 = .ok (.aload_n 0, 1) := dk_42 (dk_at dksJ7_hashCode_0 0 rfl rfl)
theorem dJ7_hashCode_1 : decode cJ7_hashCode 1 = .ok (.arraylength, 1) := dk_190 (dk_at dksJ7_hashCode_0 1 rfl rfl)
theorem dJ7_hashCode_2 : decode cJ7_hashCode 2 = .ok (.lookupswitch 40 #[(0, 26), (1, 30)], 26) := by decide +kernel
theorem dJ7_hashCode_28 : decode cJ7_hashCode 28 = .ok (.iconst 0, 1) := dk_3 (dk_at dksJ7_hashCode_2 0 rfl rfl)
theorem dJ7_hashCode_29 : decode cJ7_hashCode 29 = .ok (.goto 22, 3) := dk_167 0 22 (dk_at dksJ7_hashCode_2 1 rfl rfl)
theorem dJ7_hashCode_32 : decode cJ7_hashCode 32 = .ok (.aload_n 0, 1) := dk_42 (dk_at dksJ7_hashCode_2 4 rfl rfl)
theorem dJ7_hashCode_33 : decode cJ7_hashCode 33 = .ok (.iconst 0, 1) := dk_3 (dk_at dksJ7_hashCode_2 5 rfl rfl)
theorem dJ7_hashCode_34 : decode cJ7_hashCode 34 = .ok (.baload, 1) := dk_51 (dk_at dksJ7_hashCode_2 6 rfl rfl)
theorem dJ7_hashCode_35 : decode cJ7_hashCode 35 = .ok (.sipush 255, 3) := dk_17 0 255 (dk_at dksJ7_hashCode_2 7 rfl rfl)
theorem dJ7_hashCode_38 : decode cJ7_hashCode 38 = .ok (.iand, 1) := dk_126 (dk_at dksJ7_hashCode_2 10 rfl rfl)
theorem dJ7_hashCode_39 : decode cJ7_hashCode 39 = .ok (.goto 12, 3) := dk_167 0 12 (dk_at dksJ7_hashCode_2 11 rfl rfl)
theorem dJ7_hashCode_42 : decode cJ7_hashCode 42 = .ok (.aload_n 0, 1) := dk_42 (dk_at dksJ7_hashCode_2 14 rfl rfl)
theorem dJ7_hashCode_43 : decode cJ7_hashCode 43 = .ok (.iconst 0, 1) := dk_3 (dk_at dksJ7_hashCode_2 15 rfl rfl)
theorem dJ7_hashCode_44 : decode cJ7_hashCode 44 = .ok (.aload_n 0, 1) := dk_42 (dk_at dksJ7_hashCode_2 16 rfl rfl)
theorem dJ7_hashCode_45 : decode cJ7_hashCode 45 = .ok (.arraylength, 1) := dk_190 (dk_at dksJ7_hashCode_2 17 rfl rfl)
theorem dJ7_hashCode_46 : decode cJ7_hashCode 46 = .ok (.iconst 0, 1) := dk_3 (dk_at dksJ7_hashCode_2 18 rfl rfl)
theorem dJ7_hashCode_47 : decode cJ7_hashCode 47 = .ok (.iconst 4, 1) := dk_7 (dk_at dksJ7_hashCode_2 19 rfl rfl)
theorem dJ7_hashCode_48 : decode cJ7_hashCode 48 = .ok (.invokestatic 84, 3) := dk_184 0 84 (dk_at dksJ7_hashCode_2 20 rfl rfl)
theorem dJ7_hashCode_51 : decode cJ7_hashCode 51 = .ok (.ireturn, 1) := dk_172 (dk_at dksJ7_hashCode_2 23 rfl rfl)
abbrev cJ7_equals : ByteArray := prog_20_method_13_code
def yJ7_equals : MethodName := ⟨RJ7, "equals", "([B[B)Z"⟩
def dkwJ7_equals_1 : List UInt8 := [3, 172, 132, 2, 1, 167, 255, 236, 4, 172, 3, 172]
abbrev dktJ7_equals_1 : List UInt8 := dkwJ7_equals_1 ++ []
def dkwJ7_equals_0 : List UInt8 := [42, 190, 43, 190, 160, 0, 30, 3, 61, 28, 42, 190, 162, 0, 20, 42, 28, 51, 43, 28, 51, 159, 0, 5]
abbrev dktJ7_equals_0 : List UInt8 := dkwJ7_equals_0 ++ dktJ7_equals_1
theorem dksJ7_equals_0 : cJ7_equals.data.toList.drop 0 = dktJ7_equals_0 := by decide +kernel
theorem dksJ7_equals_1 : cJ7_equals.data.toList.drop 24 = dktJ7_equals_1 := dk_seg dksJ7_equals_0 24 rfl rfl
theorem dJ7_equals_0 : decode cJ7_equals 0 = .ok (.aload_n 0, 1) := dk_42 (dk_at dksJ7_equals_0 0 rfl rfl)
theorem dJ7_equals_1 : decode cJ7_equals 1 = .ok (.arraylength, 1) := dk_190 (dk_at dksJ7_equals_0 1 rfl rfl)
theorem dJ7_equals_2 : decode cJ7_equals 2 = .ok (.aload_n 1, 1) := dk_43 (dk_at dksJ7_equals_0 2 rfl rfl)
theorem dJ7_equals_3 : decode cJ7_equals 3 = .ok (.arraylength, 1) := dk_190 (dk_at dksJ7_equals_0 3 rfl rfl)
theorem dJ7_equals_4 : decode cJ7_equals 4 = .ok (.if_icmp .ne 30, 3) := dk_160 0 30 (dk_at dksJ7_equals_0 4 rfl rfl)
theorem dJ7_equals_7 : decode cJ7_equals 7 = .ok (.iconst 0, 1) := dk_3 (dk_at dksJ7_equals_0 7 rfl rfl)
theorem dJ7_equals_8 : decode cJ7_equals 8 = .ok (.istore_n 2, 1) := dk_61 (dk_at dksJ7_equals_0 8 rfl rfl)
theorem dJ7_equals_9 : decode cJ7_equals 9 = .ok (.iload_n 2, 1) := dk_28 (dk_at dksJ7_equals_0 9 rfl rfl)
theorem dJ7_equals_10 : decode cJ7_equals 10 = .ok (.aload_n 0, 1) := dk_42 (dk_at dksJ7_equals_0 10 rfl rfl)
theorem dJ7_equals_11 : decode cJ7_equals 11 = .ok (.arraylength, 1) := dk_190 (dk_at dksJ7_equals_0 11 rfl rfl)
theorem dJ7_equals_12 : decode cJ7_equals 12 = .ok (.if_icmp .ge 20, 3) := dk_162 0 20 (dk_at dksJ7_equals_0 12 rfl rfl)
theorem dJ7_equals_15 : decode cJ7_equals 15 = .ok (.aload_n 0, 1) := dk_42 (dk_at dksJ7_equals_0 15 rfl rfl)
theorem dJ7_equals_16 : decode cJ7_equals 16 = .ok (.iload_n 2, 1) := dk_28 (dk_at dksJ7_equals_0 16 rfl rfl)
theorem dJ7_equals_17 : decode cJ7_equals 17 = .ok (.baload, 1) := dk_51 (dk_at dksJ7_equals_0 17 rfl rfl)
theorem dJ7_equals_18 : decode cJ7_equals 18 = .ok (.aload_n 1, 1) := dk_43 (dk_at dksJ7_equals_0 18 rfl rfl)
theorem dJ7_equals_19 : decode cJ7_equals 19 = .ok (.iload_n 2, 1) := dk_28 (dk_at dksJ7_equals_0 19 rfl rfl)
theorem dJ7_equals_20 : decode cJ7_equals 20 = .ok (.baload, 1) := dk_51 (dk_at dksJ7_equals_0 20 rfl rfl)
theorem dJ7_equals_21 : decode cJ7_equals 21 = .ok (.if_icmp .eq 5, 3) := dk_159 0 5 (dk_at dksJ7_equals_0 21 rfl rfl)
theorem dJ7_equals_24 : decode cJ7_equals 24 = .ok (.iconst 0, 1) := dk_3 (dk_at dksJ7_equals_1 0 rfl rfl)
theorem dJ7_equals_25 : decode cJ7_equals 25 = .ok (.ireturn, 1) := dk_172 (dk_at dksJ7_equals_1 1 rfl rfl)
theorem dJ7_equals_26 : decode cJ7_equals 26 = .ok (.iinc 2 1, 3) := dk_132 2 1 (dk_at dksJ7_equals_1 2 rfl rfl)
theorem dJ7_equals_29 : decode cJ7_equals 29 = .ok (.goto (-20), 3) := dk_167 255 236 (dk_at dksJ7_equals_1 5 rfl rfl)
theorem dJ7_equals_32 : decode cJ7_equals 32 = .ok (.iconst 1, 1) := dk_4 (dk_at dksJ7_equals_1 8 rfl rfl)
theorem dJ7_equals_33 : decode cJ7_equals 33 = .ok (.ireturn, 1) := dk_172 (dk_at dksJ7_equals_1 9 rfl rfl)
theorem dJ7_equals_34 : decode cJ7_equals 34 = .ok (.iconst 0, 1) := dk_3 (dk_at dksJ7_equals_1 10 rfl rfl)
theorem dJ7_equals_35 : decode cJ7_equals 35 = .ok (.ireturn, 1) := dk_172 (dk_at dksJ7_equals_1 11 rfl rfl)
abbrev cJ7_charAt : ByteArray := prog_20_method_2_code
def yJ7_charAt : MethodName := ⟨RJ7, "charAt", "([BI)C"⟩
def dkwJ7_charAt_0 : List UInt8 := [27, 42, 190, 184, 0, 9, 42, 27, 51, 17, 0, 255, 126, 146, 172]
abbrev dktJ7_charAt_0 : List UInt8 := dkwJ7_charAt_0 ++ []
theorem dksJ7_charAt_0 : cJ7_charAt.data.toList.drop 0 = dktJ7_charAt_0 := by decide +kernel
theorem dJ7_charAt_0 : decode cJ7_charAt 0 = .ok (.iload_n 1, 1) := dk_27 (dk_at dksJ7_charAt_0 0 rfl rfl)
theorem dJ7_charAt_1 : decode cJ7_charAt 1 = .ok (.aload_n 0, 1) := dk_42 (dk_at dksJ7_charAt_0 1 rfl rfl)
theorem dJ7_charAt_2 : decode cJ7_charAt 2 = .ok (.arraylength, 1) := dk_190 (dk_at dksJ7_charAt_0 2 rfl rfl)
theorem dJ7_charAt_3 : decode cJ7_charAt 3 = .ok (.invokestatic 9, 3) := dk_184 0 9 (dk_at dksJ7_charAt_0 3 rfl rfl)
theorem dJ7_charAt_6 : decode cJ7_charAt 6 = .ok (.aload_n 0, 1) := dk_42 (dk_at dksJ7_charAt_0 6 rfl rfl)
theorem dJ7_charAt_7 : decode cJ7_charAt 7 = .ok (.iload_n 1, 1) := dk_27 (dk_at dksJ7_charAt_0 7 rfl rfl)
theorem dJ7_charAt_8 : decode cJ7_charAt 8 = .ok (.baload, 1) := dk_51 (dk_at dksJ7_charAt_0 8 rfl rfl)
theorem dJ7_charAt_9 : decode cJ7_charAt 9 = .ok (.sipush 255, 3) := dk_17 0 255 (dk_at dksJ7_charAt_0 9 rfl rfl)
theorem dJ7_charAt_12 : decode cJ7_charAt 12 = .ok (.iand, 1) := dk_126 (dk_at dksJ7_charAt_0 12 rfl rfl)
theorem dJ7_charAt_13 : decode cJ7_charAt 13 = .ok (.i2c, 1) := dk_146 (dk_at dksJ7_charAt_0 13 rfl rfl)
theorem dJ7_charAt_14 : decode cJ7_charAt 14 = .ok (.ireturn, 1) := dk_172 (dk_at dksJ7_charAt_0 14 rfl rfl)
theorem q132 : (Jvm.Cond.initialized "java/lang/StringLatin1") ∈ lw_all := lw_g (lw_at lw_m1 15 rfl) rfl
theorem q615 : (Jvm.Cond.static ({ cls := "java/lang/StringLatin1", name := "hashCode", desc := "([B)I" } : Jvm.MethodName)) ∈ lw_all := lw_g (lw_at lw_m3 18 rfl) rfl
theorem q616 : (Jvm.Cond.code ({ cls := "java/lang/StringLatin1", name := "hashCode", desc := "([B)I" } : Jvm.MethodName) prog_20_method_21_code (1 : Nat) (Option.some Jvm.ClassFile.FieldType.int)) ∈ lw_all := lw_g (lw_at lw_m3 19 rfl) rfl
theorem q617 : (Jvm.Cond.methodLink "java/lang/StringLatin1" (84 : Nat) ({ cls := "jdk/internal/util/ArraysSupport", name := "vectorizedHashCode", desc := "(Ljava/lang/Object;IIII)I" } : Jvm.MethodName)) ∈ lw_all := lw_g (lw_at lw_m3 20 rfl) rfl
theorem q666 : (Jvm.Cond.static ({ cls := "java/lang/StringLatin1", name := "equals", desc := "([B[B)Z" } : Jvm.MethodName)) ∈ lw_all := lw_g (lw_at lw_m3 69 rfl) rfl
theorem q667 : (Jvm.Cond.code ({ cls := "java/lang/StringLatin1", name := "equals", desc := "([B[B)Z" } : Jvm.MethodName) prog_20_method_13_code (3 : Nat) (Option.some Jvm.ClassFile.FieldType.boolean)) ∈ lw_all := lw_g (lw_at lw_m3 70 rfl) rfl
theorem q1431 : (Jvm.Cond.static ({ cls := "java/lang/StringLatin1", name := "charAt", desc := "([BI)C" } : Jvm.MethodName)) ∈ lw_all := lw_g (lw_at lw_m6 114 rfl) rfl
theorem q1432 : (Jvm.Cond.code ({ cls := "java/lang/StringLatin1", name := "charAt", desc := "([BI)C" } : Jvm.MethodName) prog_20_method_2_code (2 : Nat) (Option.some Jvm.ClassFile.FieldType.char)) ∈ lw_all := lw_g (lw_at lw_m6 115 rfl) rfl
theorem q1433 : (Jvm.Cond.methodLink "java/lang/StringLatin1" (9 : Nat) ({ cls := "java/lang/String", name := "checkIndex", desc := "(II)V" } : Jvm.MethodName)) ∈ lw_all := lw_g (lw_at lw_m6 116 rfl) rfl

/-! jdk/internal/util/ArraysSupport -/
set_option maxRecDepth 100000
def RJ8 : String := "jdk/internal/util/ArraysSupport"
abbrev cJ8_vectorizedHashCode : ByteArray := prog_30_method_4_code
def yJ8_vectorizedHashCode : MethodName := ⟨RJ8, "vectorizedHashCode", "(Ljava/lang/Object;IIII)I"⟩
def dkwJ8_vectorizedHashCode_6 : List UInt8 := [183, 0, 91, 18, 92, 182, 0, 94, 21, 4, 182, 0, 98, 182, 0, 101, 183, 0, 105, 191, 172]
abbrev dktJ8_vectorizedHashCode_6 : List UInt8 := dkwJ8_vectorizedHashCode_6 ++ []
def dkwJ8_vectorizedHashCode_5 : List UInt8 := [167, 0, 44, 29, 42, 192, 0, 82, 27, 28, 184, 0, 84, 167, 0, 31, 187, 0, 87, 89, 187, 0, 89, 89]
abbrev dktJ8_vectorizedHashCode_5 : List UInt8 := dkwJ8_vectorizedHashCode_5 ++ dktJ8_vectorizedHashCode_6
def dkwJ8_vectorizedHashCode_4 : List UInt8 := [29, 42, 192, 0, 60, 27, 28, 184, 0, 75, 167, 0, 57, 29, 42, 192, 0, 77, 27, 28, 184, 0, 79]
abbrev dktJ8_vectorizedHashCode_4 : List UInt8 := dkwJ8_vectorizedHashCode_4 ++ dktJ8_vectorizedHashCode_5
def dkwJ8_vectorizedHashCode_3 : List UInt8 := [192, 0, 60, 27, 28, 184, 0, 66, 167, 0, 83, 29, 42, 192, 0, 69, 27, 28, 184, 0, 71, 167, 0, 70]
abbrev dktJ8_vectorizedHashCode_3 : List UInt8 := dkwJ8_vectorizedHashCode_3 ++ dktJ8_vectorizedHashCode_4
def dkwJ8_vectorizedHashCode_2 : List UInt8 := [29, 42, 192, 0, 60, 27, 28, 184, 0, 62, 167, 0, 103, 42, 193, 0, 60, 153, 0, 16, 29, 42]
abbrev dktJ8_vectorizedHashCode_2 : List UInt8 := dkwJ8_vectorizedHashCode_2 ++ dktJ8_vectorizedHashCode_3
def dkwJ8_vectorizedHashCode_1 : List UInt8 := [170, 0, 0, 0, 0, 127, 0, 0, 0, 4, 0, 0, 0, 10, 0, 0, 0, 42, 0, 0, 0, 55, 0, 0, 0, 127, 0, 0, 0, 127, 0, 0, 0, 88, 0, 0, 0, 101, 0, 0, 0, 114]
abbrev dktJ8_vectorizedHashCode_1 : List UInt8 := dkwJ8_vectorizedHashCode_1 ++ dktJ8_vectorizedHashCode_2
def dkwJ8_vectorizedHashCode_0 : List UInt8 := [21, 4]
abbrev dktJ8_vectorizedHashCode_0 : List UInt8 := dkwJ8_vectorizedHashCode_0 ++ dktJ8_vectorizedHashCode_1
theorem dksJ8_vectorizedHashCode_0 : cJ8_vectorizedHashCode.data.toList.drop 0 = dktJ8_vectorizedHashCode_0 := by decide +kernel
theorem dksJ8_vectorizedHashCode_1 : cJ8_vectorizedHashCode.data.toList.drop 2 = dktJ8_vectorizedHashCode_1 := dk_seg dksJ8_vectorizedHashCode_0 2 rfl rfl
theorem dksJ8_vectorizedHashCode_2 : cJ8_vectorizedHashCode.data.toList.drop 44 = dktJ8_vectorizedHashCode_2 := dk_seg dksJ8_vectorizedHashCode_1 42 rfl rfl
theorem dksJ8_vectorizedHashCode_3 : cJ8_vectorizedHashCode.data.toList.drop 66 = dktJ8_vectorizedHashCode_3 := dk_seg dksJ8_vectorizedHashCode_2 22 rfl rfl
theorem dksJ8_vectorizedHashCode_4 : cJ8_vectorizedHashCode.data.toList.drop 90 = dktJ8_vectorizedHashCode_4 := dk_seg dksJ8_vectorizedHashCode_3 24 rfl rfl
theorem dksJ8_vectorizedHashCode_5 : cJ8_vectorizedHashCode.data.toList.drop 113 = dktJ8_vectorizedHashCode_5 := dk_seg dksJ8_vectorizedHashCode_4 23 rfl rfl
theorem dksJ8_vectorizedHashCode_6 : cJ8_vectorizedHashCode.data.toList.drop 137 = dktJ8_vectorizedHashCode_6 := dk_seg dksJ8_vectorizedHashCode_5 24 rfl rfl
theorem dJ8_vectorizedHashCode_0 : decode cJ8_vectorizedHashCode 0 = .ok (.iload 4, 2) := dk_21 4 (dk_at dksJ8_vectorizedHashCode_0 0 rfl rfl)
theorem dJ8_vectorizedHashCode_2 : decode cJ8_vectorizedHashCode 2 = .ok (.tableswitch 127 4 10 #[42, 55, 127, 127, 88, 101, 114], 42) := by decide +kernel
theorem dJ8_vectorizedHashCode_44 : decode cJ8_vectorizedHashCode 44 = .ok (.iload_n 3, 1) := dk_29 (dk_at dksJ8_vectorizedHashCode_2 0 rfl rfl)
theorem dJ8_vectorizedHashCode_45 : decode cJ8_vectorizedHashCode 45 = .ok (.aload_n 0, 1) := dk_42 (dk_at dksJ8_vectorizedHashCode_2 1 rfl rfl)
theorem dJ8_vectorizedHashCode_46 : decode cJ8_vectorizedHashCode 46 = .ok (.checkcast 60, 3) := dk_192 0 60 (dk_at dksJ8_vectorizedHashCode_2 2 rfl rfl)
theorem dJ8_vectorizedHashCode_49 : decode cJ8_vectorizedHashCode 49 = .ok (.iload_n 1, 1) := dk_27 (dk_at dksJ8_vectorizedHashCode_2 5 rfl rfl)
theorem dJ8_vectorizedHashCode_50 : decode cJ8_vectorizedHashCode 50 = .ok (.iload_n 2, 1) := dk_28 (dk_at dksJ8_vectorizedHashCode_2 6 rfl rfl)
theorem dJ8_vectorizedHashCode_51 : decode cJ8_vectorizedHashCode 51 = .ok (.invokestatic 62, 3) := dk_184 0 62 (dk_at dksJ8_vectorizedHashCode_2 7 rfl rfl)
theorem dJ8_vectorizedHashCode_54 : decode cJ8_vectorizedHashCode 54 = .ok (.goto 103, 3) := dk_167 0 103 (dk_at dksJ8_vectorizedHashCode_2 10 rfl rfl)
theorem dJ8_vectorizedHashCode_57 : decode cJ8_vectorizedHashCode 57 = .ok (.aload_n 0, 1) := dk_42 (dk_at dksJ8_vectorizedHashCode_2 13 rfl rfl)
theorem dJ8_vectorizedHashCode_58 : decode cJ8_vectorizedHashCode 58 = .ok (.instanceof 60, 3) := dk_193 0 60 (dk_at dksJ8_vectorizedHashCode_2 14 rfl rfl)
theorem dJ8_vectorizedHashCode_61 : decode cJ8_vectorizedHashCode 61 = .ok (.ifCond .eq 16, 3) := dk_153 0 16 (dk_at dksJ8_vectorizedHashCode_2 17 rfl rfl)
theorem dJ8_vectorizedHashCode_64 : decode cJ8_vectorizedHashCode 64 = .ok (.iload_n 3, 1) := dk_29 (dk_at dksJ8_vectorizedHashCode_2 20 rfl rfl)
theorem dJ8_vectorizedHashCode_65 : decode cJ8_vectorizedHashCode 65 = .ok (.aload_n 0, 1) := dk_42 (dk_at dksJ8_vectorizedHashCode_2 21 rfl rfl)
theorem dJ8_vectorizedHashCode_66 : decode cJ8_vectorizedHashCode 66 = .ok (.checkcast 60, 3) := dk_192 0 60 (dk_at dksJ8_vectorizedHashCode_3 0 rfl rfl)
theorem dJ8_vectorizedHashCode_69 : decode cJ8_vectorizedHashCode 69 = .ok (.iload_n 1, 1) := dk_27 (dk_at dksJ8_vectorizedHashCode_3 3 rfl rfl)
theorem dJ8_vectorizedHashCode_70 : decode cJ8_vectorizedHashCode 70 = .ok (.iload_n 2, 1) := dk_28 (dk_at dksJ8_vectorizedHashCode_3 4 rfl rfl)
theorem dJ8_vectorizedHashCode_71 : decode cJ8_vectorizedHashCode 71 = .ok (.invokestatic 66, 3) := dk_184 0 66 (dk_at dksJ8_vectorizedHashCode_3 5 rfl rfl)
theorem dJ8_vectorizedHashCode_74 : decode cJ8_vectorizedHashCode 74 = .ok (.goto 83, 3) := dk_167 0 83 (dk_at dksJ8_vectorizedHashCode_3 8 rfl rfl)
theorem dJ8_vectorizedHashCode_77 : decode cJ8_vectorizedHashCode 77 = .ok (.iload_n 3, 1) := dk_29 (dk_at dksJ8_vectorizedHashCode_3 11 rfl rfl)
theorem dJ8_vectorizedHashCode_78 : decode cJ8_vectorizedHashCode 78 = .ok (.aload_n 0, 1) := dk_42 (dk_at dksJ8_vectorizedHashCode_3 12 rfl rfl)
theorem dJ8_vectorizedHashCode_79 : decode cJ8_vectorizedHashCode 79 = .ok (.checkcast 69, 3) := dk_192 0 69 (dk_at dksJ8_vectorizedHashCode_3 13 rfl rfl)
theorem dJ8_vectorizedHashCode_82 : decode cJ8_vectorizedHashCode 82 = .ok (.iload_n 1, 1) := dk_27 (dk_at dksJ8_vectorizedHashCode_3 16 rfl rfl)
theorem dJ8_vectorizedHashCode_83 : decode cJ8_vectorizedHashCode 83 = .ok (.iload_n 2, 1) := dk_28 (dk_at dksJ8_vectorizedHashCode_3 17 rfl rfl)
theorem dJ8_vectorizedHashCode_84 : decode cJ8_vectorizedHashCode 84 = .ok (.invokestatic 71, 3) := dk_184 0 71 (dk_at dksJ8_vectorizedHashCode_3 18 rfl rfl)
theorem dJ8_vectorizedHashCode_87 : decode cJ8_vectorizedHashCode 87 = .ok (.goto 70, 3) := dk_167 0 70 (dk_at dksJ8_vectorizedHashCode_3 21 rfl rfl)
theorem dJ8_vectorizedHashCode_90 : decode cJ8_vectorizedHashCode 90 = .ok (.iload_n 3, 1) := dk_29 (dk_at dksJ8_vectorizedHashCode_4 0 rfl rfl)
theorem dJ8_vectorizedHashCode_91 : decode cJ8_vectorizedHashCode 91 = .ok (.aload_n 0, 1) := dk_42 (dk_at dksJ8_vectorizedHashCode_4 1 rfl rfl)
theorem dJ8_vectorizedHashCode_92 : decode cJ8_vectorizedHashCode 92 = .ok (.checkcast 60, 3) := dk_192 0 60 (dk_at dksJ8_vectorizedHashCode_4 2 rfl rfl)
theorem dJ8_vectorizedHashCode_95 : decode cJ8_vectorizedHashCode 95 = .ok (.iload_n 1, 1) := dk_27 (dk_at dksJ8_vectorizedHashCode_4 5 rfl rfl)
theorem dJ8_vectorizedHashCode_96 : decode cJ8_vectorizedHashCode 96 = .ok (.iload_n 2, 1) := dk_28 (dk_at dksJ8_vectorizedHashCode_4 6 rfl rfl)
theorem dJ8_vectorizedHashCode_97 : decode cJ8_vectorizedHashCode 97 = .ok (.invokestatic 75, 3) := dk_184 0 75 (dk_at dksJ8_vectorizedHashCode_4 7 rfl rfl)
theorem dJ8_vectorizedHashCode_100 : decode cJ8_vectorizedHashCode 100 = .ok (.goto 57, 3) := dk_167 0 57 (dk_at dksJ8_vectorizedHashCode_4 10 rfl rfl)
theorem dJ8_vectorizedHashCode_103 : decode cJ8_vectorizedHashCode 103 = .ok (.iload_n 3, 1) := dk_29 (dk_at dksJ8_vectorizedHashCode_4 13 rfl rfl)
theorem dJ8_vectorizedHashCode_104 : decode cJ8_vectorizedHashCode 104 = .ok (.aload_n 0, 1) := dk_42 (dk_at dksJ8_vectorizedHashCode_4 14 rfl rfl)
theorem dJ8_vectorizedHashCode_105 : decode cJ8_vectorizedHashCode 105 = .ok (.checkcast 77, 3) := dk_192 0 77 (dk_at dksJ8_vectorizedHashCode_4 15 rfl rfl)
theorem dJ8_vectorizedHashCode_108 : decode cJ8_vectorizedHashCode 108 = .ok (.iload_n 1, 1) := dk_27 (dk_at dksJ8_vectorizedHashCode_4 18 rfl rfl)
theorem dJ8_vectorizedHashCode_109 : decode cJ8_vectorizedHashCode 109 = .ok (.iload_n 2, 1) := dk_28 (dk_at dksJ8_vectorizedHashCode_4 19 rfl rfl)
theorem dJ8_vectorizedHashCode_110 : decode cJ8_vectorizedHashCode 110 = .ok (.invokestatic 79, 3) := dk_184 0 79 (dk_at dksJ8_vectorizedHashCode_4 20 rfl rfl)
theorem dJ8_vectorizedHashCode_113 : decode cJ8_vectorizedHashCode 113 = .ok (.goto 44, 3) := dk_167 0 44 (dk_at dksJ8_vectorizedHashCode_5 0 rfl rfl)
theorem dJ8_vectorizedHashCode_116 : decode cJ8_vectorizedHashCode 116 = .ok (.iload_n 3, 1) := dk_29 (dk_at dksJ8_vectorizedHashCode_5 3 rfl rfl)
theorem dJ8_vectorizedHashCode_117 : decode cJ8_vectorizedHashCode 117 = .ok (.aload_n 0, 1) := dk_42 (dk_at dksJ8_vectorizedHashCode_5 4 rfl rfl)
theorem dJ8_vectorizedHashCode_118 : decode cJ8_vectorizedHashCode 118 = .ok (.checkcast 82, 3) := dk_192 0 82 (dk_at dksJ8_vectorizedHashCode_5 5 rfl rfl)
theorem dJ8_vectorizedHashCode_121 : decode cJ8_vectorizedHashCode 121 = .ok (.iload_n 1, 1) := dk_27 (dk_at dksJ8_vectorizedHashCode_5 8 rfl rfl)
theorem dJ8_vectorizedHashCode_122 : decode cJ8_vectorizedHashCode 122 = .ok (.iload_n 2, 1) := dk_28 (dk_at dksJ8_vectorizedHashCode_5 9 rfl rfl)
theorem dJ8_vectorizedHashCode_123 : decode cJ8_vectorizedHashCode 123 = .ok (.invokestatic 84, 3) := dk_184 0 84 (dk_at dksJ8_vectorizedHashCode_5 10 rfl rfl)
theorem dJ8_vectorizedHashCode_126 : decode cJ8_vectorizedHashCode 126 = .ok (.goto 31, 3) := dk_167 0 31 (dk_at dksJ8_vectorizedHashCode_5 13 rfl rfl)
theorem dJ8_vectorizedHashCode_129 : decode cJ8_vectorizedHashCode 129 = .ok (.new 87, 3) := dk_187 0 87 (dk_at dksJ8_vectorizedHashCode_5 16 rfl rfl)
theorem dJ8_vectorizedHashCode_132 : decode cJ8_vectorizedHashCode 132 = .ok (.dup, 1) := dk_89 (dk_at dksJ8_vectorizedHashCode_5 19 rfl rfl)
theorem dJ8_vectorizedHashCode_133 : decode cJ8_vectorizedHashCode 133 = .ok (.new 89, 3) := dk_187 0 89 (dk_at dksJ8_vectorizedHashCode_5 20 rfl rfl)
theorem dJ8_vectorizedHashCode_136 : decode cJ8_vectorizedHashCode 136 = .ok (.dup, 1) := dk_89 (dk_at dksJ8_vectorizedHashCode_5 23 rfl rfl)
theorem dJ8_vectorizedHashCode_137 : decode cJ8_vectorizedHashCode 137 = .ok (.invokespecial 91, 3) := dk_183 0 91 (dk_at dksJ8_vectorizedHashCode_6 0 rfl rfl)
theorem dJ8_vectorizedHashCode_140 : decode cJ8_vectorizedHashCode 140 = .ok (.ldc 92, 2) := dk_18 92 (dk_at dksJ8_vectorizedHashCode_6 3 rfl rfl)
theorem dJ8_vectorizedHashCode_142 : decode cJ8_vectorizedHashCode 142 = .ok (.invokevirtual 94, 3) := dk_182 0 94 (dk_at dksJ8_vectorizedHashCode_6 5 rfl rfl)
theorem dJ8_vectorizedHashCode_145 : decode cJ8_vectorizedHashCode 145 = .ok (.iload 4, 2) := dk_21 4 (dk_at dksJ8_vectorizedHashCode_6 8 rfl rfl)
theorem dJ8_vectorizedHashCode_147 : decode cJ8_vectorizedHashCode 147 = .ok (.invokevirtual 98, 3) := dk_182 0 98 (dk_at dksJ8_vectorizedHashCode_6 10 rfl rfl)
theorem dJ8_vectorizedHashCode_150 : decode cJ8_vectorizedHashCode 150 = .ok (.invokevirtual 101, 3) := dk_182 0 101 (dk_at dksJ8_vectorizedHashCode_6 13 rfl rfl)
theorem dJ8_vectorizedHashCode_153 : decode cJ8_vectorizedHashCode 153 = .ok (.invokespecial 105, 3) := dk_183 0 105 (dk_at dksJ8_vectorizedHashCode_6 16 rfl rfl)
theorem dJ8_vectorizedHashCode_156 : decode cJ8_vectorizedHashCode 156 = .ok (.athrow, 1) := dk_191 (dk_at dksJ8_vectorizedHashCode_6 19 rfl rfl)
theorem dJ8_vectorizedHashCode_157 : decode cJ8_vectorizedHashCode 157 = .ok (.ireturn, 1) := dk_172 (dk_at dksJ8_vectorizedHashCode_6 20 rfl rfl)
abbrev cJ8_signedHashCode : ByteArray := prog_30_method_5_code
def yJ8_signedHashCode : MethodName := ⟨RJ8, "signedHashCode", "(I[BII)I"⟩
def dkwJ8_signedHashCode_1 : List UInt8 := [17, 0, 255, 126, 96, 59, 132, 5, 1, 167, 255, 232, 26, 172]
abbrev dktJ8_signedHashCode_1 : List UInt8 := dkwJ8_signedHashCode_1 ++ []
def dkwJ8_signedHashCode_0 : List UInt8 := [28, 29, 96, 54, 4, 28, 54, 5, 21, 5, 21, 4, 162, 0, 23, 16, 31, 26, 104, 43, 21, 5, 51]
abbrev dktJ8_signedHashCode_0 : List UInt8 := dkwJ8_signedHashCode_0 ++ dktJ8_signedHashCode_1
theorem dksJ8_signedHashCode_0 : cJ8_signedHashCode.data.toList.drop 0 = dktJ8_signedHashCode_0 := by decide +kernel
theorem dksJ8_signedHashCode_1 : cJ8_signedHashCode.data.toList.drop 23 = dktJ8_signedHashCode_1 := dk_seg dksJ8_signedHashCode_0 23 rfl rfl
theorem dJ8_signedHashCode_0 : decode cJ8_signedHashCode 0 = .ok (.iload_n 2, 1) := dk_28 (dk_at dksJ8_signedHashCode_0 0 rfl rfl)
theorem dJ8_signedHashCode_1 : decode cJ8_signedHashCode 1 = .ok (.iload_n 3, 1) := dk_29 (dk_at dksJ8_signedHashCode_0 1 rfl rfl)
theorem dJ8_signedHashCode_2 : decode cJ8_signedHashCode 2 = .ok (.iadd, 1) := dk_96 (dk_at dksJ8_signedHashCode_0 2 rfl rfl)
theorem dJ8_signedHashCode_3 : decode cJ8_signedHashCode 3 = .ok (.istore 4, 2) := dk_54 4 (dk_at dksJ8_signedHashCode_0 3 rfl rfl)
theorem dJ8_signedHashCode_5 : decode cJ8_signedHashCode 5 = .ok (.iload_n 2, 1) := dk_28 (dk_at dksJ8_signedHashCode_0 5 rfl rfl)
theorem dJ8_signedHashCode_6 : decode cJ8_signedHashCode 6 = .ok (.istore 5, 2) := dk_54 5 (dk_at dksJ8_signedHashCode_0 6 rfl rfl)
theorem dJ8_signedHashCode_8 : decode cJ8_signedHashCode 8 = .ok (.iload 5, 2) := dk_21 5 (dk_at dksJ8_signedHashCode_0 8 rfl rfl)
theorem dJ8_signedHashCode_10 : decode cJ8_signedHashCode 10 = .ok (.iload 4, 2) := dk_21 4 (dk_at dksJ8_signedHashCode_0 10 rfl rfl)
theorem dJ8_signedHashCode_12 : decode cJ8_signedHashCode 12 = .ok (.if_icmp .ge 23, 3) := dk_162 0 23 (dk_at dksJ8_signedHashCode_0 12 rfl rfl)
theorem dJ8_signedHashCode_15 : decode cJ8_signedHashCode 15 = .ok (.bipush 31, 2) := dk_16 31 (dk_at dksJ8_signedHashCode_0 15 rfl rfl)
theorem dJ8_signedHashCode_17 : decode cJ8_signedHashCode 17 = .ok (.iload_n 0, 1) := dk_26 (dk_at dksJ8_signedHashCode_0 17 rfl rfl)
theorem dJ8_signedHashCode_18 : decode cJ8_signedHashCode 18 = .ok (.imul, 1) := dk_104 (dk_at dksJ8_signedHashCode_0 18 rfl rfl)
theorem dJ8_signedHashCode_19 : decode cJ8_signedHashCode 19 = .ok (.aload_n 1, 1) := dk_43 (dk_at dksJ8_signedHashCode_0 19 rfl rfl)
theorem dJ8_signedHashCode_20 : decode cJ8_signedHashCode 20 = .ok (.iload 5, 2) := dk_21 5 (dk_at dksJ8_signedHashCode_0 20 rfl rfl)
theorem dJ8_signedHashCode_22 : decode cJ8_signedHashCode 22 = .ok (.baload, 1) := dk_51 (dk_at dksJ8_signedHashCode_0 22 rfl rfl)
theorem dJ8_signedHashCode_23 : decode cJ8_signedHashCode 23 = .ok (.sipush 255, 3) := dk_17 0 255 (dk_at dksJ8_signedHashCode_1 0 rfl rfl)
theorem dJ8_signedHashCode_26 : decode cJ8_signedHashCode 26 = .ok (.iand, 1) := dk_126 (dk_at dksJ8_signedHashCode_1 3 rfl rfl)
theorem dJ8_signedHashCode_27 : decode cJ8_signedHashCode 27 = .ok (.iadd, 1) := dk_96 (dk_at dksJ8_signedHashCode_1 4 rfl rfl)
theorem dJ8_signedHashCode_28 : decode cJ8_signedHashCode 28 = .ok (.istore_n 0, 1) := dk_59 (dk_at dksJ8_signedHashCode_1 5 rfl rfl)
theorem dJ8_signedHashCode_29 : decode cJ8_signedHashCode 29 = .ok (.iinc 5 1, 3) := dk_132 5 1 (dk_at dksJ8_signedHashCode_1 6 rfl rfl)
theorem dJ8_signedHashCode_32 : decode cJ8_signedHashCode 32 = .ok (.goto (-24), 3) := dk_167 255 232 (dk_at dksJ8_signedHashCode_1 9 rfl rfl)
theorem dJ8_signedHashCode_35 : decode cJ8_signedHashCode 35 = .ok (.iload_n 0, 1) := dk_26 (dk_at dksJ8_signedHashCode_1 12 rfl rfl)
theorem dJ8_signedHashCode_36 : decode cJ8_signedHashCode 36 = .ok (.ireturn, 1) := dk_172 (dk_at dksJ8_signedHashCode_1 13 rfl rfl)
abbrev cJ8_utf16hashCode : ByteArray := prog_30_method_10_code
def yJ8_utf16hashCode : MethodName := ⟨RJ8, "utf16hashCode", "(I[BII)I"⟩
def dkwJ8_utf16hashCode_1 : List UInt8 := [21, 5, 185, 0, 110, 3, 0, 96, 59, 132, 5, 1, 167, 255, 229, 26, 172]
abbrev dktJ8_utf16hashCode_1 : List UInt8 := dkwJ8_utf16hashCode_1 ++ []
def dkwJ8_utf16hashCode_0 : List UInt8 := [28, 29, 96, 54, 4, 28, 54, 5, 21, 5, 21, 4, 162, 0, 26, 16, 31, 26, 104, 178, 0, 106, 43]
abbrev dktJ8_utf16hashCode_0 : List UInt8 := dkwJ8_utf16hashCode_0 ++ dktJ8_utf16hashCode_1
theorem dksJ8_utf16hashCode_0 : cJ8_utf16hashCode.data.toList.drop 0 = dktJ8_utf16hashCode_0 := by decide +kernel
theorem dksJ8_utf16hashCode_1 : cJ8_utf16hashCode.data.toList.drop 23 = dktJ8_utf16hashCode_1 := dk_seg dksJ8_utf16hashCode_0 23 rfl rfl
theorem dJ8_utf16hashCode_0 : decode cJ8_utf16hashCode 0 = .ok (.iload_n 2, 1) := dk_28 (dk_at dksJ8_utf16hashCode_0 0 rfl rfl)
theorem dJ8_utf16hashCode_1 : decode cJ8_utf16hashCode 1 = .ok (.iload_n 3, 1) := dk_29 (dk_at dksJ8_utf16hashCode_0 1 rfl rfl)
theorem dJ8_utf16hashCode_2 : decode cJ8_utf16hashCode 2 = .ok (.iadd, 1) := dk_96 (dk_at dksJ8_utf16hashCode_0 2 rfl rfl)
theorem dJ8_utf16hashCode_3 : decode cJ8_utf16hashCode 3 = .ok (.istore 4, 2) := dk_54 4 (dk_at dksJ8_utf16hashCode_0 3 rfl rfl)
theorem dJ8_utf16hashCode_5 : decode cJ8_utf16hashCode 5 = .ok (.iload_n 2, 1) := dk_28 (dk_at dksJ8_utf16hashCode_0 5 rfl rfl)
theorem dJ8_utf16hashCode_6 : decode cJ8_utf16hashCode 6 = .ok (.istore 5, 2) := dk_54 5 (dk_at dksJ8_utf16hashCode_0 6 rfl rfl)
theorem dJ8_utf16hashCode_8 : decode cJ8_utf16hashCode 8 = .ok (.iload 5, 2) := dk_21 5 (dk_at dksJ8_utf16hashCode_0 8 rfl rfl)
theorem dJ8_utf16hashCode_10 : decode cJ8_utf16hashCode 10 = .ok (.iload 4, 2) := dk_21 4 (dk_at dksJ8_utf16hashCode_0 10 rfl rfl)
theorem dJ8_utf16hashCode_12 : decode cJ8_utf16hashCode 12 = .ok (.if_icmp .ge 26, 3) := dk_162 0 26 (dk_at dksJ8_utf16hashCode_0 12 rfl rfl)
theorem dJ8_utf16hashCode_15 : decode cJ8_utf16hashCode 15 = .ok (.bipush 31, 2) := dk_16 31 (dk_at dksJ8_utf16hashCode_0 15 rfl rfl)
theorem dJ8_utf16hashCode_17 : decode cJ8_utf16hashCode 17 = .ok (.iload_n 0, 1) := dk_26 (dk_at dksJ8_utf16hashCode_0 17 rfl rfl)
theorem dJ8_utf16hashCode_18 : decode cJ8_utf16hashCode 18 = .ok (.imul, 1) := dk_104 (dk_at dksJ8_utf16hashCode_0 18 rfl rfl)
theorem dJ8_utf16hashCode_19 : decode cJ8_utf16hashCode 19 = .ok (.getstatic 106, 3) := dk_178 0 106 (dk_at dksJ8_utf16hashCode_0 19 rfl rfl)
theorem dJ8_utf16hashCode_22 : decode cJ8_utf16hashCode 22 = .ok (.aload_n 1, 1) := dk_43 (dk_at dksJ8_utf16hashCode_0 22 rfl rfl)
theorem dJ8_utf16hashCode_23 : decode cJ8_utf16hashCode 23 = .ok (.iload 5, 2) := dk_21 5 (dk_at dksJ8_utf16hashCode_1 0 rfl rfl)
theorem dJ8_utf16hashCode_25 : decode cJ8_utf16hashCode 25 = .ok (.invokeinterface 110 3, 5) := by decide +kernel
theorem dJ8_utf16hashCode_30 : decode cJ8_utf16hashCode 30 = .ok (.iadd, 1) := dk_96 (dk_at dksJ8_utf16hashCode_1 7 rfl rfl)
theorem dJ8_utf16hashCode_31 : decode cJ8_utf16hashCode 31 = .ok (.istore_n 0, 1) := dk_59 (dk_at dksJ8_utf16hashCode_1 8 rfl rfl)
theorem dJ8_utf16hashCode_32 : decode cJ8_utf16hashCode 32 = .ok (.iinc 5 1, 3) := dk_132 5 1 (dk_at dksJ8_utf16hashCode_1 9 rfl rfl)
theorem dJ8_utf16hashCode_35 : decode cJ8_utf16hashCode 35 = .ok (.goto (-27), 3) := dk_167 255 229 (dk_at dksJ8_utf16hashCode_1 12 rfl rfl)
theorem dJ8_utf16hashCode_38 : decode cJ8_utf16hashCode 38 = .ok (.iload_n 0, 1) := dk_26 (dk_at dksJ8_utf16hashCode_1 15 rfl rfl)
theorem dJ8_utf16hashCode_39 : decode cJ8_utf16hashCode 39 = .ok (.ireturn, 1) := dk_172 (dk_at dksJ8_utf16hashCode_1 16 rfl rfl)
abbrev cJ8_hashCode : ByteArray := prog_30_method_7_code
def yJ8_hashCode : MethodName := ⟨RJ8, "hashCode", "(I[CII)I"⟩
def dkwJ8_hashCode_1 : List UInt8 := [59, 132, 5, 1, 167, 255, 236, 26, 172]
abbrev dktJ8_hashCode_1 : List UInt8 := dkwJ8_hashCode_1 ++ []
def dkwJ8_hashCode_0 : List UInt8 := [28, 29, 96, 54, 4, 28, 54, 5, 21, 5, 21, 4, 162, 0, 19, 16, 31, 26, 104, 43, 21, 5, 52, 96]
abbrev dktJ8_hashCode_0 : List UInt8 := dkwJ8_hashCode_0 ++ dktJ8_hashCode_1
theorem dksJ8_hashCode_0 : cJ8_hashCode.data.toList.drop 0 = dktJ8_hashCode_0 := by decide +kernel
theorem dksJ8_hashCode_1 : cJ8_hashCode.data.toList.drop 24 = dktJ8_hashCode_1 := dk_seg dksJ8_hashCode_0 24 rfl rfl
theorem dJ8_hashCode_0 : decode cJ8_hashCode 0 = .ok (.iload_n 2, 1) := dk_28 (dk_at dksJ8_hashCode_0 0 rfl rfl)
theorem dJ8_hashCode_1 : decode cJ8_hashCode 1 = .ok (.iload_n 3, 1) := dk_29 (dk_at dksJ8_hashCode_0 1 rfl rfl)
theorem dJ8_hashCode_2 : decode cJ8_hashCode 2 = .ok (.iadd, 1) := dk_96 (dk_at dksJ8_hashCode_0 2 rfl rfl)
theorem dJ8_hashCode_3 : decode cJ8_hashCode 3 = .ok (.istore 4, 2) := dk_54 4 (dk_at dksJ8_hashCode_0 3 rfl rfl)
theorem dJ8_hashCode_5 : decode cJ8_hashCode 5 = .ok (.iload_n 2, 1) := dk_28 (dk_at dksJ8_hashCode_0 5 rfl rfl)
theorem dJ8_hashCode_6 : decode cJ8_hashCode 6 = .ok (.istore 5, 2) := dk_54 5 (dk_at dksJ8_hashCode_0 6 rfl rfl)
theorem dJ8_hashCode_8 : decode cJ8_hashCode 8 = .ok (.iload 5, 2) := dk_21 5 (dk_at dksJ8_hashCode_0 8 rfl rfl)
theorem dJ8_hashCode_10 : decode cJ8_hashCode 10 = .ok (.iload 4, 2) := dk_21 4 (dk_at dksJ8_hashCode_0 10 rfl rfl)
theorem dJ8_hashCode_12 : decode cJ8_hashCode 12 = .ok (.if_icmp .ge 19, 3) := dk_162 0 19 (dk_at dksJ8_hashCode_0 12 rfl rfl)
theorem dJ8_hashCode_15 : decode cJ8_hashCode 15 = .ok (.bipush 31, 2) := dk_16 31 (dk_at dksJ8_hashCode_0 15 rfl rfl)
theorem dJ8_hashCode_17 : decode cJ8_hashCode 17 = .ok (.iload_n 0, 1) := dk_26 (dk_at dksJ8_hashCode_0 17 rfl rfl)
theorem dJ8_hashCode_18 : decode cJ8_hashCode 18 = .ok (.imul, 1) := dk_104 (dk_at dksJ8_hashCode_0 18 rfl rfl)
theorem dJ8_hashCode_19 : decode cJ8_hashCode 19 = .ok (.aload_n 1, 1) := dk_43 (dk_at dksJ8_hashCode_0 19 rfl rfl)
theorem dJ8_hashCode_20 : decode cJ8_hashCode 20 = .ok (.iload 5, 2) := dk_21 5 (dk_at dksJ8_hashCode_0 20 rfl rfl)
theorem dJ8_hashCode_22 : decode cJ8_hashCode 22 = .ok (.caload, 1) := dk_52 (dk_at dksJ8_hashCode_0 22 rfl rfl)
theorem dJ8_hashCode_23 : decode cJ8_hashCode 23 = .ok (.iadd, 1) := dk_96 (dk_at dksJ8_hashCode_0 23 rfl rfl)
theorem dJ8_hashCode_24 : decode cJ8_hashCode 24 = .ok (.istore_n 0, 1) := dk_59 (dk_at dksJ8_hashCode_1 0 rfl rfl)
theorem dJ8_hashCode_25 : decode cJ8_hashCode 25 = .ok (.iinc 5 1, 3) := dk_132 5 1 (dk_at dksJ8_hashCode_1 1 rfl rfl)
theorem dJ8_hashCode_28 : decode cJ8_hashCode 28 = .ok (.goto (-20), 3) := dk_167 255 236 (dk_at dksJ8_hashCode_1 4 rfl rfl)
theorem dJ8_hashCode_31 : decode cJ8_hashCode 31 = .ok (.iload_n 0, 1) := dk_26 (dk_at dksJ8_hashCode_1 7 rfl rfl)
theorem dJ8_hashCode_32 : decode cJ8_hashCode 32 = .ok (.ireturn, 1) := dk_172 (dk_at dksJ8_hashCode_1 8 rfl rfl)
abbrev cJ8_hashCode_2 : ByteArray := prog_30_method_6_code
def yJ8_hashCode_2 : MethodName := ⟨RJ8, "hashCode", "(I[BII)I"⟩
def dkwJ8_hashCode_2_1 : List UInt8 := [59, 132, 5, 1, 167, 255, 236, 26, 172]
abbrev dktJ8_hashCode_2_1 : List UInt8 := dkwJ8_hashCode_2_1 ++ []
def dkwJ8_hashCode_2_0 : List UInt8 := [28, 29, 96, 54, 4, 28, 54, 5, 21, 5, 21, 4, 162, 0, 19, 16, 31, 26, 104, 43, 21, 5, 51, 96]
abbrev dktJ8_hashCode_2_0 : List UInt8 := dkwJ8_hashCode_2_0 ++ dktJ8_hashCode_2_1
theorem dksJ8_hashCode_2_0 : cJ8_hashCode_2.data.toList.drop 0 = dktJ8_hashCode_2_0 := by decide +kernel
theorem dksJ8_hashCode_2_1 : cJ8_hashCode_2.data.toList.drop 24 = dktJ8_hashCode_2_1 := dk_seg dksJ8_hashCode_2_0 24 rfl rfl
theorem dJ8_hashCode_2_0 : decode cJ8_hashCode_2 0 = .ok (.iload_n 2, 1) := dk_28 (dk_at dksJ8_hashCode_2_0 0 rfl rfl)
theorem dJ8_hashCode_2_1 : decode cJ8_hashCode_2 1 = .ok (.iload_n 3, 1) := dk_29 (dk_at dksJ8_hashCode_2_0 1 rfl rfl)
theorem dJ8_hashCode_2_2 : decode cJ8_hashCode_2 2 = .ok (.iadd, 1) := dk_96 (dk_at dksJ8_hashCode_2_0 2 rfl rfl)
theorem dJ8_hashCode_2_3 : decode cJ8_hashCode_2 3 = .ok (.istore 4, 2) := dk_54 4 (dk_at dksJ8_hashCode_2_0 3 rfl rfl)
theorem dJ8_hashCode_2_5 : decode cJ8_hashCode_2 5 = .ok (.iload_n 2, 1) := dk_28 (dk_at dksJ8_hashCode_2_0 5 rfl rfl)
theorem dJ8_hashCode_2_6 : decode cJ8_hashCode_2 6 = .ok (.istore 5, 2) := dk_54 5 (dk_at dksJ8_hashCode_2_0 6 rfl rfl)
theorem dJ8_hashCode_2_8 : decode cJ8_hashCode_2 8 = .ok (.iload 5, 2) := dk_21 5 (dk_at dksJ8_hashCode_2_0 8 rfl rfl)
theorem dJ8_hashCode_2_10 : decode cJ8_hashCode_2 10 = .ok (.iload 4, 2) := dk_21 4 (dk_at dksJ8_hashCode_2_0 10 rfl rfl)
theorem dJ8_hashCode_2_12 : decode cJ8_hashCode_2 12 = .ok (.if_icmp .ge 19, 3) := dk_162 0 19 (dk_at dksJ8_hashCode_2_0 12 rfl rfl)
theorem dJ8_hashCode_2_15 : decode cJ8_hashCode_2 15 = .ok (.bipush 31, 2) := dk_16 31 (dk_at dksJ8_hashCode_2_0 15 rfl rfl)
theorem dJ8_hashCode_2_17 : decode cJ8_hashCode_2 17 = .ok (.iload_n 0, 1) := dk_26 (dk_at dksJ8_hashCode_2_0 17 rfl rfl)
theorem dJ8_hashCode_2_18 : decode cJ8_hashCode_2 18 = .ok (.imul, 1) := dk_104 (dk_at dksJ8_hashCode_2_0 18 rfl rfl)
theorem dJ8_hashCode_2_19 : decode cJ8_hashCode_2 19 = .ok (.aload_n 1, 1) := dk_43 (dk_at dksJ8_hashCode_2_0 19 rfl rfl)
theorem dJ8_hashCode_2_20 : decode cJ8_hashCode_2 20 = .ok (.iload 5, 2) := dk_21 5 (dk_at dksJ8_hashCode_2_0 20 rfl rfl)
theorem dJ8_hashCode_2_22 : decode cJ8_hashCode_2 22 = .ok (.baload, 1) := dk_51 (dk_at dksJ8_hashCode_2_0 22 rfl rfl)
theorem dJ8_hashCode_2_23 : decode cJ8_hashCode_2 23 = .ok (.iadd, 1) := dk_96 (dk_at dksJ8_hashCode_2_0 23 rfl rfl)
theorem dJ8_hashCode_2_24 : decode cJ8_hashCode_2 24 = .ok (.istore_n 0, 1) := dk_59 (dk_at dksJ8_hashCode_2_1 0 rfl rfl)
theorem dJ8_hashCode_2_25 : decode cJ8_hashCode_2 25 = .ok (.iinc 5 1, 3) := dk_132 5 1 (dk_at dksJ8_hashCode_2_1 1 rfl rfl)
theorem dJ8_hashCode_2_28 : decode cJ8_hashCode_2 28 = .ok (.goto (-20), 3) := dk_167 255 236 (dk_at dksJ8_hashCode_2_1 4 rfl rfl)
theorem dJ8_hashCode_2_31 : decode cJ8_hashCode_2 31 = .ok (.iload_n 0, 1) := dk_26 (dk_at dksJ8_hashCode_2_1 7 rfl rfl)
theorem dJ8_hashCode_2_32 : decode cJ8_hashCode_2 32 = .ok (.ireturn, 1) := dk_172 (dk_at dksJ8_hashCode_2_1 8 rfl rfl)
abbrev cJ8_hashCode_3 : ByteArray := prog_30_method_8_code
def yJ8_hashCode_3 : MethodName := ⟨RJ8, "hashCode", "(I[SII)I"⟩
def dkwJ8_hashCode_3_1 : List UInt8 := [59, 132, 5, 1, 167, 255, 236, 26, 172]
abbrev dktJ8_hashCode_3_1 : List UInt8 := dkwJ8_hashCode_3_1 ++ []
def dkwJ8_hashCode_3_0 : List UInt8 := [28, 29, 96, 54, 4, 28, 54, 5, 21, 5, 21, 4, 162, 0, 19, 16, 31, 26, 104, 43, 21, 5, 53, 96]
abbrev dktJ8_hashCode_3_0 : List UInt8 := dkwJ8_hashCode_3_0 ++ dktJ8_hashCode_3_1
theorem dksJ8_hashCode_3_0 : cJ8_hashCode_3.data.toList.drop 0 = dktJ8_hashCode_3_0 := by decide +kernel
theorem dksJ8_hashCode_3_1 : cJ8_hashCode_3.data.toList.drop 24 = dktJ8_hashCode_3_1 := dk_seg dksJ8_hashCode_3_0 24 rfl rfl
theorem dJ8_hashCode_3_0 : decode cJ8_hashCode_3 0 = .ok (.iload_n 2, 1) := dk_28 (dk_at dksJ8_hashCode_3_0 0 rfl rfl)
theorem dJ8_hashCode_3_1 : decode cJ8_hashCode_3 1 = .ok (.iload_n 3, 1) := dk_29 (dk_at dksJ8_hashCode_3_0 1 rfl rfl)
theorem dJ8_hashCode_3_2 : decode cJ8_hashCode_3 2 = .ok (.iadd, 1) := dk_96 (dk_at dksJ8_hashCode_3_0 2 rfl rfl)
theorem dJ8_hashCode_3_3 : decode cJ8_hashCode_3 3 = .ok (.istore 4, 2) := dk_54 4 (dk_at dksJ8_hashCode_3_0 3 rfl rfl)
theorem dJ8_hashCode_3_5 : decode cJ8_hashCode_3 5 = .ok (.iload_n 2, 1) := dk_28 (dk_at dksJ8_hashCode_3_0 5 rfl rfl)
theorem dJ8_hashCode_3_6 : decode cJ8_hashCode_3 6 = .ok (.istore 5, 2) := dk_54 5 (dk_at dksJ8_hashCode_3_0 6 rfl rfl)
theorem dJ8_hashCode_3_8 : decode cJ8_hashCode_3 8 = .ok (.iload 5, 2) := dk_21 5 (dk_at dksJ8_hashCode_3_0 8 rfl rfl)
theorem dJ8_hashCode_3_10 : decode cJ8_hashCode_3 10 = .ok (.iload 4, 2) := dk_21 4 (dk_at dksJ8_hashCode_3_0 10 rfl rfl)
theorem dJ8_hashCode_3_12 : decode cJ8_hashCode_3 12 = .ok (.if_icmp .ge 19, 3) := dk_162 0 19 (dk_at dksJ8_hashCode_3_0 12 rfl rfl)
theorem dJ8_hashCode_3_15 : decode cJ8_hashCode_3 15 = .ok (.bipush 31, 2) := dk_16 31 (dk_at dksJ8_hashCode_3_0 15 rfl rfl)
theorem dJ8_hashCode_3_17 : decode cJ8_hashCode_3 17 = .ok (.iload_n 0, 1) := dk_26 (dk_at dksJ8_hashCode_3_0 17 rfl rfl)
theorem dJ8_hashCode_3_18 : decode cJ8_hashCode_3 18 = .ok (.imul, 1) := dk_104 (dk_at dksJ8_hashCode_3_0 18 rfl rfl)
theorem dJ8_hashCode_3_19 : decode cJ8_hashCode_3 19 = .ok (.aload_n 1, 1) := dk_43 (dk_at dksJ8_hashCode_3_0 19 rfl rfl)
theorem dJ8_hashCode_3_20 : decode cJ8_hashCode_3 20 = .ok (.iload 5, 2) := dk_21 5 (dk_at dksJ8_hashCode_3_0 20 rfl rfl)
theorem dJ8_hashCode_3_22 : decode cJ8_hashCode_3 22 = .ok (.saload, 1) := dk_53 (dk_at dksJ8_hashCode_3_0 22 rfl rfl)
theorem dJ8_hashCode_3_23 : decode cJ8_hashCode_3 23 = .ok (.iadd, 1) := dk_96 (dk_at dksJ8_hashCode_3_0 23 rfl rfl)
theorem dJ8_hashCode_3_24 : decode cJ8_hashCode_3 24 = .ok (.istore_n 0, 1) := dk_59 (dk_at dksJ8_hashCode_3_1 0 rfl rfl)
theorem dJ8_hashCode_3_25 : decode cJ8_hashCode_3 25 = .ok (.iinc 5 1, 3) := dk_132 5 1 (dk_at dksJ8_hashCode_3_1 1 rfl rfl)
theorem dJ8_hashCode_3_28 : decode cJ8_hashCode_3 28 = .ok (.goto (-20), 3) := dk_167 255 236 (dk_at dksJ8_hashCode_3_1 4 rfl rfl)
theorem dJ8_hashCode_3_31 : decode cJ8_hashCode_3 31 = .ok (.iload_n 0, 1) := dk_26 (dk_at dksJ8_hashCode_3_1 7 rfl rfl)
theorem dJ8_hashCode_3_32 : decode cJ8_hashCode_3 32 = .ok (.ireturn, 1) := dk_172 (dk_at dksJ8_hashCode_3_1 8 rfl rfl)
abbrev cJ8_hashCode_4 : ByteArray := prog_30_method_9_code
def yJ8_hashCode_4 : MethodName := ⟨RJ8, "hashCode", "(I[III)I"⟩
def dkwJ8_hashCode_4_1 : List UInt8 := [59, 132, 5, 1, 167, 255, 236, 26, 172]
abbrev dktJ8_hashCode_4_1 : List UInt8 := dkwJ8_hashCode_4_1 ++ []
def dkwJ8_hashCode_4_0 : List UInt8 := [28, 29, 96, 54, 4, 28, 54, 5, 21, 5, 21, 4, 162, 0, 19, 16, 31, 26, 104, 43, 21, 5, 46, 96]
abbrev dktJ8_hashCode_4_0 : List UInt8 := dkwJ8_hashCode_4_0 ++ dktJ8_hashCode_4_1
theorem dksJ8_hashCode_4_0 : cJ8_hashCode_4.data.toList.drop 0 = dktJ8_hashCode_4_0 := by decide +kernel
theorem dksJ8_hashCode_4_1 : cJ8_hashCode_4.data.toList.drop 24 = dktJ8_hashCode_4_1 := dk_seg dksJ8_hashCode_4_0 24 rfl rfl
theorem dJ8_hashCode_4_0 : decode cJ8_hashCode_4 0 = .ok (.iload_n 2, 1) := dk_28 (dk_at dksJ8_hashCode_4_0 0 rfl rfl)
theorem dJ8_hashCode_4_1 : decode cJ8_hashCode_4 1 = .ok (.iload_n 3, 1) := dk_29 (dk_at dksJ8_hashCode_4_0 1 rfl rfl)
theorem dJ8_hashCode_4_2 : decode cJ8_hashCode_4 2 = .ok (.iadd, 1) := dk_96 (dk_at dksJ8_hashCode_4_0 2 rfl rfl)
theorem dJ8_hashCode_4_3 : decode cJ8_hashCode_4 3 = .ok (.istore 4, 2) := dk_54 4 (dk_at dksJ8_hashCode_4_0 3 rfl rfl)
theorem dJ8_hashCode_4_5 : decode cJ8_hashCode_4 5 = .ok (.iload_n 2, 1) := dk_28 (dk_at dksJ8_hashCode_4_0 5 rfl rfl)
theorem dJ8_hashCode_4_6 : decode cJ8_hashCode_4 6 = .ok (.istore 5, 2) := dk_54 5 (dk_at dksJ8_hashCode_4_0 6 rfl rfl)
theorem dJ8_hashCode_4_8 : decode cJ8_hashCode_4 8 = .ok (.iload 5, 2) := dk_21 5 (dk_at dksJ8_hashCode_4_0 8 rfl rfl)
theorem dJ8_hashCode_4_10 : decode cJ8_hashCode_4 10 = .ok (.iload 4, 2) := dk_21 4 (dk_at dksJ8_hashCode_4_0 10 rfl rfl)
theorem dJ8_hashCode_4_12 : decode cJ8_hashCode_4 12 = .ok (.if_icmp .ge 19, 3) := dk_162 0 19 (dk_at dksJ8_hashCode_4_0 12 rfl rfl)
theorem dJ8_hashCode_4_15 : decode cJ8_hashCode_4 15 = .ok (.bipush 31, 2) := dk_16 31 (dk_at dksJ8_hashCode_4_0 15 rfl rfl)
theorem dJ8_hashCode_4_17 : decode cJ8_hashCode_4 17 = .ok (.iload_n 0, 1) := dk_26 (dk_at dksJ8_hashCode_4_0 17 rfl rfl)
theorem dJ8_hashCode_4_18 : decode cJ8_hashCode_4 18 = .ok (.imul, 1) := dk_104 (dk_at dksJ8_hashCode_4_0 18 rfl rfl)
theorem dJ8_hashCode_4_19 : decode cJ8_hashCode_4 19 = .ok (.aload_n 1, 1) := dk_43 (dk_at dksJ8_hashCode_4_0 19 rfl rfl)
theorem dJ8_hashCode_4_20 : decode cJ8_hashCode_4 20 = .ok (.iload 5, 2) := dk_21 5 (dk_at dksJ8_hashCode_4_0 20 rfl rfl)
theorem dJ8_hashCode_4_22 : decode cJ8_hashCode_4 22 = .ok (.iaload, 1) := dk_46 (dk_at dksJ8_hashCode_4_0 22 rfl rfl)
theorem dJ8_hashCode_4_23 : decode cJ8_hashCode_4 23 = .ok (.iadd, 1) := dk_96 (dk_at dksJ8_hashCode_4_0 23 rfl rfl)
theorem dJ8_hashCode_4_24 : decode cJ8_hashCode_4 24 = .ok (.istore_n 0, 1) := dk_59 (dk_at dksJ8_hashCode_4_1 0 rfl rfl)
theorem dJ8_hashCode_4_25 : decode cJ8_hashCode_4 25 = .ok (.iinc 5 1, 3) := dk_132 5 1 (dk_at dksJ8_hashCode_4_1 1 rfl rfl)
theorem dJ8_hashCode_4_28 : decode cJ8_hashCode_4 28 = .ok (.goto (-20), 3) := dk_167 255 236 (dk_at dksJ8_hashCode_4_1 4 rfl rfl)
theorem dJ8_hashCode_4_31 : decode cJ8_hashCode_4 31 = .ok (.iload_n 0, 1) := dk_26 (dk_at dksJ8_hashCode_4_1 7 rfl rfl)
theorem dJ8_hashCode_4_32 : decode cJ8_hashCode_4 32 = .ok (.ireturn, 1) := dk_172 (dk_at dksJ8_hashCode_4_1 8 rfl rfl)
theorem q133 : (Jvm.Cond.initialized "jdk/internal/util/ArraysSupport") ∈ lw_all := lw_g (lw_at lw_m1 16 rfl) rfl
theorem q618 : (Jvm.Cond.static ({ cls := "jdk/internal/util/ArraysSupport", name := "vectorizedHashCode", desc := "(Ljava/lang/Object;IIII)I" } : Jvm.MethodName)) ∈ lw_all := lw_g (lw_at lw_m3 21 rfl) rfl
theorem q619 : (Jvm.Cond.code ({ cls := "jdk/internal/util/ArraysSupport", name := "vectorizedHashCode", desc := "(Ljava/lang/Object;IIII)I" } : Jvm.MethodName) prog_30_method_4_code (5 : Nat) (Option.some Jvm.ClassFile.FieldType.int)) ∈ lw_all := lw_g (lw_at lw_m3 22 rfl) rfl
theorem q620 : (Jvm.Cond.classLink "jdk/internal/util/ArraysSupport" (60 : Nat) "[B") ∈ lw_all := lw_g (lw_at lw_m3 23 rfl) rfl
theorem q621 : (Jvm.Cond.methodLink "jdk/internal/util/ArraysSupport" (62 : Nat) ({ cls := "jdk/internal/util/ArraysSupport", name := "signedHashCode", desc := "(I[BII)I" } : Jvm.MethodName)) ∈ lw_all := lw_g (lw_at lw_m3 24 rfl) rfl
theorem q622 : (Jvm.Cond.static ({ cls := "jdk/internal/util/ArraysSupport", name := "signedHashCode", desc := "(I[BII)I" } : Jvm.MethodName)) ∈ lw_all := lw_g (lw_at lw_m3 25 rfl) rfl
theorem q623 : (Jvm.Cond.code ({ cls := "jdk/internal/util/ArraysSupport", name := "signedHashCode", desc := "(I[BII)I" } : Jvm.MethodName) prog_30_method_5_code (6 : Nat) (Option.some Jvm.ClassFile.FieldType.int)) ∈ lw_all := lw_g (lw_at lw_m3 26 rfl) rfl
theorem q624 : (Jvm.Cond.methodLink "jdk/internal/util/ArraysSupport" (66 : Nat) ({ cls := "jdk/internal/util/ArraysSupport", name := "utf16hashCode", desc := "(I[BII)I" } : Jvm.MethodName)) ∈ lw_all := lw_g (lw_at lw_m3 27 rfl) rfl
theorem q625 : (Jvm.Cond.static ({ cls := "jdk/internal/util/ArraysSupport", name := "utf16hashCode", desc := "(I[BII)I" } : Jvm.MethodName)) ∈ lw_all := lw_g (lw_at lw_m3 28 rfl) rfl
theorem q626 : (Jvm.Cond.code ({ cls := "jdk/internal/util/ArraysSupport", name := "utf16hashCode", desc := "(I[BII)I" } : Jvm.MethodName) prog_30_method_10_code (6 : Nat) (Option.some Jvm.ClassFile.FieldType.int)) ∈ lw_all := lw_g (lw_at lw_m3 29 rfl) rfl
theorem q627 : (Jvm.Cond.fieldLink "jdk/internal/util/ArraysSupport" (106 : Nat) "jdk/internal/util/ArraysSupport" "JLA" "Ljdk/internal/access/JavaLangAccess;") ∈ lw_all := lw_g (lw_at lw_m3 30 rfl) rfl
theorem q628 : (Jvm.Cond.laysStatic "jdk/internal/util/ArraysSupport" "JLA" "Ljdk/internal/access/JavaLangAccess;") ∈ lw_tbl := lw_at lw_m3 31 rfl
theorem q629 : (Jvm.Cond.interfaceEntry "jdk/internal/util/ArraysSupport" (110 : Nat)) ∈ lw_tbl := lw_at lw_m3 32 rfl
theorem q630 : (Jvm.Cond.methodLink "jdk/internal/util/ArraysSupport" (110 : Nat) ({ cls := "jdk/internal/access/JavaLangAccess", name := "getUTF16Char", desc := "([BI)C" } : Jvm.MethodName)) ∈ lw_all := lw_g (lw_at lw_m3 33 rfl) rfl
theorem q640 : (Jvm.Cond.classLink "jdk/internal/util/ArraysSupport" (69 : Nat) "[C") ∈ lw_all := lw_g (lw_at lw_m3 43 rfl) rfl
theorem q641 : (Jvm.Cond.methodLink "jdk/internal/util/ArraysSupport" (71 : Nat) ({ cls := "jdk/internal/util/ArraysSupport", name := "hashCode", desc := "(I[CII)I" } : Jvm.MethodName)) ∈ lw_all := lw_g (lw_at lw_m3 44 rfl) rfl
theorem q642 : (Jvm.Cond.static ({ cls := "jdk/internal/util/ArraysSupport", name := "hashCode", desc := "(I[CII)I" } : Jvm.MethodName)) ∈ lw_all := lw_g (lw_at lw_m3 45 rfl) rfl
theorem q643 : (Jvm.Cond.code ({ cls := "jdk/internal/util/ArraysSupport", name := "hashCode", desc := "(I[CII)I" } : Jvm.MethodName) prog_30_method_7_code (6 : Nat) (Option.some Jvm.ClassFile.FieldType.int)) ∈ lw_all := lw_g (lw_at lw_m3 46 rfl) rfl
theorem q644 : (Jvm.Cond.methodLink "jdk/internal/util/ArraysSupport" (75 : Nat) ({ cls := "jdk/internal/util/ArraysSupport", name := "hashCode", desc := "(I[BII)I" } : Jvm.MethodName)) ∈ lw_all := lw_g (lw_at lw_m3 47 rfl) rfl
theorem q645 : (Jvm.Cond.static ({ cls := "jdk/internal/util/ArraysSupport", name := "hashCode", desc := "(I[BII)I" } : Jvm.MethodName)) ∈ lw_all := lw_g (lw_at lw_m3 48 rfl) rfl
theorem q646 : (Jvm.Cond.code ({ cls := "jdk/internal/util/ArraysSupport", name := "hashCode", desc := "(I[BII)I" } : Jvm.MethodName) prog_30_method_6_code (6 : Nat) (Option.some Jvm.ClassFile.FieldType.int)) ∈ lw_all := lw_g (lw_at lw_m3 49 rfl) rfl
theorem q647 : (Jvm.Cond.classLink "jdk/internal/util/ArraysSupport" (77 : Nat) "[S") ∈ lw_all := lw_g (lw_at lw_m3 50 rfl) rfl
theorem q648 : (Jvm.Cond.methodLink "jdk/internal/util/ArraysSupport" (79 : Nat) ({ cls := "jdk/internal/util/ArraysSupport", name := "hashCode", desc := "(I[SII)I" } : Jvm.MethodName)) ∈ lw_all := lw_g (lw_at lw_m3 51 rfl) rfl
theorem q649 : (Jvm.Cond.static ({ cls := "jdk/internal/util/ArraysSupport", name := "hashCode", desc := "(I[SII)I" } : Jvm.MethodName)) ∈ lw_all := lw_g (lw_at lw_m3 52 rfl) rfl
theorem q650 : (Jvm.Cond.code ({ cls := "jdk/internal/util/ArraysSupport", name := "hashCode", desc := "(I[SII)I" } : Jvm.MethodName) prog_30_method_8_code (6 : Nat) (Option.some Jvm.ClassFile.FieldType.int)) ∈ lw_all := lw_g (lw_at lw_m3 53 rfl) rfl
theorem q651 : (Jvm.Cond.classLink "jdk/internal/util/ArraysSupport" (82 : Nat) "[I") ∈ lw_all := lw_g (lw_at lw_m3 54 rfl) rfl
theorem q652 : (Jvm.Cond.methodLink "jdk/internal/util/ArraysSupport" (84 : Nat) ({ cls := "jdk/internal/util/ArraysSupport", name := "hashCode", desc := "(I[III)I" } : Jvm.MethodName)) ∈ lw_all := lw_g (lw_at lw_m3 55 rfl) rfl
theorem q653 : (Jvm.Cond.static ({ cls := "jdk/internal/util/ArraysSupport", name := "hashCode", desc := "(I[III)I" } : Jvm.MethodName)) ∈ lw_all := lw_g (lw_at lw_m3 56 rfl) rfl
theorem q654 : (Jvm.Cond.code ({ cls := "jdk/internal/util/ArraysSupport", name := "hashCode", desc := "(I[III)I" } : Jvm.MethodName) prog_30_method_9_code (6 : Nat) (Option.some Jvm.ClassFile.FieldType.int)) ∈ lw_all := lw_g (lw_at lw_m3 57 rfl) rfl

/-! java/lang/Math -/
set_option maxRecDepth 100000
def RJ9 : String := "java/lang/Math"
abbrev cJ9_max : ByteArray := prog_17_method_65_code
def yJ9_max : MethodName := ⟨RJ9, "max", "(II)I"⟩
def dkwJ9_max_0 : List UInt8 := [26, 27, 161, 0, 7, 26, 167, 0, 4, 27, 172]
abbrev dktJ9_max_0 : List UInt8 := dkwJ9_max_0 ++ []
theorem dksJ9_max_0 : cJ9_max.data.toList.drop 0 = dktJ9_max_0 := by decide +kernel
theorem dJ9_max_0 : decode cJ9_max 0 = .ok (.iload_n 0, 1) := dk_26 (dk_at dksJ9_max_0 0 rfl rfl)
theorem dJ9_max_1 : decode cJ9_max 1 = .ok (.iload_n 1, 1) := dk_27 (dk_at dksJ9_max_0 1 rfl rfl)
theorem dJ9_max_2 : decode cJ9_max 2 = .ok (.if_icmp .lt 7, 3) := dk_161 0 7 (dk_at dksJ9_max_0 2 rfl rfl)
theorem dJ9_max_5 : decode cJ9_max 5 = .ok (.iload_n 0, 1) := dk_26 (dk_at dksJ9_max_0 5 rfl rfl)
theorem dJ9_max_6 : decode cJ9_max 6 = .ok (.goto 4, 3) := dk_167 0 4 (dk_at dksJ9_max_0 6 rfl rfl)
theorem dJ9_max_9 : decode cJ9_max 9 = .ok (.iload_n 1, 1) := dk_27 (dk_at dksJ9_max_0 9 rfl rfl)
theorem dJ9_max_10 : decode cJ9_max 10 = .ok (.ireturn, 1) := dk_172 (dk_at dksJ9_max_0 10 rfl rfl)
abbrev cJ9_min : ByteArray := prog_17_method_69_code
def yJ9_min : MethodName := ⟨RJ9, "min", "(II)I"⟩
def dkwJ9_min_0 : List UInt8 := [26, 27, 163, 0, 7, 26, 167, 0, 4, 27, 172]
abbrev dktJ9_min_0 : List UInt8 := dkwJ9_min_0 ++ []
theorem dksJ9_min_0 : cJ9_min.data.toList.drop 0 = dktJ9_min_0 := by decide +kernel
theorem dJ9_min_0 : decode cJ9_min 0 = .ok (.iload_n 0, 1) := dk_26 (dk_at dksJ9_min_0 0 rfl rfl)
theorem dJ9_min_1 : decode cJ9_min 1 = .ok (.iload_n 1, 1) := dk_27 (dk_at dksJ9_min_0 1 rfl rfl)
theorem dJ9_min_2 : decode cJ9_min 2 = .ok (.if_icmp .gt 7, 3) := dk_163 0 7 (dk_at dksJ9_min_0 2 rfl rfl)
theorem dJ9_min_5 : decode cJ9_min 5 = .ok (.iload_n 0, 1) := dk_26 (dk_at dksJ9_min_0 5 rfl rfl)
theorem dJ9_min_6 : decode cJ9_min 6 = .ok (.goto 4, 3) := dk_167 0 4 (dk_at dksJ9_min_0 6 rfl rfl)
theorem dJ9_min_9 : decode cJ9_min 9 = .ok (.iload_n 1, 1) := dk_27 (dk_at dksJ9_min_0 9 rfl rfl)
theorem dJ9_min_10 : decode cJ9_min 10 = .ok (.ireturn, 1) := dk_172 (dk_at dksJ9_min_0 10 rfl rfl)
theorem q134 : (Jvm.Cond.initialized "java/lang/Math") ∈ lw_all := lw_g (lw_at lw_m1 17 rfl) rfl
theorem q810 : (Jvm.Cond.static ({ cls := "java/lang/Math", name := "max", desc := "(II)I" } : Jvm.MethodName)) ∈ lw_all := lw_g (lw_at lw_m3 213 rfl) rfl
theorem q811 : (Jvm.Cond.code ({ cls := "java/lang/Math", name := "max", desc := "(II)I" } : Jvm.MethodName) prog_17_method_65_code (2 : Nat) (Option.some Jvm.ClassFile.FieldType.int)) ∈ lw_all := lw_g (lw_at lw_m3 214 rfl) rfl
theorem q987 : (Jvm.Cond.static ({ cls := "java/lang/Math", name := "min", desc := "(II)I" } : Jvm.MethodName)) ∈ lw_all := lw_g (lw_at lw_m4 150 rfl) rfl
theorem q988 : (Jvm.Cond.code ({ cls := "java/lang/Math", name := "min", desc := "(II)I" } : Jvm.MethodName) prog_17_method_69_code (2 : Nat) (Option.some Jvm.ClassFile.FieldType.int)) ∈ lw_all := lw_g (lw_at lw_m4 151 rfl) rfl

/-! java/lang/Integer -/
set_option maxRecDepth 100000
def RJ10 : String := "java/lang/Integer"
abbrev cJ10_compare : ByteArray := prog_16_method_40_code
def yJ10_compare : MethodName := ⟨RJ10, "compare", "(II)I"⟩
def dkwJ10_compare_0 : List UInt8 := [26, 27, 162, 0, 7, 2, 167, 0, 13, 26, 27, 160, 0, 7, 3, 167, 0, 4, 4, 172]
abbrev dktJ10_compare_0 : List UInt8 := dkwJ10_compare_0 ++ []
theorem dksJ10_compare_0 : cJ10_compare.data.toList.drop 0 = dktJ10_compare_0 := by decide +kernel
theorem dJ10_compare_0 : decode cJ10_compare 0 = .ok (.iload_n 0, 1) := dk_26 (dk_at dksJ10_compare_0 0 rfl rfl)
theorem dJ10_compare_1 : decode cJ10_compare 1 = .ok (.iload_n 1, 1) := dk_27 (dk_at dksJ10_compare_0 1 rfl rfl)
theorem dJ10_compare_2 : decode cJ10_compare 2 = .ok (.if_icmp .ge 7, 3) := dk_162 0 7 (dk_at dksJ10_compare_0 2 rfl rfl)
theorem dJ10_compare_5 : decode cJ10_compare 5 = .ok (.iconst (-1), 1) := dk_2 (dk_at dksJ10_compare_0 5 rfl rfl)
theorem dJ10_compare_6 : decode cJ10_compare 6 = .ok (.goto 13, 3) := dk_167 0 13 (dk_at dksJ10_compare_0 6 rfl rfl)
theorem dJ10_compare_9 : decode cJ10_compare 9 = .ok (.iload_n 0, 1) := dk_26 (dk_at dksJ10_compare_0 9 rfl rfl)
theorem dJ10_compare_10 : decode cJ10_compare 10 = .ok (.iload_n 1, 1) := dk_27 (dk_at dksJ10_compare_0 10 rfl rfl)
theorem dJ10_compare_11 : decode cJ10_compare 11 = .ok (.if_icmp .ne 7, 3) := dk_160 0 7 (dk_at dksJ10_compare_0 11 rfl rfl)
theorem dJ10_compare_14 : decode cJ10_compare 14 = .ok (.iconst 0, 1) := dk_3 (dk_at dksJ10_compare_0 14 rfl rfl)
theorem dJ10_compare_15 : decode cJ10_compare 15 = .ok (.goto 4, 3) := dk_167 0 4 (dk_at dksJ10_compare_0 15 rfl rfl)
theorem dJ10_compare_18 : decode cJ10_compare 18 = .ok (.iconst 1, 1) := dk_4 (dk_at dksJ10_compare_0 18 rfl rfl)
theorem dJ10_compare_19 : decode cJ10_compare 19 = .ok (.ireturn, 1) := dk_172 (dk_at dksJ10_compare_0 19 rfl rfl)
theorem q135 : (Jvm.Cond.initialized "java/lang/Integer") ∈ lw_all := lw_g (lw_at lw_m1 18 rfl) rfl
theorem q872 : (Jvm.Cond.static ({ cls := "java/lang/Integer", name := "compare", desc := "(II)I" } : Jvm.MethodName)) ∈ lw_all := lw_g (lw_at lw_m4 35 rfl) rfl
theorem q873 : (Jvm.Cond.code ({ cls := "java/lang/Integer", name := "compare", desc := "(II)I" } : Jvm.MethodName) prog_16_method_40_code (2 : Nat) (Option.some Jvm.ClassFile.FieldType.int)) ∈ lw_all := lw_g (lw_at lw_m4 36 rfl) rfl

/-! java/util/NoSuchElementException -/
set_option maxRecDepth 100000
def RJ11 : String := "java/util/NoSuchElementException"
def TJ11 : u_T := fun k => match k with
  | 0 => ("java/lang/Throwable", "cause", "Ljava/lang/Throwable;", false)
  | 1 => ("java/lang/Throwable", "stackTrace", "[Ljava/lang/StackTraceElement;", false)
  | 2 => ("java/lang/Throwable", "suppressedExceptions", "Ljava/util/List;", false)
  | 3 => ("java/lang/Throwable", "detailMessage", "Ljava/lang/String;", false)
  | 4 => ("java/lang/Throwable", "backtrace", "Ljava/lang/Object;", false)
  | _ => ("java/lang/Throwable", "depth", "I", false)
def tyJ11 : Nat → FieldType := fun k => match k with
  | 0 => .object "java/lang/Throwable"
  | 1 => .array (.object "java/lang/StackTraceElement")
  | 2 => .object "java/util/List"
  | 3 => .object "java/lang/String"
  | 4 => .object "java/lang/Object"
  | _ => .int
abbrev wsJ110 : List Cond := u_ws RJ11 TJ11 6
theorem nmJ11 : ∀ a, a < 6 → ∀ b, b < 6 → a ≠ b → (TJ11 a).2.1 ≠ (TJ11 b).2.1 := by decide +kernel
theorem tyJ11_ok : ∀ k, k < 6 → parseFieldDescriptor (TJ11 k).2.2.1 = some (tyJ11 k) := by decide +kernel
abbrev cJ11_init : ByteArray := prog_28_method_1_code
def yJ11_init : MethodName := ⟨RJ11, "<init>", "()V"⟩
theorem dJ11_init_0 : decode cJ11_init 0 = .ok (.aload_n 0, 1) := by decide +kernel
theorem dJ11_init_1 : decode cJ11_init 1 = .ok (.invokespecial 1, 3) := by decide +kernel
theorem dJ11_init_4 : decode cJ11_init 4 = .ok (.return_, 1) := by decide +kernel
theorem q138 : (Jvm.Cond.initialized "java/util/NoSuchElementException") ∈ lw_all := lw_g (lw_at lw_m1 21 rfl) rfl
theorem q254 : (Jvm.Cond.selects "java/util/NoSuchElementException" ({ cls := "java/lang/Throwable", name := "fillInStackTrace", desc := "()Ljava/lang/Throwable;" } : Jvm.MethodName) ({ cls := "java/lang/Throwable", name := "fillInStackTrace", desc := "()Ljava/lang/Throwable;" } : Jvm.MethodName)) ∈ lw_all := lw_g (lw_at lw_m1 137 rfl) rfl
theorem q1182 : (Jvm.Cond.instantiable "java/util/NoSuchElementException" (6 : Nat)) ∈ lw_all := lw_g (lw_at lw_m5 105 rfl) rfl
theorem q1183 : (Jvm.Cond.castable "java/util/NoSuchElementException" "java/util/NoSuchElementException") ∈ lw_tbl := lw_at lw_m5 106 rfl
theorem q1184 : (Jvm.Cond.selects "java/util/NoSuchElementException" ({ cls := "java/lang/Throwable", name := "fillInStackTrace", desc := "(I)Ljava/lang/Throwable;" } : Jvm.MethodName) ({ cls := "java/lang/Throwable", name := "fillInStackTrace", desc := "(I)Ljava/lang/Throwable;" } : Jvm.MethodName)) ∈ lw_all := lw_g (lw_at lw_m5 107 rfl) rfl
theorem q1185 : (Jvm.Cond.lays "java/util/NoSuchElementException" "java/lang/Throwable" "cause" "Ljava/lang/Throwable;") ∈ lw_all := lw_g (lw_at lw_m5 108 rfl) rfl
theorem q1186 : (Jvm.Cond.lays "java/util/NoSuchElementException" "java/lang/Throwable" "stackTrace" "[Ljava/lang/StackTraceElement;") ∈ lw_all := lw_g (lw_at lw_m5 109 rfl) rfl
theorem q1187 : (Jvm.Cond.lays "java/util/NoSuchElementException" "java/lang/Throwable" "suppressedExceptions" "Ljava/util/List;") ∈ lw_all := lw_g (lw_at lw_m5 110 rfl) rfl
theorem q1188 : (Jvm.Cond.lays "java/util/NoSuchElementException" "java/lang/Throwable" "detailMessage" "Ljava/lang/String;") ∈ lw_all := lw_g (lw_at lw_m5 111 rfl) rfl
theorem q1189 : (Jvm.Cond.lays "java/util/NoSuchElementException" "java/lang/Throwable" "backtrace" "Ljava/lang/Object;") ∈ lw_all := lw_g (lw_at lw_m5 112 rfl) rfl
theorem q1191 : (Jvm.Cond.instanceMethod ({ cls := "java/util/NoSuchElementException", name := "<init>", desc := "()V" } : Jvm.MethodName)) ∈ lw_all := lw_g (lw_at lw_m5 114 rfl) rfl
theorem q1192 : (Jvm.Cond.code ({ cls := "java/util/NoSuchElementException", name := "<init>", desc := "()V" } : Jvm.MethodName) prog_28_method_1_code (1 : Nat) (Option.none : Option Jvm.ClassFile.FieldType)) ∈ lw_all := lw_g (lw_at lw_m5 115 rfl) rfl
theorem q1193 : (Jvm.Cond.methodLink "java/util/NoSuchElementException" (1 : Nat) ({ cls := "java/lang/RuntimeException", name := "<init>", desc := "()V" } : Jvm.MethodName)) ∈ lw_all := lw_g (lw_at lw_m5 116 rfl) rfl
theorem q1200 : (Jvm.Cond.lays "java/util/NoSuchElementException" "java/lang/Throwable" "depth" "I") ∈ lw_all := lw_g (lw_at lw_m5 123 rfl) rfl
theorem q1201 : (Jvm.Cond.superclass "java/util/NoSuchElementException" "java/lang/RuntimeException") ∈ lw_all := lw_g (lw_at lw_m5 124 rfl) rfl
theorem q1854 : (Jvm.Cond.castable "java/util/NoSuchElementException" "java/lang/Object") ∈ lw_tbl := lw_at lw_m8 57 rfl
theorem in_J11 : ∀ w ∈ wsJ110, w ∈ lw_all := lw_in wsJ110 [1185, 1186, 1187, 1188, 1189, 1200] (by decide +kernel) (by decide +kernel)

/-! java/lang/Object -/
set_option maxRecDepth 100000
def RJ12 : String := "java/lang/Object"
abbrev cJ12_init : ByteArray := object_method_1_code
def yJ12_init : MethodName := ⟨RJ12, "<init>", "()V"⟩
theorem dJ12_init_0 : decode cJ12_init 0 = .ok (.return_, 1) := by decide +kernel
theorem q145 : (Jvm.Cond.instanceMethod ({ cls := "java/lang/Object", name := "<init>", desc := "()V" } : Jvm.MethodName)) ∈ lw_all := lw_g (lw_at lw_m1 28 rfl) rfl
theorem q146 : (Jvm.Cond.code ({ cls := "java/lang/Object", name := "<init>", desc := "()V" } : Jvm.MethodName) object_method_1_code (1 : Nat) (Option.none : Option Jvm.ClassFile.FieldType)) ∈ lw_all := lw_g (lw_at lw_m1 29 rfl) rfl
theorem q981 : (Jvm.Cond.native ({ cls := "java/lang/Object", name := "clone", desc := "()Ljava/lang/Object;" } : Jvm.MethodName)) ∈ lw_all := lw_g (lw_at lw_m4 144 rfl) rfl
theorem q982 : (Jvm.Cond.instanceMethod ({ cls := "java/lang/Object", name := "clone", desc := "()Ljava/lang/Object;" } : Jvm.MethodName)) ∈ lw_all := lw_g (lw_at lw_m4 145 rfl) rfl
theorem q1857 : (Jvm.Cond.instantiable "java/lang/Object" (0 : Nat)) ∈ lw_all := lw_g (lw_at lw_m8 60 rfl) rfl

/-! java/lang/System$2 -/
set_option maxRecDepth 100000
def RJ13 : String := "java/lang/System$2"
abbrev cJ13_getUTF16Char : ByteArray := prog_23_method_45_code
def yJ13_getUTF16Char : MethodName := ⟨RJ13, "getUTF16Char", "([BI)C"⟩
def dkwJ13_getUTF16Char_0 : List UInt8 := [43, 28, 184, 0, 185, 172]
abbrev dktJ13_getUTF16Char_0 : List UInt8 := dkwJ13_getUTF16Char_0 ++ []
theorem dksJ13_getUTF16Char_0 : cJ13_getUTF16Char.data.toList.drop 0 = dktJ13_getUTF16Char_0 := by decide +kernel
theorem dJ13_getUTF16Char_0 : decode cJ13_getUTF16Char 0 = .ok (.aload_n 1, 1) := dk_43 (dk_at dksJ13_getUTF16Char_0 0 rfl rfl)
theorem dJ13_getUTF16Char_1 : decode cJ13_getUTF16Char 1 = .ok (.iload_n 2, 1) := dk_28 (dk_at dksJ13_getUTF16Char_0 1 rfl rfl)
theorem dJ13_getUTF16Char_2 : decode cJ13_getUTF16Char 2 = .ok (.invokestatic 185, 3) := dk_184 0 185 (dk_at dksJ13_getUTF16Char_0 2 rfl rfl)
theorem dJ13_getUTF16Char_5 : decode cJ13_getUTF16Char 5 = .ok (.ireturn, 1) := dk_172 (dk_at dksJ13_getUTF16Char_0 5 rfl rfl)
theorem q633 : (Jvm.Cond.castable "java/lang/System$2" "jdk/internal/access/JavaLangAccess") ∈ lw_tbl := lw_at lw_m3 36 rfl
theorem q634 : (Jvm.Cond.selects "java/lang/System$2" ({ cls := "jdk/internal/access/JavaLangAccess", name := "getUTF16Char", desc := "([BI)C" } : Jvm.MethodName) ({ cls := "java/lang/System$2", name := "getUTF16Char", desc := "([BI)C" } : Jvm.MethodName)) ∈ lw_all := lw_g (lw_at lw_m3 37 rfl) rfl
theorem q635 : (Jvm.Cond.unhidden "java/lang/System$2" "getUTF16Char" "([BI)C") ∈ lw_tbl := lw_at lw_m3 38 rfl
theorem q636 : (Jvm.Cond.instanceMethod ({ cls := "java/lang/System$2", name := "getUTF16Char", desc := "([BI)C" } : Jvm.MethodName)) ∈ lw_all := lw_g (lw_at lw_m3 39 rfl) rfl
theorem q637 : (Jvm.Cond.publicMethod ({ cls := "java/lang/System$2", name := "getUTF16Char", desc := "([BI)C" } : Jvm.MethodName)) ∈ lw_tbl := lw_at lw_m3 40 rfl
theorem q638 : (Jvm.Cond.code ({ cls := "java/lang/System$2", name := "getUTF16Char", desc := "([BI)C" } : Jvm.MethodName) prog_23_method_45_code (3 : Nat) (Option.some Jvm.ClassFile.FieldType.char)) ∈ lw_all := lw_g (lw_at lw_m3 41 rfl) rfl
theorem q639 : (Jvm.Cond.methodLink "java/lang/System$2" (185 : Nat) ({ cls := "java/lang/StringUTF16", name := "getChar", desc := "([BI)C" } : Jvm.MethodName)) ∈ lw_all := lw_g (lw_at lw_m3 42 rfl) rfl
theorem q1852 : (Jvm.Cond.castable "java/lang/System$2" "java/lang/Object") ∈ lw_tbl := lw_at lw_m8 55 rfl

theorem q170 : (Jvm.Cond.arrayClass Jvm.ClassFile.FieldType.int) ∈ lw_all := lw_g (lw_at lw_m1 53 rfl) rfl
set_option maxRecDepth 100000
theorem q178 : (Jvm.Cond.arrayOver (Jvm.ClassFile.FieldType.object "TermDesk$Row")) ∈ lw_tbl := lw_at lw_m1 61 rfl
theorem q214 : (Jvm.Cond.arrayOver (Jvm.ClassFile.FieldType.array Jvm.ClassFile.FieldType.int)) ∈ lw_tbl := lw_at lw_m1 97 rfl
theorem q294 : (Jvm.Cond.arrayClass Jvm.ClassFile.FieldType.byte) ∈ lw_all := lw_g (lw_at lw_m1 177 rfl) rfl
theorem q351 : (Jvm.Cond.arrayClass Jvm.ClassFile.FieldType.char) ∈ lw_all := lw_g (lw_at lw_m1 234 rfl) rfl
theorem q353 : (Jvm.Cond.arrayOver (Jvm.ClassFile.FieldType.object "TermDesk$Poly")) ∈ lw_tbl := lw_at lw_m1 236 rfl
theorem q355 : (Jvm.Cond.arrayOver (Jvm.ClassFile.FieldType.array (Jvm.ClassFile.FieldType.object "TermDesk$Poly"))) ∈ lw_tbl := lw_at lw_m1 238 rfl
theorem q1842 : (Jvm.Cond.arrayClass Jvm.ClassFile.FieldType.long) ∈ lw_all := lw_g (lw_at lw_m8 45 rfl) rfl
theorem q1856 : (Jvm.Cond.arrayClass Jvm.ClassFile.FieldType.short) ∈ lw_all := lw_g (lw_at lw_m8 59 rfl) rfl

theorem q136 : (Jvm.Cond.initialized "java/lang/System") ∈ lw_all := lw_g (lw_at lw_m1 19 rfl) rfl
set_option maxRecDepth 100000
theorem q928 : (Jvm.Cond.static ({ cls := "java/lang/System", name := "arraycopy", desc := "(Ljava/lang/Object;ILjava/lang/Object;II)V" } : Jvm.MethodName)) ∈ lw_all := lw_g (lw_at lw_m4 91 rfl) rfl
theorem q929 : (Jvm.Cond.native ({ cls := "java/lang/System", name := "arraycopy", desc := "(Ljava/lang/Object;ILjava/lang/Object;II)V" } : Jvm.MethodName)) ∈ lw_all := lw_g (lw_at lw_m4 92 rfl) rfl

theorem q631 : (Jvm.Cond.interfaceMethod "jdk/internal/access/JavaLangAccess" "jdk/internal/access/JavaLangAccess" "getUTF16Char" "([BI)C") ∈ lw_tbl := lw_at lw_m3 34 rfl
set_option maxRecDepth 100000
theorem q632 : (Jvm.Cond.declares ({ cls := "jdk/internal/access/JavaLangAccess", name := "getUTF16Char", desc := "([BI)C" } : Jvm.MethodName)) ∈ lw_tbl := lw_at lw_m3 35 rfl

theorem q754 : (Jvm.Cond.interfaceMethod "TermDesk$Order" "TermDesk$Order" "key" "(I)I") ∈ lw_tbl := lw_at lw_m3 157 rfl
set_option maxRecDepth 100000
theorem q755 : (Jvm.Cond.declares ({ cls := "TermDesk$Order", name := "key", desc := "(I)I" } : Jvm.MethodName)) ∈ lw_tbl := lw_at lw_m3 158 rfl

theorem q980 : (Jvm.Cond.sameMethod "[I" "java/lang/Object" "clone" "()Ljava/lang/Object;") ∈ lw_all := lw_g (lw_at lw_m4 143 rfl) rfl
set_option maxRecDepth 100000
theorem q983 : (Jvm.Cond.selects "[I" ({ cls := "[I", name := "clone", desc := "()Ljava/lang/Object;" } : Jvm.MethodName) ({ cls := "java/lang/Object", name := "clone", desc := "()Ljava/lang/Object;" } : Jvm.MethodName)) ∈ lw_all := lw_g (lw_at lw_m4 146 rfl) rfl
theorem q984 : (Jvm.Cond.castable "[I" "java/lang/Cloneable") ∈ lw_tbl := lw_at lw_m4 147 rfl

theorem q1004 : (Jvm.Cond.sameMethod "[LTermDesk$Poly;" "java/lang/Object" "clone" "()Ljava/lang/Object;") ∈ lw_all := lw_g (lw_at lw_m4 167 rfl) rfl
set_option maxRecDepth 100000
theorem q1005 : (Jvm.Cond.selects "[LTermDesk$Poly;" ({ cls := "[LTermDesk$Poly;", name := "clone", desc := "()Ljava/lang/Object;" } : Jvm.MethodName) ({ cls := "java/lang/Object", name := "clone", desc := "()Ljava/lang/Object;" } : Jvm.MethodName)) ∈ lw_all := lw_g (lw_at lw_m4 168 rfl) rfl
theorem q1006 : (Jvm.Cond.castable "[LTermDesk$Poly;" "java/lang/Cloneable") ∈ lw_tbl := lw_at lw_m4 169 rfl

/-! TermDeskLaw -/
set_option maxRecDepth 100000
def RX0 : String := "TermDeskLaw"
abbrev cX0_constant : ByteArray := method_3_code
def yX0_constant : MethodName := ⟨RX0, "constant", "(LTermDesk;I[J)I"⟩
def dkwX0_constant_0 : List UInt8 := [44, 3, 42, 27, 182, 0, 7, 133, 80, 167, 0, 6, 78, 4, 172, 3, 172]
abbrev dktX0_constant_0 : List UInt8 := dkwX0_constant_0 ++ []
theorem dksX0_constant_0 : cX0_constant.data.toList.drop 0 = dktX0_constant_0 := by decide +kernel
theorem dX0_constant_0 : decode cX0_constant 0 = .ok (.aload_n 2, 1) := dk_44 (dk_at dksX0_constant_0 0 rfl rfl)
theorem dX0_constant_1 : decode cX0_constant 1 = .ok (.iconst 0, 1) := dk_3 (dk_at dksX0_constant_0 1 rfl rfl)
theorem dX0_constant_2 : decode cX0_constant 2 = .ok (.aload_n 0, 1) := dk_42 (dk_at dksX0_constant_0 2 rfl rfl)
theorem dX0_constant_3 : decode cX0_constant 3 = .ok (.iload_n 1, 1) := dk_27 (dk_at dksX0_constant_0 3 rfl rfl)
theorem dX0_constant_4 : decode cX0_constant 4 = .ok (.invokevirtual 7, 3) := dk_182 0 7 (dk_at dksX0_constant_0 4 rfl rfl)
theorem dX0_constant_7 : decode cX0_constant 7 = .ok (.i2l, 1) := dk_133 (dk_at dksX0_constant_0 7 rfl rfl)
theorem dX0_constant_8 : decode cX0_constant 8 = .ok (.lastore, 1) := dk_80 (dk_at dksX0_constant_0 8 rfl rfl)
theorem dX0_constant_9 : decode cX0_constant 9 = .ok (.goto 6, 3) := dk_167 0 6 (dk_at dksX0_constant_0 9 rfl rfl)
theorem dX0_constant_12 : decode cX0_constant 12 = .ok (.astore_n 3, 1) := dk_78 (dk_at dksX0_constant_0 12 rfl rfl)
theorem dX0_constant_13 : decode cX0_constant 13 = .ok (.iconst 1, 1) := dk_4 (dk_at dksX0_constant_0 13 rfl rfl)
theorem dX0_constant_14 : decode cX0_constant 14 = .ok (.ireturn, 1) := dk_172 (dk_at dksX0_constant_0 14 rfl rfl)
theorem dX0_constant_15 : decode cX0_constant 15 = .ok (.iconst 0, 1) := dk_3 (dk_at dksX0_constant_0 15 rfl rfl)
theorem dX0_constant_16 : decode cX0_constant 16 = .ok (.ireturn, 1) := dk_172 (dk_at dksX0_constant_0 16 rfl rfl)
theorem q117 : (Jvm.Cond.initialized "TermDeskLaw") ∈ lw_all := lw_g (lw_at lw_m1 0 rfl) rfl
theorem q139 : (Jvm.Cond.classLink "TermDeskLaw" (8 : Nat) "TermDesk") ∈ lw_all := lw_g (lw_at lw_m1 22 rfl) rfl
theorem q141 : (Jvm.Cond.methodLink "TermDeskLaw" (15 : Nat) ({ cls := "TermDesk", name := "<init>", desc := "()V" } : Jvm.MethodName)) ∈ lw_all := lw_g (lw_at lw_m1 24 rfl) rfl
theorem q466 : (Jvm.Cond.methodLink "TermDeskLaw" (19 : Nat) ({ cls := "TermDesk", name := "feed", desc := "(IIIII)I" } : Jvm.MethodName)) ∈ lw_all := lw_g (lw_at lw_m2 109 rfl) rfl
theorem q474 : (Jvm.Cond.methodLink "TermDeskLaw" (24 : Nat) ({ cls := "TermDesk", name := "desk", desc := "(I)I" } : Jvm.MethodName)) ∈ lw_all := lw_g (lw_at lw_m2 117 rfl) rfl
theorem q757 : (Jvm.Cond.methodLink "TermDeskLaw" (28 : Nat) ({ cls := "TermDesk", name := "fault", desc := "()I" } : Jvm.MethodName)) ∈ lw_all := lw_g (lw_at lw_m3 160 rfl) rfl
theorem q761 : (Jvm.Cond.methodLink "TermDeskLaw" (33 : Nat) ({ cls := "TermDesk", name := "where", desc := "()I" } : Jvm.MethodName)) ∈ lw_all := lw_g (lw_at lw_m3 164 rfl) rfl
theorem q765 : (Jvm.Cond.methodLink "TermDeskLaw" (37 : Nat) ({ cls := "TermDesk", name := "about", desc := "(I)I" } : Jvm.MethodName)) ∈ lw_all := lw_g (lw_at lw_m3 168 rfl) rfl
theorem q789 : (Jvm.Cond.methodLink "TermDeskLaw" (41 : Nat) ({ cls := "TermDesk", name := "terms", desc := "(I)I" } : Jvm.MethodName)) ∈ lw_all := lw_g (lw_at lw_m3 192 rfl) rfl
theorem q796 : (Jvm.Cond.methodLink "TermDeskLaw" (45 : Nat) ({ cls := "TermDesk", name := "term", desc := "(III)I" } : Jvm.MethodName)) ∈ lw_all := lw_g (lw_at lw_m3 199 rfl) rfl
theorem q800 : (Jvm.Cond.methodLink "TermDeskLaw" (50 : Nat) ({ cls := "TermDesk", name := "degree", desc := "(I)I" } : Jvm.MethodName)) ∈ lw_all := lw_g (lw_at lw_m3 203 rfl) rfl
theorem q812 : (Jvm.Cond.methodLink "TermDeskLaw" (54 : Nat) ({ cls := "TermDesk", name := "degreeIn", desc := "(II)I" } : Jvm.MethodName)) ∈ lw_all := lw_g (lw_at lw_m3 215 rfl) rfl
theorem q824 : (Jvm.Cond.methodLink "TermDeskLaw" (59 : Nat) ({ cls := "TermDesk", name := "coefficient", desc := "(IIII)I" } : Jvm.MethodName)) ∈ lw_all := lw_g (lw_at lw_m3 227 rfl) rfl
theorem q839 : (Jvm.Cond.methodLink "TermDeskLaw" (64 : Nat) ({ cls := "TermDesk", name := "value", desc := "(IIII)I" } : Jvm.MethodName)) ∈ lw_all := lw_g (lw_at lw_m4 2 rfl) rfl
theorem q855 : (Jvm.Cond.methodLink "TermDeskLaw" (68 : Nat) ({ cls := "TermDesk", name := "roots", desc := "(I)I" } : Jvm.MethodName)) ∈ lw_all := lw_g (lw_at lw_m4 18 rfl) rfl
theorem q859 : (Jvm.Cond.methodLink "TermDeskLaw" (72 : Nat) ({ cls := "TermDesk", name := "same", desc := "(II)I" } : Jvm.MethodName)) ∈ lw_all := lw_g (lw_at lw_m4 22 rfl) rfl
theorem q867 : (Jvm.Cond.methodLink "TermDeskLaw" (76 : Nat) ({ cls := "TermDesk", name := "ahead", desc := "(IIIIII)I" } : Jvm.MethodName)) ∈ lw_all := lw_g (lw_at lw_m4 30 rfl) rfl
theorem q874 : (Jvm.Cond.methodLink "TermDeskLaw" (81 : Nat) ({ cls := "TermDesk", name := "leadBy", desc := "(IIII)I" } : Jvm.MethodName)) ∈ lw_all := lw_g (lw_at lw_m4 37 rfl) rfl
theorem q881 : (Jvm.Cond.methodLink "TermDeskLaw" (85 : Nat) ({ cls := "TermDesk", name := "divided", desc := "(III)I" } : Jvm.MethodName)) ∈ lw_all := lw_g (lw_at lw_m4 44 rfl) rfl
theorem q940 : (Jvm.Cond.methodLink "TermDeskLaw" (89 : Nat) ({ cls := "TermDesk", name := "divides", desc := "(II)I" } : Jvm.MethodName)) ∈ lw_all := lw_g (lw_at lw_m4 103 rfl) rfl
theorem q944 : (Jvm.Cond.methodLink "TermDeskLaw" (93 : Nat) ({ cls := "TermDesk", name := "missing", desc := "(I)I" } : Jvm.MethodName)) ∈ lw_all := lw_g (lw_at lw_m4 107 rfl) rfl
theorem q991 : (Jvm.Cond.methodLink "TermDeskLaw" (97 : Nat) ({ cls := "TermDesk", name := "add", desc := "(III)I" } : Jvm.MethodName)) ∈ lw_all := lw_g (lw_at lw_m4 154 rfl) rfl
theorem q1007 : (Jvm.Cond.methodLink "TermDeskLaw" (101 : Nat) ({ cls := "TermDesk", name := "less", desc := "(III)I" } : Jvm.MethodName)) ∈ lw_all := lw_g (lw_at lw_m4 170 rfl) rfl
theorem q1011 : (Jvm.Cond.methodLink "TermDeskLaw" (105 : Nat) ({ cls := "TermDesk", name := "times", desc := "(III)I" } : Jvm.MethodName)) ∈ lw_all := lw_g (lw_at lw_m4 174 rfl) rfl
theorem q1055 : (Jvm.Cond.methodLink "TermDeskLaw" (109 : Nat) ({ cls := "TermDesk", name := "scale", desc := "(IIIIII)I" } : Jvm.MethodName)) ∈ lw_all := lw_g (lw_at lw_m4 218 rfl) rfl
theorem q1059 : (Jvm.Cond.methodLink "TermDeskLaw" (113 : Nat) ({ cls := "TermDesk", name := "monic", desc := "(II)I" } : Jvm.MethodName)) ∈ lw_all := lw_g (lw_at lw_m4 222 rfl) rfl
theorem q1063 : (Jvm.Cond.methodLink "TermDeskLaw" (117 : Nat) ({ cls := "TermDesk", name := "derive", desc := "(III)I" } : Jvm.MethodName)) ∈ lw_all := lw_g (lw_at lw_m4 226 rfl) rfl
theorem q1068 : (Jvm.Cond.methodLink "TermDeskLaw" (121 : Nat) ({ cls := "TermDesk", name := "put", desc := "(IIII)I" } : Jvm.MethodName)) ∈ lw_all := lw_g (lw_at lw_m4 231 rfl) rfl
theorem q1072 : (Jvm.Cond.methodLink "TermDeskLaw" (125 : Nat) ({ cls := "TermDesk", name := "swap", desc := "(IIII)I" } : Jvm.MethodName)) ∈ lw_all := lw_g (lw_at lw_m4 235 rfl) rfl
theorem q1076 : (Jvm.Cond.methodLink "TermDeskLaw" (129 : Nat) ({ cls := "TermDesk", name := "rest", desc := "(III)I" } : Jvm.MethodName)) ∈ lw_all := lw_g (lw_at lw_m4 239 rfl) rfl
theorem q1080 : (Jvm.Cond.methodLink "TermDeskLaw" (133 : Nat) ({ cls := "TermDesk", name := "quotient", desc := "(IIII)I" } : Jvm.MethodName)) ∈ lw_all := lw_g (lw_at lw_m5 3 rfl) rfl
theorem q1084 : (Jvm.Cond.methodLink "TermDeskLaw" (137 : Nat) ({ cls := "TermDesk", name := "pair", desc := "(III)I" } : Jvm.MethodName)) ∈ lw_all := lw_g (lw_at lw_m5 7 rfl) rfl
theorem q1088 : (Jvm.Cond.methodLink "TermDeskLaw" (141 : Nat) ({ cls := "TermDesk", name := "common", desc := "(III)I" } : Jvm.MethodName)) ∈ lw_all := lw_g (lw_at lw_m5 11 rfl) rfl
theorem q1137 : (Jvm.Cond.methodLink "TermDeskLaw" (145 : Nat) ({ cls := "TermDesk", name := "content", desc := "(II)I" } : Jvm.MethodName)) ∈ lw_all := lw_g (lw_at lw_m5 60 rfl) rfl
theorem q1145 : (Jvm.Cond.methodLink "TermDeskLaw" (149 : Nat) ({ cls := "TermDesk", name := "primitive", desc := "(II)I" } : Jvm.MethodName)) ∈ lw_all := lw_g (lw_at lw_m5 68 rfl) rfl
theorem q1149 : (Jvm.Cond.methodLink "TermDeskLaw" (153 : Nat) ({ cls := "TermDesk", name := "complete", desc := "(I)I" } : Jvm.MethodName)) ∈ lw_all := lw_g (lw_at lw_m5 72 rfl) rfl
theorem q1157 : (Jvm.Cond.methodLink "TermDeskLaw" (157 : Nat) ({ cls := "TermDesk", name := "order", desc := "(III)I" } : Jvm.MethodName)) ∈ lw_all := lw_g (lw_at lw_m5 80 rfl) rfl
theorem q1161 : (Jvm.Cond.methodLink "TermDeskLaw" (161 : Nat) ({ cls := "TermDesk", name := "undo", desc := "()Z" } : Jvm.MethodName)) ∈ lw_all := lw_g (lw_at lw_m5 84 rfl) rfl
theorem q1165 : (Jvm.Cond.methodLink "TermDeskLaw" (175 : Nat) ({ cls := "TermDesk", name := "size", desc := "(I)I" } : Jvm.MethodName)) ∈ lw_all := lw_g (lw_at lw_m5 88 rfl) rfl
theorem q1169 : (Jvm.Cond.methodLink "TermDeskLaw" (179 : Nat) ({ cls := "TermDesk", name := "trouble", desc := "()I" } : Jvm.MethodName)) ∈ lw_all := lw_g (lw_at lw_m5 92 rfl) rfl
theorem q1173 : (Jvm.Cond.methodLink "TermDeskLaw" (166 : Nat) ({ cls := "TermDeskLaw", name := "constant", desc := "(LTermDesk;I[J)I" } : Jvm.MethodName)) ∈ lw_all := lw_g (lw_at lw_m5 96 rfl) rfl
theorem q1174 : (Jvm.Cond.static ({ cls := "TermDeskLaw", name := "constant", desc := "(LTermDesk;I[J)I" } : Jvm.MethodName)) ∈ lw_all := lw_g (lw_at lw_m5 97 rfl) rfl
theorem q1175 : (Jvm.Cond.codeWith ({ cls := "TermDeskLaw", name := "constant", desc := "(LTermDesk;I[J)I" } : Jvm.MethodName) method_3_code (4 : Nat) (Option.some Jvm.ClassFile.FieldType.int) [((0 : Nat), (9 : Nat), (12 : Nat), (13 : Nat))]) ∈ lw_all := lw_g (lw_at lw_m5 98 rfl) rfl
theorem q1176 : (Jvm.Cond.classLink "TermDeskLaw" (13 : Nat) "java/util/NoSuchElementException") ∈ lw_all := lw_g (lw_at lw_m5 99 rfl) rfl
theorem q1177 : (Jvm.Cond.methodLink "TermDeskLaw" (7 : Nat) ({ cls := "TermDesk", name := "constant", desc := "(I)I" } : Jvm.MethodName)) ∈ lw_all := lw_g (lw_at lw_m5 100 rfl) rfl
theorem q1202 : (Jvm.Cond.classLink "TermDeskLaw" (16 : Nat) "TermDeskModel") ∈ lw_all := lw_g (lw_at lw_m5 125 rfl) rfl
theorem q1204 : (Jvm.Cond.methodLink "TermDeskLaw" (18 : Nat) ({ cls := "TermDeskModel", name := "<init>", desc := "()V" } : Jvm.MethodName)) ∈ lw_all := lw_g (lw_at lw_m5 127 rfl) rfl
theorem q1370 : (Jvm.Cond.methodLink "TermDeskLaw" (172 : Nat) ({ cls := "TermDeskModel", name := "thrown", desc := "()I" } : Jvm.MethodName)) ∈ lw_all := lw_g (lw_at lw_m6 53 rfl) rfl
theorem q1374 : (Jvm.Cond.methodLink "TermDeskLaw" (23 : Nat) ({ cls := "TermDeskModel", name := "feed", desc := "(IIIII)I" } : Jvm.MethodName)) ∈ lw_all := lw_g (lw_at lw_m6 57 rfl) rfl
theorem q1378 : (Jvm.Cond.methodLink "TermDeskLaw" (27 : Nat) ({ cls := "TermDeskModel", name := "desk", desc := "(I)I" } : Jvm.MethodName)) ∈ lw_all := lw_g (lw_at lw_m6 61 rfl) rfl
theorem q1502 : (Jvm.Cond.methodLink "TermDeskLaw" (32 : Nat) ({ cls := "TermDeskModel", name := "fault", desc := "()I" } : Jvm.MethodName)) ∈ lw_all := lw_g (lw_at lw_m6 185 rfl) rfl
theorem q1506 : (Jvm.Cond.methodLink "TermDeskLaw" (36 : Nat) ({ cls := "TermDeskModel", name := "where", desc := "()I" } : Jvm.MethodName)) ∈ lw_all := lw_g (lw_at lw_m6 189 rfl) rfl
theorem q1510 : (Jvm.Cond.methodLink "TermDeskLaw" (40 : Nat) ({ cls := "TermDeskModel", name := "about", desc := "(I)I" } : Jvm.MethodName)) ∈ lw_all := lw_g (lw_at lw_m6 193 rfl) rfl
theorem q1530 : (Jvm.Cond.methodLink "TermDeskLaw" (44 : Nat) ({ cls := "TermDeskModel", name := "terms", desc := "(I)I" } : Jvm.MethodName)) ∈ lw_all := lw_g (lw_at lw_m6 213 rfl) rfl
theorem q1538 : (Jvm.Cond.methodLink "TermDeskLaw" (49 : Nat) ({ cls := "TermDeskModel", name := "term", desc := "(III)I" } : Jvm.MethodName)) ∈ lw_all := lw_g (lw_at lw_m6 221 rfl) rfl
theorem q1548 : (Jvm.Cond.methodLink "TermDeskLaw" (53 : Nat) ({ cls := "TermDeskModel", name := "degree", desc := "(I)I" } : Jvm.MethodName)) ∈ lw_all := lw_g (lw_at lw_m6 231 rfl) rfl
theorem q1552 : (Jvm.Cond.methodLink "TermDeskLaw" (58 : Nat) ({ cls := "TermDeskModel", name := "degreeIn", desc := "(II)I" } : Jvm.MethodName)) ∈ lw_all := lw_g (lw_at lw_m6 235 rfl) rfl
theorem q1563 : (Jvm.Cond.methodLink "TermDeskLaw" (63 : Nat) ({ cls := "TermDeskModel", name := "coefficient", desc := "(IIII)I" } : Jvm.MethodName)) ∈ lw_all := lw_g (lw_at lw_m7 6 rfl) rfl
theorem q1573 : (Jvm.Cond.methodLink "TermDeskLaw" (67 : Nat) ({ cls := "TermDeskModel", name := "value", desc := "(IIII)I" } : Jvm.MethodName)) ∈ lw_all := lw_g (lw_at lw_m7 16 rfl) rfl
theorem q1593 : (Jvm.Cond.methodLink "TermDeskLaw" (71 : Nat) ({ cls := "TermDeskModel", name := "roots", desc := "(I)I" } : Jvm.MethodName)) ∈ lw_all := lw_g (lw_at lw_m7 36 rfl) rfl
theorem q1597 : (Jvm.Cond.methodLink "TermDeskLaw" (75 : Nat) ({ cls := "TermDeskModel", name := "same", desc := "(II)I" } : Jvm.MethodName)) ∈ lw_all := lw_g (lw_at lw_m7 40 rfl) rfl
theorem q1601 : (Jvm.Cond.methodLink "TermDeskLaw" (80 : Nat) ({ cls := "TermDeskModel", name := "ahead", desc := "(IIIIII)I" } : Jvm.MethodName)) ∈ lw_all := lw_g (lw_at lw_m7 44 rfl) rfl
theorem q1608 : (Jvm.Cond.methodLink "TermDeskLaw" (84 : Nat) ({ cls := "TermDeskModel", name := "leadBy", desc := "(IIII)I" } : Jvm.MethodName)) ∈ lw_all := lw_g (lw_at lw_m7 51 rfl) rfl
theorem q1615 : (Jvm.Cond.methodLink "TermDeskLaw" (88 : Nat) ({ cls := "TermDeskModel", name := "divided", desc := "(III)I" } : Jvm.MethodName)) ∈ lw_all := lw_g (lw_at lw_m7 58 rfl) rfl
theorem q1657 : (Jvm.Cond.methodLink "TermDeskLaw" (92 : Nat) ({ cls := "TermDeskModel", name := "divides", desc := "(II)I" } : Jvm.MethodName)) ∈ lw_all := lw_g (lw_at lw_m7 100 rfl) rfl
theorem q1661 : (Jvm.Cond.methodLink "TermDeskLaw" (96 : Nat) ({ cls := "TermDeskModel", name := "missing", desc := "(I)I" } : Jvm.MethodName)) ∈ lw_all := lw_g (lw_at lw_m7 104 rfl) rfl
theorem q1685 : (Jvm.Cond.methodLink "TermDeskLaw" (100 : Nat) ({ cls := "TermDeskModel", name := "add", desc := "(III)I" } : Jvm.MethodName)) ∈ lw_all := lw_g (lw_at lw_m7 128 rfl) rfl
theorem q1701 : (Jvm.Cond.methodLink "TermDeskLaw" (104 : Nat) ({ cls := "TermDeskModel", name := "less", desc := "(III)I" } : Jvm.MethodName)) ∈ lw_all := lw_g (lw_at lw_m7 144 rfl) rfl
theorem q1705 : (Jvm.Cond.methodLink "TermDeskLaw" (108 : Nat) ({ cls := "TermDeskModel", name := "times", desc := "(III)I" } : Jvm.MethodName)) ∈ lw_all := lw_g (lw_at lw_m7 148 rfl) rfl
theorem q1709 : (Jvm.Cond.methodLink "TermDeskLaw" (112 : Nat) ({ cls := "TermDeskModel", name := "scale", desc := "(IIIIII)I" } : Jvm.MethodName)) ∈ lw_all := lw_g (lw_at lw_m7 152 rfl) rfl
theorem q1713 : (Jvm.Cond.methodLink "TermDeskLaw" (116 : Nat) ({ cls := "TermDeskModel", name := "monic", desc := "(II)I" } : Jvm.MethodName)) ∈ lw_all := lw_g (lw_at lw_m7 156 rfl) rfl
theorem q1717 : (Jvm.Cond.methodLink "TermDeskLaw" (120 : Nat) ({ cls := "TermDeskModel", name := "derive", desc := "(III)I" } : Jvm.MethodName)) ∈ lw_all := lw_g (lw_at lw_m7 160 rfl) rfl
theorem q1721 : (Jvm.Cond.methodLink "TermDeskLaw" (124 : Nat) ({ cls := "TermDeskModel", name := "put", desc := "(IIII)I" } : Jvm.MethodName)) ∈ lw_all := lw_g (lw_at lw_m7 164 rfl) rfl
theorem q1725 : (Jvm.Cond.methodLink "TermDeskLaw" (128 : Nat) ({ cls := "TermDeskModel", name := "swap", desc := "(IIII)I" } : Jvm.MethodName)) ∈ lw_all := lw_g (lw_at lw_m7 168 rfl) rfl
theorem q1729 : (Jvm.Cond.methodLink "TermDeskLaw" (132 : Nat) ({ cls := "TermDeskModel", name := "rest", desc := "(III)I" } : Jvm.MethodName)) ∈ lw_all := lw_g (lw_at lw_m7 172 rfl) rfl
theorem q1733 : (Jvm.Cond.methodLink "TermDeskLaw" (136 : Nat) ({ cls := "TermDeskModel", name := "quotient", desc := "(IIII)I" } : Jvm.MethodName)) ∈ lw_all := lw_g (lw_at lw_m7 176 rfl) rfl
theorem q1737 : (Jvm.Cond.methodLink "TermDeskLaw" (140 : Nat) ({ cls := "TermDeskModel", name := "pair", desc := "(III)I" } : Jvm.MethodName)) ∈ lw_all := lw_g (lw_at lw_m7 180 rfl) rfl
theorem q1741 : (Jvm.Cond.methodLink "TermDeskLaw" (144 : Nat) ({ cls := "TermDeskModel", name := "common", desc := "(III)I" } : Jvm.MethodName)) ∈ lw_all := lw_g (lw_at lw_m7 184 rfl) rfl
theorem q1802 : (Jvm.Cond.methodLink "TermDeskLaw" (148 : Nat) ({ cls := "TermDeskModel", name := "content", desc := "(II)I" } : Jvm.MethodName)) ∈ lw_all := lw_g (lw_at lw_m8 5 rfl) rfl
theorem q1806 : (Jvm.Cond.methodLink "TermDeskLaw" (152 : Nat) ({ cls := "TermDeskModel", name := "primitive", desc := "(II)I" } : Jvm.MethodName)) ∈ lw_all := lw_g (lw_at lw_m8 9 rfl) rfl
theorem q1810 : (Jvm.Cond.methodLink "TermDeskLaw" (156 : Nat) ({ cls := "TermDeskModel", name := "complete", desc := "(I)I" } : Jvm.MethodName)) ∈ lw_all := lw_g (lw_at lw_m8 13 rfl) rfl
theorem q1818 : (Jvm.Cond.methodLink "TermDeskLaw" (160 : Nat) ({ cls := "TermDeskModel", name := "order", desc := "(III)I" } : Jvm.MethodName)) ∈ lw_all := lw_g (lw_at lw_m8 21 rfl) rfl
theorem q1822 : (Jvm.Cond.methodLink "TermDeskLaw" (165 : Nat) ({ cls := "TermDeskModel", name := "undo", desc := "()Z" } : Jvm.MethodName)) ∈ lw_all := lw_g (lw_at lw_m8 25 rfl) rfl
theorem q1826 : (Jvm.Cond.methodLink "TermDeskLaw" (171 : Nat) ({ cls := "TermDeskModel", name := "constant", desc := "(I)I" } : Jvm.MethodName)) ∈ lw_all := lw_g (lw_at lw_m8 29 rfl) rfl
theorem q1830 : (Jvm.Cond.methodLink "TermDeskLaw" (178 : Nat) ({ cls := "TermDeskModel", name := "size", desc := "(I)I" } : Jvm.MethodName)) ∈ lw_all := lw_g (lw_at lw_m8 33 rfl) rfl
theorem q1838 : (Jvm.Cond.methodLink "TermDeskLaw" (182 : Nat) ({ cls := "TermDeskModel", name := "trouble", desc := "()I" } : Jvm.MethodName)) ∈ lw_all := lw_g (lw_at lw_m8 41 rfl) rfl

