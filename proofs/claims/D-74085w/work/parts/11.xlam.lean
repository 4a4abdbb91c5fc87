set_option maxRecDepth 100000
def lsh (n : String) : Lambda.Shape := { iface := "TermDesk$Order", name := "key", sam := ⟨[.int], some .int⟩, captured := [.int, .int, .int], kind := 6, implClass := "TermDesk", implName := n, implDesc := ⟨[.int, .int, .int, .int], some .int⟩, implItf := false, inst := ⟨[.int], some .int⟩ }
def lnm (k : Nat) : String := if k = 0 then "lambda$orderOf$0" else if k = 1 then "lambda$orderOf$1" else "lambda$orderOf$2"
def lcode : ByteArray := ⟨#[42, 180, 0, 17, 42, 180, 0, 19, 42, 180, 0, 21, 27, 184, 0, 29, 172]⟩
theorem lc_0 : decode lcode 0 = .ok (.aload_n 0, 1) := by decide +kernel
theorem lc_1 : decode lcode 1 = .ok (.getfield 17, 3) := by decide +kernel
theorem lc_4 : decode lcode 4 = .ok (.aload_n 0, 1) := by decide +kernel
theorem lc_5 : decode lcode 5 = .ok (.getfield 19, 3) := by decide +kernel
theorem lc_8 : decode lcode 8 = .ok (.aload_n 0, 1) := by decide +kernel
theorem lc_9 : decode lcode 9 = .ok (.getfield 21, 3) := by decide +kernel
theorem lc_12 : decode lcode 12 = .ok (.iload_n 1, 1) := by decide +kernel
theorem lc_13 : decode lcode 13 = .ok (.invokestatic 29, 3) := by decide +kernel
theorem lc_16 : decode lcode 16 = .ok (.ireturn, 1) := by decide +kernel
/-- what the tables say of a made class -/
def lfacts (n : String) (vm : Vm) (c : ClassId) : Prop := ∃ (k tk : Class) (file : ClassFile) (methk : Method) (ck : Code) (td : ClassId) (t : MethodId) (f0 f1 f2 : Field) (ci nt : Nat),
      vm.classes[c]? = some k ∧ k.name = "TermDesk$$Lambda" ∧ k.cf = some file ∧ file.constantPool[29]? = some (.methodref ci nt) ∧ file.constantPool.nameAndType? nt = some (n, "(IIII)I") ∧
      vm.method? ⟨c, 1⟩ = some methk ∧ methk.code = some ck ∧ ck.code = lcode ∧ ck.maxLocals = 2 ∧ methk.locks = false ∧ methk.accessFlags = 0x0001 ∧ methk.sig.returnType = some .int ∧
      vm.findClass "TermDesk" = some td ∧ vm.classes[td]? = some tk ∧ ((methodIn td n "(IIII)I" tk.isInterface none).ask { classPath := fun _ => none } vm).1 = .ok t ∧
      vm.methodReady c 29 t ∧ vm.classReady c ci td ∧ vm.fieldReady c 17 c f0 ∧ f0.isStatic = false ∧ f0.slot = 0 ∧ vm.fieldReady c 19 c f1 ∧ f1.isStatic = false ∧ f1.slot = 1 ∧ vm.fieldReady c 21 c f2 ∧ f2.isStatic = false ∧ f2.slot = 2 ∧ k.instanceTypes = #[.int, .int, .int] ∧ k.kind = .ordinary
def lD0 : ClassFile := ((lsh "lambda$orderOf$0").file "TermDesk").getD { minorVersion := 0, majorVersion := 0, constantPool := #[], accessFlags := 0, thisClass := 0, superClass := 0, interfaces := #[], fields := #[], methods := #[], attributes := #[] }
def lF0 : Method := ((layoutMethods lD0).bind (fun x => x[1]?)).getD default
def lL0 : Array Field × Array FieldType × Array FieldType := (layoutFields lD0 0).getD default
theorem lfile0 : (lsh "lambda$orderOf$0").file "TermDesk" = some lD0 := by
  have h : ((lsh "lambda$orderOf$0").file "TermDesk").isSome = true := by decide +kernel
  obtain ⟨x, hx⟩ := Option.isSome_iff_exists.mp h
  simp [lD0, hx]
theorem lsec0 : ∀ ms, layoutMethods lD0 = some ms → ms[1]? = some lF0 := by
  intro ms hms
  have h : ((layoutMethods lD0).bind (fun x => x[1]?)).isSome = true := by decide +kernel
  obtain ⟨x, hx⟩ := Option.isSome_iff_exists.mp h
  have hf : lF0 = x := by simp [lF0, hx]
  rw [hms] at hx
  rw [hf]
  exact hx
theorem llaid0 : layoutFields lD0 0 = some lL0 := by
  have h : (layoutFields lD0 0).isSome = true := by decide +kernel
  obtain ⟨x, hx⟩ := Option.isSome_iff_exists.mp h
  simp [lL0, hx]
theorem lfc0 : (lF0.code.map fun c => (c.code.data, c.maxLocals)) = some (lcode.data, 2) := by decide +kernel
theorem lff0 : (lF0.accessFlags, lF0.name, lF0.sig.returnType) = (0x0001, "key", some FieldType.int) := by decide +kernel
theorem leM0 : lD0.constantPool[29]? = some (.methodref 25 28) ∧ lD0.constantPool.className? 25 = some "TermDesk" ∧ lD0.constantPool.nameAndType? 28 = some ("lambda$orderOf$0", "(IIII)I") := by decide +kernel
theorem leC0 : lD0.constantPool[25]? = some (.class_ 24) ∧ lD0.constantPool.string? 24 = some "TermDesk" ∧ 25 ≠ lD0.thisClass := by decide +kernel
theorem leF00 : lD0.constantPool[17]? = some (.fieldref 2 16) ∧ lD0.constantPool.nameAndType? 16 = some ("arg$1", "I") ∧ lL0.1.findIdx? (fun x => x.name == "arg$1") = some 0 ∧ (lL0.1[0]?).map (fun f => (f.isStatic, f.slot)) = some (false, 0) := by decide +kernel
theorem leF10 : lD0.constantPool[19]? = some (.fieldref 2 18) ∧ lD0.constantPool.nameAndType? 18 = some ("arg$2", "I") ∧ lL0.1.findIdx? (fun x => x.name == "arg$2") = some 1 ∧ (lL0.1[1]?).map (fun f => (f.isStatic, f.slot)) = some (false, 1) := by decide +kernel
theorem leF20 : lD0.constantPool[21]? = some (.fieldref 2 20) ∧ lD0.constantPool.nameAndType? 20 = some ("arg$3", "I") ∧ lL0.1.findIdx? (fun x => x.name == "arg$3") = some 2 ∧ (lL0.1[2]?).map (fun f => (f.isStatic, f.slot)) = some (false, 2) := by decide +kernel
theorem leT0 : lL0.2.1 = #[.int, .int, .int] := by decide +kernel
theorem lmade0 {vm : Vm} {d c : ClassId} {dk : Class} (hd : vm.classes[d]? = some dk) (hname : dk.name = "TermDesk") (h : Lambda.isMade { classPath := fun _ => none } vm d (lsh "lambda$orderOf$0") c = true)
    (hO : ∀ o ok, vm.findClass "java/lang/Object" = some o → vm.classes[o]? = some ok → ok.instanceTypes.size = 0) : lfacts "lambda$orderOf$0" vm c := by
  obtain ⟨dk', k, ok, tk, file, cf, object, iface, td, lay, methods, target, found, hd', hk, hfile, hcf, hobj, -, hok, hlay, hms, ht, htk, hg, -, hrec, -, -, -, hitf, hpool, hmeth, hfields, hit, hres, -⟩ := Lambda.isMade_spec h
  cases hd.symm.trans hd'
  rw [hname, lfile0] at hcf
  cases hcf
  rw [hO object ok hobj hok, llaid0] at hlay
  cases hlay
  obtain ⟨b, hb, hsame⟩ := hmeth 1 lF0 (lsec0 methods hms)
  simp only [Lambda.sameMethod, Bool.and_eq_true, decide_eq_true_eq] at hsame
  obtain ⟨⟨hn, -, hsig, hfl⟩, hcode⟩ := hsame
  have fc := lfc0
  have ff := lff0
  simp only [Prod.mk.injEq] at ff
  obtain ⟨g0, hg0, hp0⟩ := Option.map_eq_some_iff.mp leF00.2.2.2
  simp only [Prod.mk.injEq] at hp0
  obtain ⟨g1, hg1, hp1⟩ := Option.map_eq_some_iff.mp leF10.2.2.2
  simp only [Prod.mk.injEq] at hp1
  obtain ⟨g2, hg2, hp2⟩ := Option.map_eq_some_iff.mp leF20.2.2.2
  simp only [Prod.mk.injEq] at hp2
  have hok0 : ok.instanceTypes = #[] := Array.eq_empty_of_size_eq_zero (hO object ok hobj hok)
  cases hfc : lF0.code with
  | none => rw [hfc] at fc; cases fc
  | some x =>
    cases hbc : b.code with
    | none => simp [hfc, hbc] at hcode
    | some y =>
      simp only [hfc, hbc, Bool.and_eq_true, decide_eq_true_eq] at hcode
      simp only [hfc, Option.map_some, Option.some.injEq, Prod.mk.injEq] at fc
      refine ⟨k, tk, file, b, y, td, target, g0, g1, g2, 25, 28, hk, by rw [hrec.1, hname]; rfl, hfile, by rw [hpool.2.1]; exact leM0.1, by rw [hpool.2.1]; exact leM0.2.2, by simp [Vm.method?, hk, hb], hbc, ?_, by rw [← hcode.1.1.1.1.2.1]; exact fc.2, ?_, by rw [← hfl]; exact ff.1, by rw [← hsig]; exact ff.2.2, ht, htk, hg,
        ⟨k, hk, hres 29 _ (Lambda.resolvedOf_method leM0.1 leM0.2.1 ht htk leM0.2.2 hg)⟩, ⟨k, hk, hres 25 _ (Lambda.resolvedOf_class leC0.1 leC0.2.2 leC0.2.1 ht)⟩,
        ⟨k, 0, k, hk, hres 17 _ (Lambda.resolvedOf_field leF00.1 leF00.2.1 leF00.2.2.1), hk, hfields 0 _ hg0⟩, hp0.1, hp0.2,
        ⟨k, 1, k, hk, hres 19 _ (Lambda.resolvedOf_field leF10.1 leF10.2.1 leF10.2.2.1), hk, hfields 1 _ hg1⟩, hp1.1, hp1.2,
        ⟨k, 2, k, hk, hres 21 _ (Lambda.resolvedOf_field leF20.1 leF20.2.1 leF20.2.2.1), hk, hfields 2 _ hg2⟩, hp2.1, hp2.2, ?_, hrec.2.1⟩
      · rw [← hcode.1.1.1.1.2.2]
        exact ByteArray.ext fc.1
      · simp [Method.locks, Method.isSynchronized, ← hfl, ff.1, hasFlag, Acc.synchronized]
      · rw [hit.1, hok0, leT0]
        rfl
def lD1 : ClassFile := ((lsh "lambda$orderOf$1").file "TermDesk").getD { minorVersion := 0, majorVersion := 0, constantPool := #[], accessFlags := 0, thisClass := 0, superClass := 0, interfaces := #[], fields := #[], methods := #[], attributes := #[] }
def lF1 : Method := ((layoutMethods lD1).bind (fun x => x[1]?)).getD default
def lL1 : Array Field × Array FieldType × Array FieldType := (layoutFields lD1 0).getD default
theorem lfile1 : (lsh "lambda$orderOf$1").file "TermDesk" = some lD1 := by
  have h : ((lsh "lambda$orderOf$1").file "TermDesk").isSome = true := by decide +kernel
  obtain ⟨x, hx⟩ := Option.isSome_iff_exists.mp h
  simp [lD1, hx]
theorem lsec1 : ∀ ms, layoutMethods lD1 = some ms → ms[1]? = some lF1 := by
  intro ms hms
  have h : ((layoutMethods lD1).bind (fun x => x[1]?)).isSome = true := by decide +kernel
  obtain ⟨x, hx⟩ := Option.isSome_iff_exists.mp h
  have hf : lF1 = x := by simp [lF1, hx]
  rw [hms] at hx
  rw [hf]
  exact hx
theorem llaid1 : layoutFields lD1 0 = some lL1 := by
  have h : (layoutFields lD1 0).isSome = true := by decide +kernel
  obtain ⟨x, hx⟩ := Option.isSome_iff_exists.mp h
  simp [lL1, hx]
theorem lfc1 : (lF1.code.map fun c => (c.code.data, c.maxLocals)) = some (lcode.data, 2) := by decide +kernel
theorem lff1 : (lF1.accessFlags, lF1.name, lF1.sig.returnType) = (0x0001, "key", some FieldType.int) := by decide +kernel
theorem leM1 : lD1.constantPool[29]? = some (.methodref 25 28) ∧ lD1.constantPool.className? 25 = some "TermDesk" ∧ lD1.constantPool.nameAndType? 28 = some ("lambda$orderOf$1", "(IIII)I") := by decide +kernel
theorem leC1 : lD1.constantPool[25]? = some (.class_ 24) ∧ lD1.constantPool.string? 24 = some "TermDesk" ∧ 25 ≠ lD1.thisClass := by decide +kernel
theorem leF01 : lD1.constantPool[17]? = some (.fieldref 2 16) ∧ lD1.constantPool.nameAndType? 16 = some ("arg$1", "I") ∧ lL1.1.findIdx? (fun x => x.name == "arg$1") = some 0 ∧ (lL1.1[0]?).map (fun f => (f.isStatic, f.slot)) = some (false, 0) := by decide +kernel
theorem leF11 : lD1.constantPool[19]? = some (.fieldref 2 18) ∧ lD1.constantPool.nameAndType? 18 = some ("arg$2", "I") ∧ lL1.1.findIdx? (fun x => x.name == "arg$2") = some 1 ∧ (lL1.1[1]?).map (fun f => (f.isStatic, f.slot)) = some (false, 1) := by decide +kernel
theorem leF21 : lD1.constantPool[21]? = some (.fieldref 2 20) ∧ lD1.constantPool.nameAndType? 20 = some ("arg$3", "I") ∧ lL1.1.findIdx? (fun x => x.name == "arg$3") = some 2 ∧ (lL1.1[2]?).map (fun f => (f.isStatic, f.slot)) = some (false, 2) := by decide +kernel
theorem leT1 : lL1.2.1 = #[.int, .int, .int] := by decide +kernel
theorem lmade1 {vm : Vm} {d c : ClassId} {dk : Class} (hd : vm.classes[d]? = some dk) (hname : dk.name = "TermDesk") (h : Lambda.isMade { classPath := fun _ => none } vm d (lsh "lambda$orderOf$1") c = true)
    (hO : ∀ o ok, vm.findClass "java/lang/Object" = some o → vm.classes[o]? = some ok → ok.instanceTypes.size = 0) : lfacts "lambda$orderOf$1" vm c := by
  obtain ⟨dk', k, ok, tk, file, cf, object, iface, td, lay, methods, target, found, hd', hk, hfile, hcf, hobj, -, hok, hlay, hms, ht, htk, hg, -, hrec, -, -, -, hitf, hpool, hmeth, hfields, hit, hres, -⟩ := Lambda.isMade_spec h
  cases hd.symm.trans hd'
  rw [hname, lfile1] at hcf
  cases hcf
  rw [hO object ok hobj hok, llaid1] at hlay
  cases hlay
  obtain ⟨b, hb, hsame⟩ := hmeth 1 lF1 (lsec1 methods hms)
  simp only [Lambda.sameMethod, Bool.and_eq_true, decide_eq_true_eq] at hsame
  obtain ⟨⟨hn, -, hsig, hfl⟩, hcode⟩ := hsame
  have fc := lfc1
  have ff := lff1
  simp only [Prod.mk.injEq] at ff
  obtain ⟨g0, hg0, hp0⟩ := Option.map_eq_some_iff.mp leF01.2.2.2
  simp only [Prod.mk.injEq] at hp0
  obtain ⟨g1, hg1, hp1⟩ := Option.map_eq_some_iff.mp leF11.2.2.2
  simp only [Prod.mk.injEq] at hp1
  obtain ⟨g2, hg2, hp2⟩ := Option.map_eq_some_iff.mp leF21.2.2.2
  simp only [Prod.mk.injEq] at hp2
  have hok0 : ok.instanceTypes = #[] := Array.eq_empty_of_size_eq_zero (hO object ok hobj hok)
  cases hfc : lF1.code with
  | none => rw [hfc] at fc; cases fc
  | some x =>
    cases hbc : b.code with
    | none => simp [hfc, hbc] at hcode
    | some y =>
      simp only [hfc, hbc, Bool.and_eq_true, decide_eq_true_eq] at hcode
      simp only [hfc, Option.map_some, Option.some.injEq, Prod.mk.injEq] at fc
      refine ⟨k, tk, file, b, y, td, target, g0, g1, g2, 25, 28, hk, by rw [hrec.1, hname]; rfl, hfile, by rw [hpool.2.1]; exact leM1.1, by rw [hpool.2.1]; exact leM1.2.2, by simp [Vm.method?, hk, hb], hbc, ?_, by rw [← hcode.1.1.1.1.2.1]; exact fc.2, ?_, by rw [← hfl]; exact ff.1, by rw [← hsig]; exact ff.2.2, ht, htk, hg,
        ⟨k, hk, hres 29 _ (Lambda.resolvedOf_method leM1.1 leM1.2.1 ht htk leM1.2.2 hg)⟩, ⟨k, hk, hres 25 _ (Lambda.resolvedOf_class leC1.1 leC1.2.2 leC1.2.1 ht)⟩,
        ⟨k, 0, k, hk, hres 17 _ (Lambda.resolvedOf_field leF01.1 leF01.2.1 leF01.2.2.1), hk, hfields 0 _ hg0⟩, hp0.1, hp0.2,
        ⟨k, 1, k, hk, hres 19 _ (Lambda.resolvedOf_field leF11.1 leF11.2.1 leF11.2.2.1), hk, hfields 1 _ hg1⟩, hp1.1, hp1.2,
        ⟨k, 2, k, hk, hres 21 _ (Lambda.resolvedOf_field leF21.1 leF21.2.1 leF21.2.2.1), hk, hfields 2 _ hg2⟩, hp2.1, hp2.2, ?_, hrec.2.1⟩
      · rw [← hcode.1.1.1.1.2.2]
        exact ByteArray.ext fc.1
      · simp [Method.locks, Method.isSynchronized, ← hfl, ff.1, hasFlag, Acc.synchronized]
      · rw [hit.1, hok0, leT1]
        rfl
def lD2 : ClassFile := ((lsh "lambda$orderOf$2").file "TermDesk").getD { minorVersion := 0, majorVersion := 0, constantPool := #[], accessFlags := 0, thisClass := 0, superClass := 0, interfaces := #[], fields := #[], methods := #[], attributes := #[] }
def lF2 : Method := ((layoutMethods lD2).bind (fun x => x[1]?)).getD default
def lL2 : Array Field × Array FieldType × Array FieldType := (layoutFields lD2 0).getD default
theorem lfile2 : (lsh "lambda$orderOf$2").file "TermDesk" = some lD2 := by
  have h : ((lsh "lambda$orderOf$2").file "TermDesk").isSome = true := by decide +kernel
  obtain ⟨x, hx⟩ := Option.isSome_iff_exists.mp h
  simp [lD2, hx]
theorem lsec2 : ∀ ms, layoutMethods lD2 = some ms → ms[1]? = some lF2 := by
  intro ms hms
  have h : ((layoutMethods lD2).bind (fun x => x[1]?)).isSome = true := by decide +kernel
  obtain ⟨x, hx⟩ := Option.isSome_iff_exists.mp h
  have hf : lF2 = x := by simp [lF2, hx]
  rw [hms] at hx
  rw [hf]
  exact hx
theorem llaid2 : layoutFields lD2 0 = some lL2 := by
  have h : (layoutFields lD2 0).isSome = true := by decide +kernel
  obtain ⟨x, hx⟩ := Option.isSome_iff_exists.mp h
  simp [lL2, hx]
theorem lfc2 : (lF2.code.map fun c => (c.code.data, c.maxLocals)) = some (lcode.data, 2) := by decide +kernel
theorem lff2 : (lF2.accessFlags, lF2.name, lF2.sig.returnType) = (0x0001, "key", some FieldType.int) := by decide +kernel
theorem leM2 : lD2.constantPool[29]? = some (.methodref 25 28) ∧ lD2.constantPool.className? 25 = some "TermDesk" ∧ lD2.constantPool.nameAndType? 28 = some ("lambda$orderOf$2", "(IIII)I") := by decide +kernel
theorem leC2 : lD2.constantPool[25]? = some (.class_ 24) ∧ lD2.constantPool.string? 24 = some "TermDesk" ∧ 25 ≠ lD2.thisClass := by decide +kernel
theorem leF02 : lD2.constantPool[17]? = some (.fieldref 2 16) ∧ lD2.constantPool.nameAndType? 16 = some ("arg$1", "I") ∧ lL2.1.findIdx? (fun x => x.name == "arg$1") = some 0 ∧ (lL2.1[0]?).map (fun f => (f.isStatic, f.slot)) = some (false, 0) := by decide +kernel
theorem leF12 : lD2.constantPool[19]? = some (.fieldref 2 18) ∧ lD2.constantPool.nameAndType? 18 = some ("arg$2", "I") ∧ lL2.1.findIdx? (fun x => x.name == "arg$2") = some 1 ∧ (lL2.1[1]?).map (fun f => (f.isStatic, f.slot)) = some (false, 1) := by decide +kernel
theorem leF22 : lD2.constantPool[21]? = some (.fieldref 2 20) ∧ lD2.constantPool.nameAndType? 20 = some ("arg$3", "I") ∧ lL2.1.findIdx? (fun x => x.name == "arg$3") = some 2 ∧ (lL2.1[2]?).map (fun f => (f.isStatic, f.slot)) = some (false, 2) := by decide +kernel
theorem leT2 : lL2.2.1 = #[.int, .int, .int] := by decide +kernel
theorem lmade2 {vm : Vm} {d c : ClassId} {dk : Class} (hd : vm.classes[d]? = some dk) (hname : dk.name = "TermDesk") (h : Lambda.isMade { classPath := fun _ => none } vm d (lsh "lambda$orderOf$2") c = true)
    (hO : ∀ o ok, vm.findClass "java/lang/Object" = some o → vm.classes[o]? = some ok → ok.instanceTypes.size = 0) : lfacts "lambda$orderOf$2" vm c := by
  obtain ⟨dk', k, ok, tk, file, cf, object, iface, td, lay, methods, target, found, hd', hk, hfile, hcf, hobj, -, hok, hlay, hms, ht, htk, hg, -, hrec, -, -, -, hitf, hpool, hmeth, hfields, hit, hres, -⟩ := Lambda.isMade_spec h
  cases hd.symm.trans hd'
  rw [hname, lfile2] at hcf
  cases hcf
  rw [hO object ok hobj hok, llaid2] at hlay
  cases hlay
  obtain ⟨b, hb, hsame⟩ := hmeth 1 lF2 (lsec2 methods hms)
  simp only [Lambda.sameMethod, Bool.and_eq_true, decide_eq_true_eq] at hsame
  obtain ⟨⟨hn, -, hsig, hfl⟩, hcode⟩ := hsame
  have fc := lfc2
  have ff := lff2
  simp only [Prod.mk.injEq] at ff
  obtain ⟨g0, hg0, hp0⟩ := Option.map_eq_some_iff.mp leF02.2.2.2
  simp only [Prod.mk.injEq] at hp0
  obtain ⟨g1, hg1, hp1⟩ := Option.map_eq_some_iff.mp leF12.2.2.2
  simp only [Prod.mk.injEq] at hp1
  obtain ⟨g2, hg2, hp2⟩ := Option.map_eq_some_iff.mp leF22.2.2.2
  simp only [Prod.mk.injEq] at hp2
  have hok0 : ok.instanceTypes = #[] := Array.eq_empty_of_size_eq_zero (hO object ok hobj hok)
  cases hfc : lF2.code with
  | none => rw [hfc] at fc; cases fc
  | some x =>
    cases hbc : b.code with
    | none => simp [hfc, hbc] at hcode
    | some y =>
      simp only [hfc, hbc, Bool.and_eq_true, decide_eq_true_eq] at hcode
      simp only [hfc, Option.map_some, Option.some.injEq, Prod.mk.injEq] at fc
      refine ⟨k, tk, file, b, y, td, target, g0, g1, g2, 25, 28, hk, by rw [hrec.1, hname]; rfl, hfile, by rw [hpool.2.1]; exact leM2.1, by rw [hpool.2.1]; exact leM2.2.2, by simp [Vm.method?, hk, hb], hbc, ?_, by rw [← hcode.1.1.1.1.2.1]; exact fc.2, ?_, by rw [← hfl]; exact ff.1, by rw [← hsig]; exact ff.2.2, ht, htk, hg,
        ⟨k, hk, hres 29 _ (Lambda.resolvedOf_method leM2.1 leM2.2.1 ht htk leM2.2.2 hg)⟩, ⟨k, hk, hres 25 _ (Lambda.resolvedOf_class leC2.1 leC2.2.2 leC2.2.1 ht)⟩,
        ⟨k, 0, k, hk, hres 17 _ (Lambda.resolvedOf_field leF02.1 leF02.2.1 leF02.2.2.1), hk, hfields 0 _ hg0⟩, hp0.1, hp0.2,
        ⟨k, 1, k, hk, hres 19 _ (Lambda.resolvedOf_field leF12.1 leF12.2.1 leF12.2.2.1), hk, hfields 1 _ hg1⟩, hp1.1, hp1.2,
        ⟨k, 2, k, hk, hres 21 _ (Lambda.resolvedOf_field leF22.1 leF22.2.1 leF22.2.2.1), hk, hfields 2 _ hg2⟩, hp2.1, hp2.2, ?_, hrec.2.1⟩
      · rw [← hcode.1.1.1.1.2.2]
        exact ByteArray.ext fc.1
      · simp [Method.locks, Method.isSynchronized, ← hfl, ff.1, hasFlag, Acc.synchronized]
      · rw [hit.1, hok0, leT2]
        rfl
