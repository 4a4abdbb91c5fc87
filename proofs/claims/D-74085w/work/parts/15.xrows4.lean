set_option maxRecDepth 100000
theorem lfacts_of {G : XG} {k : Nat} {U : State} (hk : k < 3) (h : xLk G k U) (hO : xLo U) : lfacts (lnm k) U.vm (G.2.2.1 k) := by
  obtain ⟨m, dk, cf, i0, p0, bsm, nt, h1, h2, h3, h4, h5, -⟩ := h
  rcases (show k = 0 ∨ k = 1 ∨ k = 2 by omega) with rfl | rfl | rfl
  · exact lmade0 h2 h3 h5 hO
  · exact lmade1 h2 h3 h5 hO
  · exact lmade2 h2 h3 h5 hO
section XK
variable {p : Program} {l : Launch} {e : Env} {R : Room} {s : State} {m : MethodId} {args : Array Value} {below : List Frame} {meth : Method} {c : Code} {H H0 : Heap} {locs : List Loc} {cells slots : Nat} {Q : State → Prop}
variable {cc : ByteArray} {pc : Nat} {ls : Array Slot} {rest : List Value} {G : XG} {b : Nat} {hole : Nat → Prop} {K : XK} {T : XT}
/-- a call of an order's key: what its own static method answers -/
theorem x_key (hx : p.tables.exec = Jvm.exec) (hb : c.code = cc) (hml : c.maxLocals = ls.size) (hts : ∀ w ∈ lw_all, w.before args s = true) {own : String} {index count : Nat} (hown : s.vm.findClass own = some m.cls) (hlink : (Cond.methodLink own index keyN) ∈ lw_all)
    (hK : va_K G.1 xcl (xKt G) s) (hV : xV G b s H0) (hb0 : b ≤ H0.size) (hP : xW G b hole K T H) (hS : va_S (xA b hole) H0 H locs) {q k : Nat} (hq : kd K q = 16) (hqk : kl K q = k) (hk : k < 3)
    {y : MethodName} {bytes : ByteArray} {maxL : Nat} {rm : Room} {x : Int32} {post : Int32 → Prop} (hy : y = ⟨"TermDesk", lnm k, "(IIII)I"⟩)
    (hM : Met l y (ws_ y bytes maxL (some .int)) rm (xPc G b hole [.int (xi T q 0), .int (xi T q 1), .int (xi T q 2), .int x] K T) (xQ G b hole K 0 0 eI (fun r T1 K1 => post r ∧ T1 = T ∧ K1 = K)) 0 0 (xA b hole))
    (hrc : rm.cells = 0) (hrs : rm.slots = 0) (hcode : (Cond.code y bytes maxL (some .int)) ∈ lw_all) (hstat : (Cond.static y) ∈ lw_all) (hini : (Cond.initialized "TermDesk") ∈ lw_all)
    (hframes : rm.frames + 2 ≤ R.frames) (hlocals : (rest.map fun v => v.category).sum + (2 + 11) + (8 + (maxL + 11) + rm.locals) ≤ R.locals) (hc1 : cells ≤ R.cells) (hs1 : slots ≤ R.slots)
    (hdg : decode cc pc = .ok (.invokeinterface index count, 5))
    (kk : ∀ (r : Int32) (H1 : Heap) (locs1 : List Loc), post r → xW G b hole K T H1 → va_S (xA b hole) H0 H1 locs1 → W p l e R s m args below meth c H1 locs1 cells slots Q (F0 m (pc + 5) ls (.int r :: rest))) : W p l e R s m args below meth c H locs cells slots Q (F0 m pc ls (.int x :: .ref (b + q) :: rest)) := by
  intro U hU X
  obtain ⟨hLk, hLo, hdec, hface⟩ := hV.2.2.1
  have hLks := hLk k hk
  have hcell : U.heap[b + q]? = some (xlam G K T q) := by rw [hU]; exact (hP.1 q).2 hq
  have hcls : (xlam G K T q).cls = G.2.2.1 k := by show G.2.2.1 (kl K q) = _; rw [hqk]
  obtain ⟨r0, r, hn, hrm, hstR, hsigR⟩ := Cond.declares_spec (va_Nw.use (A := args) rfl hdec)
  obtain ⟨cL, kL, r1, hcL, hkL, hiL, hfoundL, hn1⟩ := Cond.interfaceMethod_spec (va_Nw.use (A := args) rfl hface)
  cases hn.symm.trans hn1
  have hr0cls : r0.cls = cL := Option.some.inj ((findClass_of_methodNamed hn).symm.trans hcL)
  obtain ⟨hnameR, hdescR⟩ := name_of_methodNamed hn hrm
  obtain ⟨m9, dk, cf, i0, p0, bsm, nt, l1, l2, l3, l4, hmade, hcan, -⟩ := id hLks
  obtain ⟨-, -, -, -, -, -, -, iface', -, -, -, -, found, -, -, -, -, -, hi', -, -, -, -, -, -, hfound', -, -, -, -, -, -, -, -, -, -, hsel⟩ := Lambda.isMade_spec hmade
  have hi'' : s.vm.findClass keyN.cls = some iface' := hi'
  cases hcL.symm.trans hi''
  have hfr : found = r0 := by
    have h1 : s.methodFound? keyN.cls keyN.name keyN.desc = some r0 := hfoundL
    simp only [State.methodFound?, hcL, hkL, hiL, Option.bind_eq_bind, Option.bind_some] at h1
    have h2 : ((methodIn cL keyN.name keyN.desc true none).ask ls0 s.vm).1 = .ok found := hfound'
    rw [h2] at h1
    exact Option.some.inj h1
  subst hfr
  obtain ⟨i2, hi2, hasg, hway⟩ := State.lambdaCallable_spec hcan
  have hi2' : s.vm.findClass keyN.cls = some i2 := hi2
  cases hcL.symm.trans hi2'
  obtain ⟨kC, tkC, fileC, methC, ckC, tdC, tC, -, -, -, -, -, v1, v2, v3, v4, v5, v6, v7, v8, v9, v10, v11, -⟩ := lfacts_of hk hLks hLo
  obtain ⟨vm₁, X₁, hstep₁⟩ := X.invokeinterface hx hown (hts _ hlink) hn hrm hstR (by rw [hr0cls]; exact hkL) hiL ⟨by decide, by decide⟩ (a := b + q) (cell := xlam G K T q) (kcell := kC) hcell
    (fun z h => by cases h) (by rw [hcls]; exact v1) (by rw [hr0cls, hcls]; exact hasg) (m' := ⟨G.2.2.1 k, 1⟩) (meth' := methC) (by rw [Launch.admits_selectMethod X.admits, hcls]; exact hsel) v6 (by rw [hcls, hnameR, hdescR]; exact hway) (by rw [v11]; decide) (by simp [Method.isAbstract, v11, hasFlag, Acc.abstract])
    (g := F0 m pc ls (.int x :: .ref (b + q) :: rest)) rfl (argsL := [.int x]) (rest := rest) (by have h9 : parseMethodDescriptor keyN.desc = some r.sig := hsigR; have h8 : parseMethodDescriptor keyN.desc = some ⟨[.int], some .int⟩ := (by decide +kernel); rw [h8] at h9; rw [← Option.some.inj h9]; rfl) rfl (by rw [hb]; exact hdg)
  have hW1 := X₁.warmed
  have hL1 : xLk G k (U.setVm vm₁) := hLks.warm hW1
  have hLo1 : xLo (U.setVm vm₁) := hLo.warm hW1
  obtain ⟨kC, tkC, fileC, methC, ckC, tdC, tC, f0, f1, f2, ci, nt9, w1, w2, w3, w4, w5, w6, w7, w8, w9, w10, w11, w12, w13, w14, w15, w16, w17, w18, w19, w20, w21, w22, w23, w24, w25, w26, w27, w28⟩ := lfacts_of hk hL1 hLo1
  have htn : kC.name = "TermDesk$$Lambda" := w2
  obtain ⟨g1, hg1⟩ : ∃ g1 : JFrame, g1 = { (F0 m pc ls (.int x :: .ref (b + q) :: rest)) with stack := rest } := ⟨_, rfl⟩
  rw [← hg1] at hstep₁
  have hgm : g1.method = m := by rw [hg1]
  have hgs : g1.locals.size = c.maxLocals := by rw [hg1, hml]
  have hgd : decode c.code g1.pc = .ok (.invokeinterface index count, 5) := by rw [hg1, hb]; exact hdg
  have hgst : g1.stack = rest := by rw [hg1]
  have hgm0 : g1.monitorRoom = 0 := by rw [hg1]
  obtain ⟨R', hR'⟩ : ∃ R' : Room, R' = ({ frames := rm.frames + 1, cells := 0, slots := 0, locals := 8 + (maxL + 11) + rm.locals } : Room) := ⟨_, rfl⟩
  obtain ⟨Y₀, hin⟩ := X₁.into hgm hgs hgd #[.ref (b + q), .int x] (R' := R') w6 w7 w10 (State.plainMethod.of_name (fun k' hk' => by cases w1.symm.trans hk'; rw [htn]; decide)) (by rw [hR']; exact hframes) (by rw [hR', hgm0, hgst, w9]; show 2 * 0 + (rest.map fun v => v.category).sum + (2 + 11) + (8 + (maxL + 11) + rm.locals) ≤ R.locals; omega) (by rw [hR']; exact hc1) (by rw [hR']; exact hs1)
  generalize hU2 : ((U.setVm vm₁).setTop g1).pushFrame (.java (entryFrame ⟨G.2.2.1 k, 1⟩ #[.ref (b + q), .int x] ckC.maxLocals)) = U2 at Y₀ hin
  have hvm : U2.vm = vm₁ := by rw [← hU2]; rfl
  have hheap : U2.heap = U.heap := by rw [← hU2]; rfl
  -- the static method's contract, called from there
  have hpay : ∀ w ∈ ws_ y bytes maxL (some .int), ∀ (a' : Array Value) (V : State), s.WarmedH V.vm → w.before a' V = true := pay_in hts (lw_meth hcode)
  have hBack : Back l R' p e (.java g1 :: below) ((U.setVm vm₁).calling g1 ⟨G.2.2.1 k, 1⟩ #[.ref (b + q), .int x]) #[.ref (b + q), .int x] y 3 8 (PreOf R' 0 0 (xPc G b hole [.int (xi T q 0), .int (xi T q 1), .int (xi T q 2), .int x] K T)) (PostOf (xQ G b hole K 0 0 eI (fun r T1 K1 => post r ∧ T1 = T ∧ K1 = K)) 0 0 (xA b hole)) :=
    back_of (bytes := bytes) (maxL := maxL) (ret := some .int) hM x_blind hrc hrs (by rw [hR']; exact Nat.le_refl _) (by rw [hR']; exact Nat.le_refl _) (fun w hw a' V hV9 => hpay w hw a' V (State.WarmedH.trans hW1 hV9)) List.mem_cons_self (fun a' V hV9 => by
      have h9 : (Cond.initialized "TermDesk").before a' V = true := pay_in hts (ws := lw_all) lw_self _ hini a' V (State.WarmedH.trans hW1 hV9)
      rw [hy]
      exact h9)
  have hnamed : ∃ mt, s.methodNamed? y = some mt := Cond.code_named (hts _ hcode)
  obtain ⟨mt, hnamed⟩ := hnamed
  have hnamed1 : (U.setVm vm₁).methodNamed? y = some mt := X₁.named hnamed
  have hcode1 : (Cond.code y bytes maxL (some .int)).before args (U.setVm vm₁) = true := hpay _ List.mem_cons_self args _ hW1
  obtain ⟨methT, cT, hmethT, -, -, -, -, -, -, hsigT⟩ := Cond.code_spec hnamed1 hcode1
  have hstatT : methT.isStatic = true := Cond.static_spec hnamed1 hmethT (pay_in hts (ws := lw_all) lw_self _ hstat args _ hW1)
  obtain ⟨kP, hkP, hkPn⟩ := className_of_methodNamed hnamed1
  have hkPn' : kP.name = "TermDesk" := by rw [hkPn, hy]
  have hfcT := findClass_of_methodNamed hnamed1
  rw [hy] at hfcT
  cases w13.symm.trans hfcT
  cases w14.symm.trans hkP
  have hinitP : tkC.init = .initialized := Cond.initialized_spec (findClass_of_methodNamed hnamed1) hkP (by have h9 : (Cond.initialized "TermDesk").before args (U.setVm vm₁) = true := pay_in hts (ws := lw_all) lw_self _ hini args _ hW1; rw [hy]; exact h9)
  have htC : tC = mt := by
    have h1 := State.methodFound?_of_named hnamed1 (by rw [hy]; exact ⟨(by decide : "TermDesk" ≠ "java/lang/invoke/MethodHandle"), (by decide : "TermDesk" ≠ "java/lang/invoke/VarHandle")⟩)
    rw [hy] at h1
    have w13' : (U.setVm vm₁).vm.findClass "TermDesk" = some mt.cls := w13
    simp only [State.methodFound?, w13', w14, Option.bind_eq_bind, Option.bind_some] at h1
    rw [w15] at h1
    exact Option.some.inj h1
  subst htC
  have hpolyT : signaturePolymorphic tkC methT = false := by simp [signaturePolymorphic, hkPn']
  have hnpT : ∀ n : String, (tkC.methods.any fun z => z.name == n && !z.isStatic && signaturePolymorphic tkC z) = false := by
    intro n
    simp [signaturePolymorphic, hkPn']
  have hparT : methT.sig.parameters.length = 4 := by
    rw [hy] at hsigT
    have h8 : parseMethodDescriptor "(IIII)I" = some ⟨[.int, .int, .int, .int], some .int⟩ := by decide +kernel
    have h9 : parseMethodDescriptor "(IIII)I" = some methT.sig := hsigT
    rw [h8] at h9
    rw [← Option.some.inj h9]
    rfl
  have hmt2 : U2.methodNamed? y = some tC := by rw [← hU2]; exact hnamed1
  have hW2 : s.WarmedH U2.vm := by rw [hvm]; exact hW1
  obtain ⟨v, B, Y₁, hpost, hsteps⟩ := hBack ⟨G.2.2.1 k, 1⟩ methC ckC ⟨U2, [], 0, 0⟩ { method := ⟨G.2.2.1 k, 1⟩, pc := 13, locals := #[.val (.ref (b + q)), .val (.int x)], stack := [], locked := none } (.invokestatic 29) tC ([.int (xi T q 0), .int (xi T q 1), .int (xi T q 2), .int x] : List Value).toArray Y₀ rfl (by rw [w9]; rfl) (by rw [w8]; exact lc_13) (Nat.le_of_ble_eq_true rfl) hmt2
    ⟨Nat.zero_le _, Nat.zero_le _, rfl, by show xW G b hole K T U2.heap; rw [hheap, hU]; exact hP, va_K.moved hW2.alike hK, x_env hV hb0 hS (hheap.trans hU) hW2⟩
  obtain ⟨g', mk', t, L, e1, e2, ⟨⟨r9, T1, K1, hv, ⟨hp, hT1, hK1⟩, -, -, -, hW9, -⟩, hz, hkF⟩, e3, hL, e4, e5⟩ := hpost
  obtain ⟨BU, Bl, Bc, Bs⟩ := B
  dsimp only [Pt.U, Pt.locs, Pt.cells, Pt.slots] at Y₁ e1 e2 e3 e4 e5 hsteps hz hkF
  have e3 : Bl = L := by rw [e3]; rfl
  subst e3; subst e4; subst e5
  have hv9 : v = some (.int r9) := Outcome.returned.inj hv
  subst hv9
  obtain ⟨fs, hleave, -, hended, hWe, hsame⟩ := Y₁.leave (v := some (.int r9)) (fun h => by rw [w12] at h; cases h) w10
  obtain ⟨T', X', hW', -, ht⟩ := X₁.outOf hgm hgd hended hWe hsame
  have hTh : T'.heap = BU.heap := (congrArg State.heap ht).symm
  have hst : (U2.calling g' mk' ([.int (xi T q 0), .int (xi T q 1), .int (xi T q 2), .int x] : List Value).toArray).heap = H := by show U2.heap = H; rw [hheap, hU]
  rw [hst] at hz hkF
  rw [hT1, hK1] at hW9
  obtain ⟨t2, a1, b1⟩ := kk r9 T'.heap (locs ++ Bl) hp (by rw [hTh, e1]; exact hW9) ⟨Nat.le_trans hS.1 (by rw [hTh, e1]; exact hz), fun z h1 h2 => by rw [hTh, e1, hkF z (Nat.lt_of_lt_of_le h1 hS.1) h2]; exact hS.2.1 z h1 h2, fun z hz9 => by
      rcases List.mem_append.mp hz9 with h | h
      · exact hS.2.2 z h
      · exact hL z h⟩ T' rfl X'
  refine ⟨t2, hstep₁ t2 (fun acts => ?_), b1⟩
  have hin2 := hin acts
  refine Steps.trans (s₂ := T'.setTop { g1 with pc := g1.pc + 5, stack := (some (Value.int r9)).toList ++ g1.stack }) ?_ (by rw [hg1]; exact a1)
  show Steps p.tables e below (doInvoke e ((U.setVm vm₁).setTop g1) acts ⟨G.2.2.1 k, 1⟩ #[.ref (b + q), .int x]).1 _
  rw [hin2, ← ht]
  refine Steps.weaken (mid := [.java g1]) ?_
  have hloc : entryFrame ⟨G.2.2.1 k, 1⟩ #[.ref (b + q), .int x] ckC.maxLocals = { method := ⟨G.2.2.1 k, 1⟩, pc := 0, locals := #[.val (.ref (b + q)), .val (.int x)], stack := [], locked := none } := by rw [w9]; rfl
  rw [hloc]
  have hs : U2.topJava?.isSome := Y₀.here.top
  have hcell2 : U2.heap[b + q]? = some (xlam G K T q) := by rw [hheap]; exact hcell
  have hkn : (xlam G K T q).vm ≠ .unknown := fun h => by cases h
  jvm_step Y₀.here [hx, w8, lc_0, Value.isRef]
  jvm_step Y₀.here [hx, w8, lc_1, getfield.wp_ready (e := e) (s := U2) (c := G.2.2.1 k) (field := f0) (a := b + q) (rest := []) (cell := xlam G K T q) (v := .int (xi T q 0))
    (f := { method := ⟨G.2.2.1 k, 1⟩, pc := 1, locals := #[.val (.ref (b + q)), .val (.int x)], stack := [.ref (b + q)], locked := none }) hs (by rw [hvm]; exact w18) w19 rfl hcell2 hkn (by rw [w20]; rfl)]
  jvm_step Y₀.here [hx, w8, lc_4, Value.isRef]
  jvm_step Y₀.here [hx, w8, lc_5, getfield.wp_ready (e := e) (s := U2) (c := G.2.2.1 k) (field := f1) (a := b + q) (rest := [.int (xi T q 0)]) (cell := xlam G K T q) (v := .int (xi T q 1))
    (f := { method := ⟨G.2.2.1 k, 1⟩, pc := 5, locals := #[.val (.ref (b + q)), .val (.int x)], stack := [.ref (b + q), .int (xi T q 0)], locked := none }) hs (by rw [hvm]; exact w21) w22 rfl hcell2 hkn (by rw [w23]; rfl)]
  jvm_step Y₀.here [hx, w8, lc_8, Value.isRef]
  jvm_step Y₀.here [hx, w8, lc_9, getfield.wp_ready (e := e) (s := U2) (c := G.2.2.1 k) (field := f2) (a := b + q) (rest := [.int (xi T q 1), .int (xi T q 0)]) (cell := xlam G K T q) (v := .int (xi T q 2))
    (f := { method := ⟨G.2.2.1 k, 1⟩, pc := 9, locals := #[.val (.ref (b + q)), .val (.int x)], stack := [.ref (b + q), .int (xi T q 1), .int (xi T q 0)], locked := none }) hs (by rw [hvm]; exact w24) w25 rfl hcell2 hkn (by rw [w26]; rfl)]
  jvm_step Y₀.here [hx, w8, lc_12]
  obtain ⟨bb, hmem⟩ := memberRef_ask' (e := e) (vm := vm₁) (d := G.2.2.1 k) (index := 29) w1 w3 (Or.inl w4) w5
  jvm_step Y₀.here [hx, w8, lc_13, invokestatic.wp_ready (e := e) (s := U2) (m := tC) (k := tkC) (meth := methT) (args := [.int (xi T q 0), .int (xi T q 1), .int (xi T q 2), .int x]) (rest := [])
    (f := { method := ⟨G.2.2.1 k, 1⟩, pc := 13, locals := #[.val (.ref (b + q)), .val (.int x)], stack := [.int x, .int (xi T q 2), .int (xi T q 1), .int (xi T q 0)], locked := none }) hs (by refine ⟨ci, _, _, bb, tC.cls, tkC, by rw [hvm]; exact hmem, by rw [hvm]; exact w17, by rw [hvm]; exact w14, hnpT _⟩) (by rw [hvm]; exact w16) (by rw [hvm]; exact w14) (by rw [hvm]; exact hmethT) hpolyT hstatT hinitP hparT.symm rfl]
  intro acts'
  refine Steps.trans (by rw [doInvoke_state]; exact hsteps) ?_
  show Steps p.tables e (.java g1 :: below) (BU.setTop { method := ⟨G.2.2.1 k, 1⟩, pc := 16, locals := #[.val (.ref (b + q)), .val (.int x)], stack := [.int r9], locked := none }) _
  jvm_step Y₁.here [Y₁.here.top, hx, w8, lc_16, (show BU.vm.method? ⟨G.2.2.1 k, 1⟩ = some methC from Y₁.method'), w12, narrow]
  intro acts''
  rw [hleave { method := ⟨G.2.2.1 k, 1⟩, pc := 16, locals := #[.val (.ref (b + q)), .val (.int x)], stack := [], locked := none } acts'' rfl rfl rfl]
  exact Steps.refl _
end XK
