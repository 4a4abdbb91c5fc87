set_option maxRecDepth 100000
/-- words that don't ride in the list: nest mates, casts, arrays over -/
def xN (U : State) : Prop := (∀ a i b n d h, Cond.fieldLinkNest a i b n d h ∈ lw_tbl → va_Nw (.fieldLinkNest a i b n d h) U) ∧ (∀ a i x h, Cond.methodLinkNest a i x h ∈ lw_tbl → va_Nw (.methodLinkNest a i x h) U) ∧ (∀ a d, Cond.castable a d ∈ lw_tbl → va_Nw (.castable a d) U)
def xPP (G : XG) (U : State) : Prop := ∃ kA : Class, U.vm.classes[G.2.1 14]? = some kA ∧ kA.kind = .array (G.2.1 3) (.array (.object "TermDesk$Poly"))
theorem xPP.moved {G : XG} {u U : State} (hvm : u.vm.Alike U.vm) (h : xPP G u) : xPP G U := by
  obtain ⟨kA, h1, h2⟩ := h
  obtain ⟨k', hk', he⟩ := hvm.2.2 _ _ h1
  exact ⟨k', hk', by rw [he]; exact h2⟩
/-- the made classes of the three orders -/
def keyN : MethodName := ⟨"TermDesk$Order", "key", "(I)I"⟩
def orderN : MethodName := ⟨"TermDesk", "orderOf", "(III)LTermDesk$Order;"⟩
def lpc (k : Nat) : Nat := if k = 0 then 13 else if k = 1 then 27 else 36
def lix (k : Nat) : Nat := if k = 0 then 7 else if k = 1 then 11 else 12
abbrev ls0 : Setting := { classPath := fun _ => none }
def xLk (G : XG) (k : Nat) (U : State) : Prop := ∃ (m : MethodId) (dk : Class) (cf : ClassFile) (i0 p0 bsm nt : Nat), U.methodNamed? orderN = some m ∧ U.vm.classes[m.cls]? = some dk ∧ dk.name = "TermDesk" ∧ dk.cf = some cf ∧ Lambda.isMade ls0 U.vm m.cls (lsh (lnm k)) (G.2.2.1 k) = true ∧ U.lambdaCallable (lsh (lnm k)) (G.2.2.1 k) = true ∧ (dk.callSites.find? fun y => y.1 == m.idx && y.2.1 == lpc k) = some (i0, p0, .makes (G.2.2.1 k)) ∧ cf.constantPool[lix k]? = some (.invokeDynamic bsm nt) ∧ cf.constantPool.nameAndType? nt = some ("key", "(III)LTermDesk$Order;")
def xLo (U : State) : Prop := ∀ o ok, U.vm.findClass "java/lang/Object" = some o → U.vm.classes[o]? = some ok → ok.instanceTypes.size = 0
def xLm (G : XG) (U : State) : Prop := (∀ k, k < 3 → xLk G k U) ∧ xLo U ∧ va_Nw (.declares keyN) U ∧ va_Nw (.interfaceMethod keyN.cls keyN.cls keyN.name keyN.desc) U
theorem xLk.warm {G : XG} {k : Nat} {s U : State} (hW : s.WarmedH U.vm) (h : xLk G k s) : xLk G k U := by
  obtain ⟨m, dk, cf, i0, p0, bsm, nt, h1, h2, h3, h4, h5, h6, h7, h8, h9⟩ := h
  obtain ⟨dk', hk', he⟩ := hW.alike.2.2 _ _ h2
  have hm' : U.methodNamed? orderN = some m := by
    have := State.methodNamed?_setVm (s := s) hW.alike orderN
    rw [h1] at this
    exact this
  refine ⟨m, dk', cf, i0, p0, bsm, nt, hm', hk', by rw [he]; exact h3, by rw [he]; exact h4, Lambda.isMade_warmer hW h5, ?_, by rw [he]; exact h7, h8, h9⟩
  have hA := hW.alike
  simp only [State.lambdaCallable, hA.findClass, hA.assignable, hA.superclasses, hA.declaredIn] at h6 ⊢
  exact h6
theorem xLo.warm {s U : State} (hW : s.WarmedH U.vm) (h : xLo s) : xLo U := by
  intro o ok h1 h2
  have hA := hW.alike
  rw [hA.findClass] at h1
  cases hk : s.vm.classes[o]? with
  | none => rw [hA.none hk] at h2; cases h2
  | some k =>
    obtain ⟨k', hk', he⟩ := hA.2.2 _ _ hk
    cases h2.symm.trans hk'
    rw [he]
    exact h o k h1 hk
theorem xLm.warm {G : XG} {s U : State} (hW : s.WarmedH U.vm) (h : xLm G s) : xLm G U := by
  obtain ⟨h1, h2, h3, h4⟩ := h
  obtain ⟨r, meth, hn, -⟩ := Cond.declares_spec h3
  have tr : ∀ {c : Cond}, c.onTables = true → c.before #[] (s.setVm U.vm) = true → c.before #[] U = true := by
    intro c hc h
    have e := Cond.onTables_vm (A := #[]) (A' := #[]) (U := s) (U' := U) U.vm c hc
    have hU : U.setVm U.vm = U := rfl
    rw [hU] at e
    rw [← e]
    exact h
  exact ⟨fun k hk => (h1 k hk).warm hW, h2.warm hW, tr rfl (by rw [Cond.declares_setVm hW.alike]; exact h3), tr rfl (by show (Cond.interfaceMethod "TermDesk$Order" "TermDesk$Order" "key" "(I)I").before #[] (s.setVm U.vm) = true; rw [Cond.interfaceMethod_setVm hW.alike (r := r) hn ⟨by decide, by decide⟩]; exact h4)⟩
theorem xLk.same {G : XG} {k : Nat} {s U : State} (hv : s.vm = U.vm) (h : xLk G k s) : xLk G k U := by
  obtain ⟨m, dk, cf, i0, p0, bsm, nt, h1, h2, h3, h4, h5, h6, h7, h8, h9⟩ := h
  refine ⟨m, dk, cf, i0, p0, bsm, nt, ?_, by rw [← hv]; exact h2, h3, h4, by rw [← hv]; exact h5, ?_, h7, h8, h9⟩
  · simp only [State.methodNamed?, ← hv]; exact h1
  · simp only [State.lambdaCallable, ← hv] at h6 ⊢; exact h6
theorem xLm.same {G : XG} {s U : State} (hv : s.vm = U.vm) (h : xLm G s) : xLm G U := ⟨fun k hk => (h.1 k hk).same hv, fun o ok h1 h2 => h.2.1 o ok (by rw [hv]; exact h1) (by rw [hv]; exact h2), va_Nw.same rfl hv h.2.2.1, va_Nw.same rfl hv h.2.2.2⟩
def xV (G : XG) (b : Nat) (U : State) (H : Heap) : Prop := xN U ∧ xPP G U ∧ xLm G U ∧ sV (gad G) (gz G) U H ∧ gz G ≤ b
theorem xV.go {G : XG} {b : Nat} {s U : State} {H H1 : Heap} (h : xV G b s H) (hW : s.WarmedH U.vm) (hq : ∀ q : Nat, q < b → H1[q]? = H[q]?) : xV G b U H1 := ⟨⟨fun a i b n d h' q => va_Nw.warmF hW (h.1.1 a i b n d h' q), fun a i x h' q => va_Nw.warmM hW (h.1.2.1 a i x h' q), fun a d q => va_Nw.warmC hW (h.1.2.2 a d q)⟩, h.2.1.moved hW.alike, h.2.2.1.warm hW, h.2.2.2.1.go hW (fun q h9 => hq q (Nat.lt_of_lt_of_le h9 h.2.2.2.2)), h.2.2.2.2⟩
theorem xV.call {G : XG} {b : Nat} {U : State} {H : Heap} {g : JFrame} {mk : MethodId} {a : Array Value} (h : xV G b U H) : xV G b (U.calling g mk a) H := ⟨⟨fun a i b n d h' q => va_Nw.same rfl rfl (h.1.1 a i b n d h' q), fun a i x h' q => va_Nw.same rfl rfl (h.1.2.1 a i x h' q), fun a d q => va_Nw.same rfl rfl (h.1.2.2 a d q)⟩, h.2.1.moved (Vm.Alike.refl U.vm), h.2.2.1.same rfl, h.2.2.2.1.same rfl, h.2.2.2.2⟩
abbrev xB (G : XG) (b : Nat) (hole : Nat → Prop) (K : XK) (T : XT) (U : State) : Prop := xW G b hole K T U.heap ∧ va_K G.1 xcl (xKt G) U ∧ xV G b U U.heap
abbrev xPc (G : XG) (b : Nat) (hole : Nat → Prop) (av : List Value) (K : XK) (T : XT) : Array Value → State → Prop := va_Pc av (fun U => xB G b hole K T U)
def xQ (G : XG) (b : Nat) (hole : Nat → Prop) (K : XK) (mc ms : Nat) {ρ : Type} (enc : ρ → Option Value) (post : ρ → XT → XK → Prop) : Array Value → State → Outcome → State → Prop := fun _ st oc t => (∃ (r : ρ) (T1 : XT) (K1 : XK), oc = .returned (enc r) ∧ post r T1 K1 ∧ kle K K1 ∧ kc K1 = kc K + mc ∧ ks K1 = ks K + ms ∧ xW G b hole K1 T1 t.heap ∧ va_K G.1 xcl (xKt G) t) ∧ va_F (xA b hole) st t
abbrev eI (r : Int32) : Option Value := some (.int r)
abbrev eV (_ : Unit) : Option Value := none
abbrev eR (b : Nat) (r : Nat) : Option Value := some (.ref (b + r))
abbrev eQ (b : Nat) (r : Option Nat) : Option Value := some (rfv b r)
theorem in_R5 : ∀ w ∈ u_ws RX5 TR5 2, w ∈ lw_all := by
  intro w hw
  have h : u_ws RX5 TR5 2 = [u_lay RX5 TX5 6, u_lay RX5 TX5 7] := rfl
  rw [h] at hw
  rcases List.mem_cons.mp hw with e | e
  · rw [e]; exact in_X5 _ (u_in_lay (by decide))
  · rw [List.mem_singleton.mp e]; exact in_X5 _ (u_in_lay (by decide))
theorem tyR5_ok : ∀ k, k < 2 → parseFieldDescriptor (TR5 k).2.2.1 = some .int := by decide +kernel
theorem nmR5 : ∀ a, a < 2 → ∀ b, b < 2 → a ≠ b → (TR5 a).2.1 ≠ (TR5 b).2.1 := by decide +kernel
theorem fw8_0 (em b : Nat) (T : XT) (k : Nat) (x : Int32) : fs8 em b (xwi T k 0 x) k = (fs8 em b T k).set 0 (.int x) := by simp [fs8, xwi, xi, xr, va_up, upd]
theorem fw8_1 (em b : Nat) (T : XT) (k : Nat) (x : Int32) : fs8 em b (xwi T k 1 x) k = (fs8 em b T k).set 1 (.int x) := by simp [fs8, xwi, xi, xr, va_up, upd]
theorem fw8_2 (em b : Nat) (T : XT) (k : Nat) (x : Int32) : fs8 em b (xwi T k 2 x) k = (fs8 em b T k).set 2 (.int x) := by simp [fs8, xwi, xi, xr, va_up, upd]
theorem fw8_3 (em b : Nat) (T : XT) (k : Nat) (x : Int32) : fs8 em b (xwi T k 3 x) k = (fs8 em b T k).set 3 (.int x) := by simp [fs8, xwi, xi, xr, va_up, upd]
theorem fw8_4 (em b : Nat) (T : XT) (k : Nat) (x : Option Nat) : fs8 em b (xwr T k 4 x) k = (fs8 em b T k).set 4 (rfv b x) := by simp [fs8, xwr, xi, xr, va_up]
theorem fw8_9 (em b : Nat) (T : XT) (k : Nat) (x : Option Nat) : fs8 em b (xwr T k 9 x) k = (fs8 em b T k).set 9 (rfv b x) := by simp [fs8, xwr, xi, xr, va_up]
theorem fw8_10 (em b : Nat) (T : XT) (k : Nat) (x : Option Nat) : fs8 em b (xwr T k 10 x) k = (fs8 em b T k).set 10 (rfv b x) := by simp [fs8, xwr, xi, xr, va_up]
theorem fw8_16 (em b : Nat) (T : XT) (k : Nat) (x : Int32) : fs8 em b (xwi T k 16 x) k = (fs8 em b T k).set 16 (.int x) := by simp [fs8, xwi, xi, xr, va_up, upd]
theorem fw8_18 (em b : Nat) (T : XT) (k : Nat) (x : Option Nat) : fs8 em b (xwr T k 18 x) k = (fs8 em b T k).set 18 (rfv b x) := by simp [fs8, xwr, xi, xr, va_up]
theorem fw8_21 (em b : Nat) (T : XT) (k : Nat) (x : Int32) : fs8 em b (xwi T k 21 x) k = (fs8 em b T k).set 21 (.int x) := by simp [fs8, xwi, xi, xr, va_up, upd]
theorem fw8_22 (em b : Nat) (T : XT) (k : Nat) (x : Int32) : fs8 em b (xwi T k 22 x) k = (fs8 em b T k).set 22 (.int x) := by simp [fs8, xwi, xi, xr, va_up, upd]
theorem fw8_23 (em b : Nat) (T : XT) (k : Nat) (x : Int32) : fs8 em b (xwi T k 23 x) k = (fs8 em b T k).set 23 (.int x) := by simp [fs8, xwi, xi, xr, va_up, upd]
theorem fw8_24 (em b : Nat) (T : XT) (k : Nat) (x : Int32) : fs8 em b (xwi T k 24 x) k = (fs8 em b T k).set 24 (.int x) := by simp [fs8, xwi, xi, xr, va_up, upd]
theorem fw8_25 (em b : Nat) (T : XT) (k : Nat) (x : Int32) : fs8 em b (xwi T k 25 x) k = (fs8 em b T k).set 25 (.int x) := by simp [fs8, xwi, xi, xr, va_up, upd]
theorem fw9_2 (em b : Nat) (T : XT) (k : Nat) (x : Int32) : fs9 em b (xwi T k 2 x) k = (fs9 em b T k).set 2 (.int x) := by simp [fs9, xwi, xi, xr, va_up, upd]
theorem fw10_2 (em b : Nat) (T : XT) (k : Nat) (x : Option Nat) : fs10 em b (xwr T k 2 x) k = (fs10 em b T k).set 2 (rfv b x) := by simp [fs10, xwr, xi, xr, va_up]
theorem fw10_3 (em b : Nat) (T : XT) (k : Nat) (x : Option Nat) : fs10 em b (xwr T k 3 x) k = (fs10 em b T k).set 3 (rfv b x) := by simp [fs10, xwr, xi, xr, va_up]
theorem fw10_4 (em b : Nat) (T : XT) (k : Nat) (x : Int32) : fs10 em b (xwi T k 4 x) k = (fs10 em b T k).set 4 (.int x) := by simp [fs10, xwi, xi, xr, va_up, upd]
theorem fw10_5 (em b : Nat) (T : XT) (k : Nat) (x : Int32) : fs10 em b (xwi T k 5 x) k = (fs10 em b T k).set 5 (.int x) := by simp [fs10, xwi, xi, xr, va_up, upd]
theorem fw10_6 (em b : Nat) (T : XT) (k : Nat) (x : Int32) : fs10 em b (xwi T k 6 x) k = (fs10 em b T k).set 6 (.int x) := by simp [fs10, xwi, xi, xr, va_up, upd]
theorem fw10_7 (em b : Nat) (T : XT) (k : Nat) (x : Int32) : fs10 em b (xwi T k 7 x) k = (fs10 em b T k).set 7 (.int x) := by simp [fs10, xwi, xi, xr, va_up, upd]
theorem fw11_6 (em b : Nat) (T : XT) (k : Nat) (x : Int32) : fs11 em b (xwi T k 6 x) k = (fs11 em b T k).set 6 (.int x) := by simp [fs11, xwi, xi, xr, va_up, upd]
theorem fw11_7 (em b : Nat) (T : XT) (k : Nat) (x : Int32) : fs11 em b (xwi T k 7 x) k = (fs11 em b T k).set 7 (.int x) := by simp [fs11, xwi, xi, xr, va_up, upd]
theorem fw11_8 (em b : Nat) (T : XT) (k : Nat) (x : Int32) : fs11 em b (xwi T k 8 x) k = (fs11 em b T k).set 8 (.int x) := by simp [fs11, xwi, xi, xr, va_up, upd]
theorem fw11_9 (em b : Nat) (T : XT) (k : Nat) (x : Int32) : fs11 em b (xwi T k 9 x) k = (fs11 em b T k).set 9 (.int x) := by simp [fs11, xwi, xi, xr, va_up, upd]
theorem fw11_10 (em b : Nat) (T : XT) (k : Nat) (x : Int32) : fs11 em b (xwi T k 10 x) k = (fs11 em b T k).set 10 (.int x) := by simp [fs11, xwi, xi, xr, va_up, upd]
theorem fw11_11 (em b : Nat) (T : XT) (k : Nat) (x : Int32) : fs11 em b (xwi T k 11 x) k = (fs11 em b T k).set 11 (.int x) := by simp [fs11, xwi, xi, xr, va_up, upd]
theorem fw11_12 (em b : Nat) (T : XT) (k : Nat) (x : Int32) : fs11 em b (xwi T k 12 x) k = (fs11 em b T k).set 12 (.int x) := by simp [fs11, xwi, xi, xr, va_up, upd]
theorem fw11_13 (em b : Nat) (T : XT) (k : Nat) (x : Int32) : fs11 em b (xwi T k 13 x) k = (fs11 em b T k).set 13 (.int x) := by simp [fs11, xwi, xi, xr, va_up, upd]
theorem fw11_15 (em b : Nat) (T : XT) (k : Nat) (x : Int32) : fs11 em b (xwi T k 15 x) k = (fs11 em b T k).set 15 (.int x) := by simp [fs11, xwi, xi, xr, va_up, upd]
theorem fw12_0 (em b : Nat) (T : XT) (k : Nat) (x : Int32) : fs12 em b (xwi T k 0 x) k = (fs12 em b T k).set 0 (.int x) := by simp [fs12, xwi, xi, xr, va_up, upd]
theorem fw12_1 (em b : Nat) (T : XT) (k : Nat) (x : Int32) : fs12 em b (xwi T k 1 x) k = (fs12 em b T k).set 1 (.int x) := by simp [fs12, xwi, xi, xr, va_up, upd]
theorem fw2_0 (em b : Nat) (T : XT) (k : Nat) (x : Option Nat) : fs2 em b (xwr T k 0 x) k = (fs2 em b T k).set 0 (rfv b x) := by simp [fs2, xwr, xi, xr, va_up]
theorem fw2_1 (em b : Nat) (T : XT) (k : Nat) (x : Option Nat) : fs2 em b (xwr T k 1 x) k = (fs2 em b T k).set 1 (rfv b x) := by simp [fs2, xwr, xi, xr, va_up]
theorem fw2_2 (em b : Nat) (T : XT) (k : Nat) (x : Int32) : fs2 em b (xwi T k 2 x) k = (fs2 em b T k).set 2 (.int x) := by simp [fs2, xwi, xi, xr, va_up, upd]
theorem fw13_0 (em b : Nat) (T : XT) (k : Nat) (x : Option Nat) : fs13 em b (xwr T k 0 x) k = (fs13 em b T k).set 0 (rfv b x) := by simp [fs13, xwr, xi, xr, va_up]
theorem fw13_1 (em b : Nat) (T : XT) (k : Nat) (x : Option Nat) : fs13 em b (xwr T k 1 x) k = (fs13 em b T k).set 1 (rfv b x) := by simp [fs13, xwr, xi, xr, va_up]
theorem fw13_2 (em b : Nat) (T : XT) (k : Nat) (x : Int32) : fs13 em b (xwi T k 2 x) k = (fs13 em b T k).set 2 (.int x) := by simp [fs13, xwi, xi, xr, va_up, upd]
theorem fw15_0 (em b : Nat) (T : XT) (k : Nat) (x : Option Nat) : fs15 em b (xwr T k 0 x) k = (fs15 em b T k).set 0 (rfv b x) := by simp [fs15, xwr, xi, xr, va_up]
theorem fw15_1 (em b : Nat) (T : XT) (k : Nat) (x : Int32) : fs15 em b (xwi T k 1 x) k = (fs15 em b T k).set 1 (.int x) := by simp [fs15, xwi, xi, xr, va_up, upd]
theorem fw15_2 (em b : Nat) (T : XT) (k : Nat) (x : Int32) : fs15 em b (xwi T k 2 x) k = (fs15 em b T k).set 2 (.int x) := by simp [fs15, xwi, xi, xr, va_up, upd]
theorem fw15_3 (em b : Nat) (T : XT) (k : Nat) (x : Int32) : fs15 em b (xwi T k 3 x) k = (fs15 em b T k).set 3 (.int x) := by simp [fs15, xwi, xi, xr, va_up, upd]
section XR
variable {p : Program} {l : Launch} {e : Env} {R : Room} {s : State} {m : MethodId} {args : Array Value} {below : List Frame} {meth : Method} {c : Code} {H H0 : Heap} {locs : List Loc} {cells slots : Nat} {Q : State → Prop}
variable {cc : ByteArray} {pc : Nat} {ls : Array Slot} {rest : List Value} {G : XG} {b : Nat} {hole : Nat → Prop} {K : XK} {T : XT}
theorem x_P1 {k ci : Nat} {fs : List Value} (hP : xW G b hole K T H) (hk : kd K k ≠ 0) (h16 : kd K k ≠ 16) (hE : xE G b K T k = .inr (ci, fs)) : va_P G.1 xcl [(b + k, .inr (ci, fs))] H := by
  intro j q hq
  have h0 := hP.at hk h16
  rw [hE] at h0
  match j, hq with
  | 0, hq => cases hq; exact h0
theorem x_get (hx : p.tables.exec = Jvm.exec) (hb : c.code = cc) (hts : ∀ w ∈ lw_all, w.before args s = true) {own CC : String} {TT : u_T} {N ci : Nat} (hin : ∀ w ∈ u_ws CC TT N, w ∈ lw_all) (hown : s.vm.findClass own = some m.cls) (hK : va_K G.1 xcl (xKt G) s) (hP : xW G b hole K T H) {k kn : Nat} (hk : kd K k = kn) (h0 : kn ≠ 0) (h16 : kn ≠ 16) (hc : xcl[ci]? = some (CC, TT, N)) {fs : List Value} (hE : xE G b K T k = .inr (ci, fs)) (j : Nat) (hj : j < N) {index : Nat} (hlink : (Cond.fieldLink own index CC (TT j).2.1 (TT j).2.2.1) ∈ lw_all) (hsame : (TT j).1 = CC) {v : Value} (hv : fs[j]? = some v) (hdg : decode cc pc = .ok (.getfield index, 3))
    (kk : W p l e R s m args below meth c H locs cells slots Q (F0 m (pc + 3) ls (v :: rest))) : W p l e R s m args below meth c H locs cells slots Q (F0 m pc ls (.ref (b + k) :: rest)) :=
  va_get (D := G.1) (ci := ci) (v := v) (C := CC) (T := TT) (N := N) hx hb hts hin hown hK (x_P1 hP (by rw [hk]; exact h0) (by rw [hk]; exact h16) hE) 0 rfl hc j hj (hts _ hlink) (fun x h9 => by rw [hsame] at h9; exact h9) hv hdg kk
theorem x_getN (hx : p.tables.exec = Jvm.exec) (hb : c.code = cc) (hts : ∀ w ∈ lw_all, w.before args s = true) {own CC host : String} {TT : u_T} {N ci : Nat} (hin : ∀ w ∈ u_ws CC TT N, w ∈ lw_all) (hown : s.vm.findClass own = some m.cls) (hK : va_K G.1 xcl (xKt G) s) (hV : xN s) (hP : xW G b hole K T H) {k kn : Nat} (hk : kd K k = kn) (h0 : kn ≠ 0) (h16 : kn ≠ 16) (hc : xcl[ci]? = some (CC, TT, N)) {fs : List Value} (hE : xE G b K T k = .inr (ci, fs)) (j : Nat) (hj : j < N) {index : Nat} (hlink : (Cond.fieldLinkNest own index CC (TT j).2.1 (TT j).2.2.1 host) ∈ lw_tbl) (hsame : (TT j).1 = CC) {v : Value} (hv : fs[j]? = some v) (hdg : decode cc pc = .ok (.getfield index, 3))
    (kk : W p l e R s m args below meth c H locs cells slots Q (F0 m (pc + 3) ls (v :: rest))) : W p l e R s m args below meth c H locs cells slots Q (F0 m pc ls (.ref (b + k) :: rest)) :=
  va_getN (D := G.1) (ci := ci) (v := v) (C := CC) (T := TT) (N := N) (host := host) hx hb hts hin hown hK (x_P1 hP (by rw [hk]; exact h0) (by rw [hk]; exact h16) hE) 0 rfl hc j hj (va_Nw.use rfl (hV.1 _ _ _ _ _ _ hlink)) (fun x h9 => by rw [hsame] at h9; exact h9) hv hdg kk
theorem x_put (hx : p.tables.exec = Jvm.exec) (hb : c.code = cc) (hts : ∀ w ∈ lw_all, w.before args s = true) {own CC : String} {TT : u_T} {N ci : Nat} (hin : ∀ w ∈ u_ws CC TT N, w ∈ lw_all) (ty0 : Nat → FieldType) (hty0 : ∀ k, k < N → parseFieldDescriptor (TT k).2.2.1 = some (ty0 k)) (hnm : ∀ a, a < N → ∀ b, b < N → a ≠ b → (TT a).2.1 ≠ (TT b).2.1) (hown : s.vm.findClass own = some m.cls) (hK : va_K G.1 xcl (xKt G) s) (hP : xW G b hole K T H) (hS0 : va_S (xA b hole) H0 H locs) {k kn : Nat} (hk : kd K k = kn) (h0 : kn ≠ 0) (h16 : kn ≠ 16) (hc : xcl[ci]? = some (CC, TT, N)) {fsf : XT → List Value} (hE : ∀ T', xE G b K T' k = .inr (ci, fsf T')) (hlen : (fsf T).length = N) (j : Nat) (hj : j < N) {index : Nat} (hlink : (Cond.fieldLink own index CC (TT j).2.1 (TT j).2.2.1) ∈ lw_all) (hsame : (TT j).1 = CC) (hfin : (TT j).2.2.2 = false ∨ ((TT j).2.2.2 = true ∧ meth.name = "<init>" ∧ (TT j).1 = own)) {ty : FieldType} {v : Value} (hd : ty0 j = ty) (hn : narrow ty v = v) (hfit : fits ty v = true)
    {T1 : XT} (hset : fsf T1 = (fsf T).set j v) (hi : ∀ q, q ≠ k → xi T1 q = xi T q) (hr : ∀ q, q ≠ k → xr T1 q = xr T q) (hty : ∀ j p, xr T1 k j = some p → kd K p = rk (kd K k) j ∧ kd K p ≠ 0) (hdg : decode cc pc = .ok (.putfield index, 3))
    (kk : ∀ (H1 : Heap) (locs1 : List Loc), xW G b hole K T1 H1 → va_S (xA b hole) H0 H1 locs1 → W p l e R s m args below meth c H1 locs1 cells slots Q (F0 m (pc + 3) ls rest)) : W p l e R s m args below meth c H locs cells slots Q (F0 m pc ls (v :: .ref (b + k) :: rest)) := by
  have hk0 : kd K k ≠ 0 := by rw [hk]; exact h0
  have hk16 : kd K k ≠ 16 := by rw [hk]; exact h16
  have hap := va_apart (own := own) (C := CC) (T := TT) (N := N) (ci := ci) hts hin ty0 hty0 hnm hK hc
  obtain ⟨r, h1, cell, q1, q2, q3, q4⟩ := x_P1 hP hk0 hk16 (hE T) 0 _ rfl
  have hr0 : r = (CC, TT, N) := Option.some.inj (h1.symm.trans hc)
  subst hr0
  obtain ⟨hS, hfc, kC, hkC, hkind⟩ := hK.1 ci _ hc
  obtain ⟨cf, kf, fi, f, hif, hsl⟩ := hS j hj
  have hlay := hts _ (hin _ (u_in_lay hj))
  have hst := (u_facts hfc hkC (u_lays hts hin hj) hif).1
  have hi' := hif
  rw [hsame] at hi'
  have fin : ∀ H' : Heap, H'[b + k]? = some (cell.setSlot f.slot v) → H'.size = H.size → (∀ q, q ≠ b + k → H'[q]? = H[q]?) → W p l e R s m args below meth c H' (locs ++ [⟨b + k, f.slot⟩]) cells slots Q (F0 m (pc + 3) ls rest) := by
    intro H' e1 e2 e3
    rw [hsl] at e1 ⊢
    refine kk H' _ (hP.one hk0 hk16 ?_ hi hr hty e2 e3) (hS0.put e2 e3 (hP.A hk0))
    rw [hE T1, hset]
    exact ⟨_, hc, t_OB.to (V := updV (vp_V (fsf T)) j v) ⟨_, e1, q2, q3, t_set q4 hap hj v⟩ (fun j' _ => vp_updV_set (by rw [hlen]; exact hj) v j')⟩
  rcases hfin with hf | ⟨hf, hin2, hdecl⟩
  · unfold u_lay at hlay
    rw [if_neg (by rw [hf]; decide)] at hlay
    have h6 := u_store hfc hkC hkind hlay hif (by rw [hty0 j hj, hd]) hn hfit
    exact W.putK hx hb (f := f) ⟨hown, hts _ hlink, ⟨_, _, _, hi'⟩, hst⟩ (by rw [q2]; exact h6) q1 q3 (by rw [hsl]; exact k2_hasslot (q4 j hj)) rfl rfl hdg fin
  · unfold u_lay at hlay
    rw [if_pos hf] at hlay
    have hcf : m.cls = cf := by
      obtain ⟨_, _, c', _, _, _, -, -, hf', -, -, -, hown2, -⟩ := Cond.laysFinal_spec hlay
      have e1 : c' = cf := by have := hif.symm.trans hf'; simp at this; exact this.1.symm
      rw [hdecl] at hown2
      rw [← e1]; exact Option.some.inj (hown.symm.trans hown2)
    have h6 := u_fits hfc hkC hkind (Or.inr hlay) hif (by rw [hty0 j hj, hd]) hn hfit
    exact W.putFinK hx hb hown (hts _ hlink) hi' hst hcf hin2 (by rw [q2]; exact h6) q1 q3 (by rw [hsl]; exact k2_hasslot (q4 j hj)) rfl rfl hdg fin
theorem xwi_ty {k j0 : Nat} {v : Int32} (hP : xW G b hole K T H) (hk : kd K k ≠ 0) : ∀ j p, xr (xwi T k j0 v) k j = some p → kd K p = rk (kd K k) j ∧ kd K p ≠ 0 := fun j p h => hP.2.1 k j p hk h
theorem xwr_ty {k j0 : Nat} {v : Option Nat} (hP : xW G b hole K T H) (hk : kd K k ≠ 0) (hv : ∀ p, v = some p → kd K p = rk (kd K k) j0 ∧ kd K p ≠ 0) : ∀ j p, xr (xwr T k j0 v) k j = some p → kd K p = rk (kd K k) j ∧ kd K p ≠ 0 := by
  intro j p h
  have e : xr (xwr T k j0 v) k j = if j = j0 then v else xr T k j := by
    show (va_up (xr T) k (va_up (xr T k) j0 v)) k j = _
    rw [va_up_self]
    rfl
  rw [e] at h
  by_cases hj : j = j0
  · rw [if_pos hj] at h
    subst hj
    exact hv p h
  · rw [if_neg hj] at h
    exact hP.2.1 k j p hk h
theorem x_PI {k a : Nat} {f : va_E} (hP : xW G b hole K T H) (hk : kd K k = a) (h0 : a ≠ 0) (h16 : a ≠ 16) (hE : xE G b K T k = f) : va_P G.1 xcl [(b + k, f)] H := by
  intro j q hq
  have h0 := hP.at (k := k) (by rw [hk]; exact h0) (by rw [hk]; exact h16)
  rw [hE] at h0
  match j, hq with
  | 0, hq => cases hq; exact h0
theorem x_iald (hx : p.tables.exec = Jvm.exec) (hb : c.code = cc) (hK : va_K G.1 xcl (xKt G) s) (hP : xW G b hole K T H) {k : Nat} (hk : kd K k = 1) {i : Int32} {j : Nat} (hi : i = nI j) (hj : j < kl K k) (hdg : decode cc pc = .ok (.iaload, 1))
    (kk : W p l e R s m args below meth c H locs cells slots Q (F0 m (pc + 1) ls (.int (xi T k j) :: rest))) : W p l e R s m args below meth c H locs cells slots Q (F0 m pc ls (.int i :: .ref (b + k) :: rest)) := by
  subst hi
  refine va_iald hx hb hK (x_PI hP hk (by decide) (by decide) (xE_1 hk)) 0 0 rfl rfl (vp_in_nI hj (hP.ll k)) hdg ?_
  rw [nI_clamp (Nat.lt_trans hj (hP.ll k))]
  exact kk
theorem x_iast (hx : p.tables.exec = Jvm.exec) (hb : c.code = cc) (hK : va_K G.1 xcl (xKt G) s) (hP : xW G b hole K T H) (hS0 : va_S (xA b hole) H0 H locs) {k : Nat} (hk : kd K k = 1) {i x : Int32} {j : Nat} (hi : i = nI j) (hj : j < kl K k) (hdg : decode cc pc = .ok (.iastore, 1))
    (kk : ∀ (H1 : Heap) (locs1 : List Loc), xW G b hole K (xwi T k j (x)) H1 → va_S (xA b hole) H0 H1 locs1 → W p l e R s m args below meth c H1 locs1 cells slots Q (F0 m (pc + 1) ls rest)) : W p l e R s m args below meth c H locs cells slots Q (F0 m pc ls (.int x :: .int i :: .ref (b + k) :: rest)) := by
  subst hi
  have hk0 : kd K k ≠ 0 := by rw [hk]; decide
  have hk16 : kd K k ≠ 16 := by rw [hk]; decide
  have hjc : (nI j).toNatClampNeg = j := nI_clamp (Nat.lt_trans hj (hP.ll k))
  have ha : H[b + k]? = some (vp_cell (G.2.1 1) (kl K k, .inl (xi T k))) := (x_PI hP hk (by decide) (by decide) (xE_1 hk)) 0 _ rfl
  have hlt := hP.ll k
  have hE := fun T' => xE_1 (G := G) (b := b) (T := T') hk
  have hyt := xwi_ty (j0 := j) (v := x) hP hk0
  generalize hN : kl K k = N at ha hj hE hlt
  refine W.iast hx hb ha ((hK.2 0 _ rfl).1 N (fun j => .int (xi T k j))) (fun q => by cases q) (by show ¬ (_ ∨ (arrV _ _ _).slots.size ≤ _); rw [arrV_size]; exact vp_in_nI hj hlt) rfl rfl hdg fun H1 e z oq => ?_
  refine kk H1 _ (hP.one hk0 hk16 ?_ (fun q hq => xwi_i hq) (fun _ _ => rfl) hyt z oq) (hS0.put z oq (hP.A hk0))
  rw [hE]
  show H1[b + k]? = some (vp_cell _ _)
  rw [e, hjc]
  rw [vp_cell_i, vp_cell_i, arrV_store]
  congr 2
  funext z
  show updV _ _ _ _ = Value.int ((va_up (xi T) k (upd (xi T k) j (x))) k z)
  rw [va_up_self]
  by_cases hz : z = j
  · subst hz
    simp [updV, upd, narrow]
  · simp [updV, upd, hz]
theorem x_bald (hx : p.tables.exec = Jvm.exec) (hb : c.code = cc) (hK : va_K G.1 xcl (xKt G) s) (hP : xW G b hole K T H) {k : Nat} (hk : kd K k = 6) {i : Int32} {j : Nat} (hi : i = nI j) (hj : j < kl K k) (hdg : decode cc pc = .ok (.baload, 1))
    (kk : W p l e R s m args below meth c H locs cells slots Q (F0 m (pc + 1) ls (.int (xi T k j) :: rest))) : W p l e R s m args below meth c H locs cells slots Q (F0 m pc ls (.int i :: .ref (b + k) :: rest)) := by
  subst hi
  refine va_bald hx hb hK (x_PI hP hk (by decide) (by decide) (xE_6 hk)) 0 1 rfl rfl (vp_in_nI hj (hP.ll k)) hdg ?_
  rw [nI_clamp (Nat.lt_trans hj (hP.ll k))]
  exact kk
theorem x_bast (hx : p.tables.exec = Jvm.exec) (hb : c.code = cc) (hK : va_K G.1 xcl (xKt G) s) (hP : xW G b hole K T H) (hS0 : va_S (xA b hole) H0 H locs) {k : Nat} (hk : kd K k = 6) {i x : Int32} {j : Nat} (hi : i = nI j) (hj : j < kl K k) (hdg : decode cc pc = .ok (.bastore, 1))
    (kk : ∀ (H1 : Heap) (locs1 : List Loc), xW G b hole K (xwi T k j (x.toInt8.toInt32)) H1 → va_S (xA b hole) H0 H1 locs1 → W p l e R s m args below meth c H1 locs1 cells slots Q (F0 m (pc + 1) ls rest)) : W p l e R s m args below meth c H locs cells slots Q (F0 m pc ls (.int x :: .int i :: .ref (b + k) :: rest)) := by
  subst hi
  have hk0 : kd K k ≠ 0 := by rw [hk]; decide
  have hk16 : kd K k ≠ 16 := by rw [hk]; decide
  have hjc : (nI j).toNatClampNeg = j := nI_clamp (Nat.lt_trans hj (hP.ll k))
  have ha : H[b + k]? = some (vp_cell (G.2.1 6) (kl K k, .inl (xi T k))) := (x_PI hP hk (by decide) (by decide) (xE_6 hk)) 0 _ rfl
  have hlt := hP.ll k
  have hE := fun T' => xE_6 (G := G) (b := b) (T := T') hk
  have hyt := xwi_ty (j0 := j) (v := x.toInt8.toInt32) hP hk0
  generalize hN : kl K k = N at ha hj hE hlt
  refine W.bast hx hb ha ((hK.2 1 _ rfl).1 N (fun j => .int (xi T k j))) (fun q => by cases q) (by show ¬ (_ ∨ (arrV _ _ _).slots.size ≤ _); rw [arrV_size]; exact vp_in_nI hj hlt) rfl rfl hdg fun H1 e z oq => ?_
  refine kk H1 _ (hP.one hk0 hk16 ?_ (fun q hq => xwi_i hq) (fun _ _ => rfl) hyt z oq) (hS0.put z oq (hP.A hk0))
  rw [hE]
  show H1[b + k]? = some (vp_cell _ _)
  rw [e, hjc]
  rw [vp_cell_i, vp_cell_i, arrV_store]
  congr 2
  funext z
  show updV _ _ _ _ = Value.int ((va_up (xi T) k (upd (xi T k) j (x.toInt8.toInt32))) k z)
  rw [va_up_self]
  by_cases hz : z = j
  · subst hz
    simp [updV, upd, narrow]
  · simp [updV, upd, hz]
theorem x_cald (hx : p.tables.exec = Jvm.exec) (hb : c.code = cc) (hK : va_K G.1 xcl (xKt G) s) (hP : xW G b hole K T H) {k : Nat} (hk : kd K k = 7) {i : Int32} {j : Nat} (hi : i = nI j) (hj : j < kl K k) (hdg : decode cc pc = .ok (.caload, 1))
    (kk : W p l e R s m args below meth c H locs cells slots Q (F0 m (pc + 1) ls (.int (xi T k j) :: rest))) : W p l e R s m args below meth c H locs cells slots Q (F0 m pc ls (.int i :: .ref (b + k) :: rest)) := by
  subst hi
  refine va_cald hx hb hK (x_PI hP hk (by decide) (by decide) (xE_7 hk)) 0 2 rfl rfl (vp_in_nI hj (hP.ll k)) hdg ?_
  rw [nI_clamp (Nat.lt_trans hj (hP.ll k))]
  exact kk
theorem x_cast (hx : p.tables.exec = Jvm.exec) (hb : c.code = cc) (hK : va_K G.1 xcl (xKt G) s) (hP : xW G b hole K T H) (hS0 : va_S (xA b hole) H0 H locs) {k : Nat} (hk : kd K k = 7) {i x : Int32} {j : Nat} (hi : i = nI j) (hj : j < kl K k) (hdg : decode cc pc = .ok (.castore, 1))
    (kk : ∀ (H1 : Heap) (locs1 : List Loc), xW G b hole K (xwi T k j (x.toUInt32.toUInt16.toUInt32.toInt32)) H1 → va_S (xA b hole) H0 H1 locs1 → W p l e R s m args below meth c H1 locs1 cells slots Q (F0 m (pc + 1) ls rest)) : W p l e R s m args below meth c H locs cells slots Q (F0 m pc ls (.int x :: .int i :: .ref (b + k) :: rest)) := by
  subst hi
  have hk0 : kd K k ≠ 0 := by rw [hk]; decide
  have hk16 : kd K k ≠ 16 := by rw [hk]; decide
  have hjc : (nI j).toNatClampNeg = j := nI_clamp (Nat.lt_trans hj (hP.ll k))
  have ha : H[b + k]? = some (vp_cell (G.2.1 7) (kl K k, .inl (xi T k))) := (x_PI hP hk (by decide) (by decide) (xE_7 hk)) 0 _ rfl
  have hlt := hP.ll k
  have hE := fun T' => xE_7 (G := G) (b := b) (T := T') hk
  have hyt := xwi_ty (j0 := j) (v := x.toUInt32.toUInt16.toUInt32.toInt32) hP hk0
  generalize hN : kl K k = N at ha hj hE hlt
  refine W.cast hx hb ha ((hK.2 2 _ rfl).1 N (fun j => .int (xi T k j))) (fun q => by cases q) (by show ¬ (_ ∨ (arrV _ _ _).slots.size ≤ _); rw [arrV_size]; exact vp_in_nI hj hlt) rfl rfl hdg fun H1 e z oq => ?_
  refine kk H1 _ (hP.one hk0 hk16 ?_ (fun q hq => xwi_i hq) (fun _ _ => rfl) hyt z oq) (hS0.put z oq (hP.A hk0))
  rw [hE]
  show H1[b + k]? = some (vp_cell _ _)
  rw [e, hjc]
  rw [vp_cell_i, vp_cell_i, arrV_store]
  congr 2
  funext z
  show updV _ _ _ _ = Value.int ((va_up (xi T) k (upd (xi T k) j (x.toUInt32.toUInt16.toUInt32.toInt32))) k z)
  rw [va_up_self]
  by_cases hz : z = j
  · subst hz
    simp [updV, upd, narrow]
  · simp [updV, upd, hz]
theorem x_aald3 (hx : p.tables.exec = Jvm.exec) (hb : c.code = cc) (hK : va_K G.1 xcl (xKt G) s) (hP : xW G b hole K T H) {k : Nat} (hk : kd K k = 3) {i : Int32} {j : Nat} (hi : i = nI j) (hj : j < kl K k) (hdg : decode cc pc = .ok (.aaload, 1))
    (kk : W p l e R s m args below meth c H locs cells slots Q (F0 m (pc + 1) ls (rfv b (xr T k j) :: rest))) : W p l e R s m args below meth c H locs cells slots Q (F0 m pc ls (.int i :: .ref (b + k) :: rest)) := by
  subst hi
  have hjc : (nI j).toNatClampNeg = j := nI_clamp (Nat.lt_trans hj (hP.ll k))
  have ha := (x_PI hP hk (by decide) (by decide) (xE_3 hk)) 0 _ rfl
  have hlt := hP.ll k
  generalize kl K k = N at ha hj hlt
  refine W.aald (v := rfv b (xr T k j)) hx hb ha ((hK.2 3 _ rfl).1 N (fun j => va_rf ((xr T k j).map (fun x => b + x)))) rfl (fun q => by cases q) (by show ¬ (_ ∨ (arrV _ _ _).slots.size ≤ _); rw [arrV_size]; exact vp_in_nI hj hlt) (by rw [hjc]; show (arrV _ _ _).slots[_]? = _; rw [arrV_read _ _ hj]; rfl) rfl rfl hdg kk
theorem x_aald5 (hx : p.tables.exec = Jvm.exec) (hb : c.code = cc) (hK : va_K G.1 xcl (xKt G) s) (hP : xW G b hole K T H) {k : Nat} (hk : kd K k = 5) {i : Int32} {j : Nat} (hi : i = nI j) (hj : j < kl K k) (hdg : decode cc pc = .ok (.aaload, 1))
    (kk : W p l e R s m args below meth c H locs cells slots Q (F0 m (pc + 1) ls (rfv b (xr T k j) :: rest))) : W p l e R s m args below meth c H locs cells slots Q (F0 m pc ls (.int i :: .ref (b + k) :: rest)) := by
  subst hi
  have hjc : (nI j).toNatClampNeg = j := nI_clamp (Nat.lt_trans hj (hP.ll k))
  have ha := (x_PI hP hk (by decide) (by decide) (xE_5 hk)) 0 _ rfl
  have hlt := hP.ll k
  generalize kl K k = N at ha hj hlt
  refine W.aald (v := rfv b (xr T k j)) hx hb ha ((hK.2 4 _ rfl).1 N (fun j => va_rf ((xr T k j).map (fun x => b + x)))) rfl (fun q => by cases q) (by show ¬ (_ ∨ (arrV _ _ _).slots.size ≤ _); rw [arrV_size]; exact vp_in_nI hj hlt) (by rw [hjc]; show (arrV _ _ _).slots[_]? = _; rw [arrV_read _ _ hj]; rfl) rfl rfl hdg kk
theorem x_aald4 (hx : p.tables.exec = Jvm.exec) (hb : c.code = cc) (hK : va_K G.1 xcl (xKt G) s) (hP : xW G b hole K T H) {k : Nat} (hk : kd K k = 4) {i : Int32} {j : Nat} (hi : i = nI j) (hj : j < kl K k) (hdg : decode cc pc = .ok (.aaload, 1))
    (kk : W p l e R s m args below meth c H locs cells slots Q (F0 m (pc + 1) ls (rfv b (xr T k j) :: rest))) : W p l e R s m args below meth c H locs cells slots Q (F0 m pc ls (.int i :: .ref (b + k) :: rest)) := by
  subst hi
  have hjc : (nI j).toNatClampNeg = j := nI_clamp (Nat.lt_trans hj (hP.ll k))
  have ha := (x_PI hP hk (by decide) (by decide) (xE_4 hk)) 0 _ rfl
  have hlt := hP.ll k
  generalize kl K k = N at ha hj hlt
  refine W.aald (v := rfv b (xr T k j)) hx hb ha ((hK.2 5 _ rfl).1 N (fun j => va_rf ((xr T k j).map (fun x => b + x)))) rfl (fun q => by cases q) (by show ¬ (_ ∨ (arrV _ _ _).slots.size ≤ _); rw [arrV_size]; exact vp_in_nI hj hlt) (by rw [hjc]; show (arrV _ _ _).slots[_]? = _; rw [arrV_read _ _ hj]; rfl) rfl rfl hdg kk
theorem x_aald14 (hx : p.tables.exec = Jvm.exec) (hb : c.code = cc) (hK : va_K G.1 xcl (xKt G) s) (hP : xW G b hole K T H) {k : Nat} (hk : kd K k = 14) {i : Int32} {j : Nat} (hi : i = nI j) (hj : j < kl K k) (hdg : decode cc pc = .ok (.aaload, 1))
    (kk : W p l e R s m args below meth c H locs cells slots Q (F0 m (pc + 1) ls (rfv b (xr T k j) :: rest))) : W p l e R s m args below meth c H locs cells slots Q (F0 m pc ls (.int i :: .ref (b + k) :: rest)) := by
  subst hi
  have hjc : (nI j).toNatClampNeg = j := nI_clamp (Nat.lt_trans hj (hP.ll k))
  have ha := (x_PI hP hk (by decide) (by decide) (xE_14 hk)) 0 _ rfl
  have hlt := hP.ll k
  generalize kl K k = N at ha hj hlt
  refine W.aald (v := rfv b (xr T k j)) hx hb ha ((hK.2 6 _ rfl).1 N (fun j => va_rf ((xr T k j).map (fun x => b + x)))) rfl (fun q => by cases q) (by show ¬ (_ ∨ (arrV _ _ _).slots.size ≤ _); rw [arrV_size]; exact vp_in_nI hj hlt) (by rw [hjc]; show (arrV _ _ _).slots[_]? = _; rw [arrV_read _ _ hj]; rfl) rfl rfl hdg kk
theorem x_alen1 (hx : p.tables.exec = Jvm.exec) (hb : c.code = cc) (hK : va_K G.1 xcl (xKt G) s) (hP : xW G b hole K T H) {k : Nat} (hk : kd K k = 1) (hdg : decode cc pc = .ok (.arraylength, 1))
    (kk : W p l e R s m args below meth c H locs cells slots Q (F0 m (pc + 1) ls (.int (nI (kl K k)) :: rest))) : W p l e R s m args below meth c H locs cells slots Q (F0 m pc ls (.ref (b + k) :: rest)) :=
  va_alen (v := nI (kl K k)) hx hb hK (x_PI hP hk (by decide) (by decide) (xE_1 hk)) 0 0 rfl rfl rfl hdg kk
theorem x_alen6 (hx : p.tables.exec = Jvm.exec) (hb : c.code = cc) (hK : va_K G.1 xcl (xKt G) s) (hP : xW G b hole K T H) {k : Nat} (hk : kd K k = 6) (hdg : decode cc pc = .ok (.arraylength, 1))
    (kk : W p l e R s m args below meth c H locs cells slots Q (F0 m (pc + 1) ls (.int (nI (kl K k)) :: rest))) : W p l e R s m args below meth c H locs cells slots Q (F0 m pc ls (.ref (b + k) :: rest)) :=
  va_alen (v := nI (kl K k)) hx hb hK (x_PI hP hk (by decide) (by decide) (xE_6 hk)) 0 1 rfl rfl rfl hdg kk
theorem x_alen7 (hx : p.tables.exec = Jvm.exec) (hb : c.code = cc) (hK : va_K G.1 xcl (xKt G) s) (hP : xW G b hole K T H) {k : Nat} (hk : kd K k = 7) (hdg : decode cc pc = .ok (.arraylength, 1))
    (kk : W p l e R s m args below meth c H locs cells slots Q (F0 m (pc + 1) ls (.int (nI (kl K k)) :: rest))) : W p l e R s m args below meth c H locs cells slots Q (F0 m pc ls (.ref (b + k) :: rest)) :=
  va_alen (v := nI (kl K k)) hx hb hK (x_PI hP hk (by decide) (by decide) (xE_7 hk)) 0 2 rfl rfl rfl hdg kk
theorem x_alen3 (hx : p.tables.exec = Jvm.exec) (hb : c.code = cc) (hK : va_K G.1 xcl (xKt G) s) (hP : xW G b hole K T H) {k : Nat} (hk : kd K k = 3) (hdg : decode cc pc = .ok (.arraylength, 1))
    (kk : W p l e R s m args below meth c H locs cells slots Q (F0 m (pc + 1) ls (.int (nI (kl K k)) :: rest))) : W p l e R s m args below meth c H locs cells slots Q (F0 m pc ls (.ref (b + k) :: rest)) :=
  va_alen (v := nI (kl K k)) hx hb hK (x_PI hP hk (by decide) (by decide) (xE_3 hk)) 0 3 rfl rfl rfl hdg kk
theorem x_alen5 (hx : p.tables.exec = Jvm.exec) (hb : c.code = cc) (hK : va_K G.1 xcl (xKt G) s) (hP : xW G b hole K T H) {k : Nat} (hk : kd K k = 5) (hdg : decode cc pc = .ok (.arraylength, 1))
    (kk : W p l e R s m args below meth c H locs cells slots Q (F0 m (pc + 1) ls (.int (nI (kl K k)) :: rest))) : W p l e R s m args below meth c H locs cells slots Q (F0 m pc ls (.ref (b + k) :: rest)) :=
  va_alen (v := nI (kl K k)) hx hb hK (x_PI hP hk (by decide) (by decide) (xE_5 hk)) 0 4 rfl rfl rfl hdg kk
theorem x_alen4 (hx : p.tables.exec = Jvm.exec) (hb : c.code = cc) (hK : va_K G.1 xcl (xKt G) s) (hP : xW G b hole K T H) {k : Nat} (hk : kd K k = 4) (hdg : decode cc pc = .ok (.arraylength, 1))
    (kk : W p l e R s m args below meth c H locs cells slots Q (F0 m (pc + 1) ls (.int (nI (kl K k)) :: rest))) : W p l e R s m args below meth c H locs cells slots Q (F0 m pc ls (.ref (b + k) :: rest)) :=
  va_alen (v := nI (kl K k)) hx hb hK (x_PI hP hk (by decide) (by decide) (xE_4 hk)) 0 5 rfl rfl rfl hdg kk
theorem x_alen14 (hx : p.tables.exec = Jvm.exec) (hb : c.code = cc) (hK : va_K G.1 xcl (xKt G) s) (hP : xW G b hole K T H) {k : Nat} (hk : kd K k = 14) (hdg : decode cc pc = .ok (.arraylength, 1))
    (kk : W p l e R s m args below meth c H locs cells slots Q (F0 m (pc + 1) ls (.int (nI (kl K k)) :: rest))) : W p l e R s m args below meth c H locs cells slots Q (F0 m pc ls (.ref (b + k) :: rest)) :=
  va_alen (v := nI (kl K k)) hx hb hK (x_PI hP hk (by decide) (by decide) (xE_14 hk)) 0 6 rfl rfl rfl hdg kk
end XR
