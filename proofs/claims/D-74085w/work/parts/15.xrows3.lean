set_option maxRecDepth 100000
section XR3
variable {p : Program} {l : Launch} {e : Env} {R : Room} {s : State} {m : MethodId} {args : Array Value} {below : List Frame} {meth : Method} {c : Code} {H H0 : Heap} {locs : List Loc} {cells slots : Nat} {Q : State → Prop}
variable {cc : ByteArray} {pc : Nat} {ls : Array Slot} {rest : List Value} {G : XG} {b : Nat} {hole : Nat → Prop} {K : XK} {T : XT}
theorem x_copyi (hx : p.tables.exec = Jvm.exec) (hb : c.code = cc) (hml : c.maxLocals = ls.size) {own : String} {index : Nat} (hown : s.vm.findClass own = some m.cls) (hts : ∀ w ∈ lw_all, w.before args s = true) (hlink : (Cond.methodLink own index arraycopyName) ∈ lw_all) (hnat : (Cond.native arraycopyName) ∈ lw_all) (hstat : (Cond.static arraycopyName) ∈ lw_all) (hini : (Cond.initialized "java/lang/System") ∈ lw_all)
    (hK : va_K G.1 xcl (xKt G) s) (hP : xW G b hole K T H) (hS : va_S (xA b hole) H0 H locs) {k0 k1 : Nat} (hk0 : kd K k0 = 1) (hk1 : kd K k1 = 1) {sp dp n : Int32} {sp' dp' n' : Nat} (e1 : sp = nI sp') (e2 : dp = nI dp') (e3 : n = nI n') (h4 : sp' + n' ≤ kl K k0) (h5 : dp' + n' ≤ kl K k1)
    (hframes : 1 ≤ R.frames) (hlocals : (rest.map fun v => v.category).sum + (nativeFrameWords "java/lang/System" "arraycopy" 5 + 11) ≤ R.locals) (hdg : decode cc pc = .ok (.invokestatic index, 3))
    (kk : ∀ (H1 : Heap) (locs1 : List Loc), xW G b hole K (xcpy T k0 k1 sp' dp' n') H1 → va_S (xA b hole) H0 H1 locs1 → W p l e R s m args below meth c H1 locs1 cells slots Q (F0 m (pc + 3) ls rest)) : W p l e R s m args below meth c H locs cells slots Q (F0 m pc ls (.int n :: .int dp :: .ref (b + k1) :: .int sp :: .ref (b + k0) :: rest)) := by
  have l0 := hP.ll k0
  have l1 := hP.ll k1
  have hz1 : kd K k1 ≠ 0 := by rw [hk1]; decide
  have hz16 : kd K k1 ≠ 16 := by rw [hk1]; decide
  have h1 : ¬ sp < 0 := by rw [e1]; exact nI_pos (by omega)
  have h2 : ¬ dp < 0 := by rw [e2]; exact nI_pos (by omega)
  have h3 : ¬ n < 0 := by rw [e3]; exact nI_pos (by omega)
  have c1 : sp.toNatClampNeg = sp' := by rw [e1]; exact nI_clamp (by omega)
  have c2 : dp.toNatClampNeg = dp' := by rw [e2]; exact nI_clamp (by omega)
  have c3 : n.toNatClampNeg = n' := by rw [e3]; exact nI_clamp (by omega)
  have t1 : sp.toInt = sp' := by rw [e1]; exact nI_toInt (by omega)
  have t2 : dp.toInt = dp' := by rw [e2]; exact nI_toInt (by omega)
  have t3 : n.toInt = n' := by rw [e3]; exact nI_toInt (by omega)
  intro U hU X
  have hc0 : H[b + k0]? = some (vp_cell (G.2.1 1) (kl K k0, .inl (xi T k0))) := (x_PI hP hk0 (by decide) (by decide) (xE_1 hk0)) 0 _ rfl
  have hc1 : H[b + k1]? = some (vp_cell (G.2.1 1) (kl K k1, .inl (xi T k1))) := (x_PI hP hk1 (by decide) (by decide) (xE_1 hk1)) 0 _ rfl
  have hE1 := fun T' => xE_1 (G := G) (b := b) (T := T') hk1
  generalize kl K k0 = n0 at hc0 h4 l0
  generalize kl K k1 = n1 at hc1 h5 l1 hE1
  obtain ⟨-, kk0, hkk0, cm0, hkd0⟩ := (hK.2 0 _ rfl).1 n0 (fun j => .int (xi T k0 j))
  obtain ⟨-, kk1, hkk1, cm1, hkd1⟩ := (hK.2 0 _ rfl).1 n1 (fun j => .int (xi T k1 j))
  obtain ⟨vm', X', step⟩ := X.arraycopy hx hown (hts _ hlink) (hts _ hnat) (hts _ hstat) (hts _ hini) (src := b + k0) (dst := b + k1) (cs := vp_cell (G.2.1 1) (n0, .inl (xi T k0))) (cd := vp_cell (G.2.1 1) (n1, .inl (xi T k1))) (srcPos := sp) (destPos := dp) (n := n) (by rw [hU]; exact hc0) (by rw [hU]; exact hc1)
    (fun _ h => by cases h) (fun _ h => by cases h) (fun h => by cases h) (fun h => by cases h) hkk0 hkk1 hkd0 hkd1 (by rfl) h1 h2 h3
    (by rw [t1, t3]; show ¬ _ > ((arrV (G.2.1 1) n0 (fun j => .int (xi T k0 j))).slots.size : Int); rw [arrV_size]; omega)
    (by rw [t2, t3]; show ¬ _ > ((arrV (G.2.1 1) n1 (fun j => .int (xi T k1 j))).slots.size : Int); rw [arrV_size]; omega)
    (fun vm₁ _ i hi => by
      have e : (vp_cell (G.2.1 1) (n0, .inl (xi T k0))).slots.getD (sp.toNatClampNeg + i) .null = .int (xi T k0 (sp.toNatClampNeg + i)) := by
        show (arrV (G.2.1 1) n0 (fun j => .int (xi T k0 j))).slots.getD _ _ = _
        rw [Array.getD_eq_getD_getElem?, arrV_read _ _ (by rw [c1]; rw [c3] at hi; omega)]
        rfl
      refine ⟨?_, ?_⟩
      · rw [e]
        rfl
      · rw [e]
        exact trivial)
    (g := F0 m pc ls (.int n :: .int dp :: .ref (b + k1) :: .int sp :: .ref (b + k0) :: rest)) rfl (by rw [hml]) (rest := rest) rfl (by rw [hb]; exact hdg) hframes (by show 2 * 0 + _ + _ ≤ _; omega)
  have ec : copied (vp_cell (G.2.1 1) (n0, .inl (xi T k0))) (vp_cell (G.2.1 1) (n1, .inl (xi T k1))) sp dp n = vp_cell (G.2.1 1) (n1, .inl (va_cpy (xi T k0) (xi T k1) sp' dp' n')) := by
    rw [← c1, ← c2, ← c3]
    exact va_copied (fun z => .int z) _ _ _ _ (by rw [c1, c3]; exact h4)
  rw [ec] at X' step
  have hl : b + k1 < H.size := (Array.getElem?_eq_some_iff.mp hc1).1
  generalize hH1 : H.setIfInBounds (b + k1) (vp_cell (G.2.1 1) (n1, .inl (va_cpy (xi T k0) (xi T k1) sp' dp' n'))) = H1
  have oq : ∀ q : Nat, q ≠ b + k1 → H1[q]? = H[q]? := fun q hq => by rw [← hH1]; simp [Array.getElem?_setIfInBounds, Ne.symm hq]
  have z1 : H1.size = H.size := by rw [← hH1]; simp
  have at1 : H1[b + k1]? = some (vp_cell (G.2.1 1) (n1, .inl (va_cpy (xi T k0) (xi T k1) sp' dp' n'))) := by rw [← hH1]; simp [Array.getElem?_setIfInBounds, hl]
  have xk1 : xi (xcpy T k0 k1 sp' dp' n') k1 = va_cpy (xi T k0) (xi T k1) sp' dp' n' := va_up_self _ _ _
  obtain ⟨t, a1, b1⟩ := kk H1 _ (hP.one hz1 hz16 (by rw [hE1, xk1]; exact at1) (fun q hq => va_up_ne _ _ hq) (fun _ _ => rfl) (fun j p h => hP.2.1 k1 j p hz1 h) z1 oq) ⟨by rw [z1]; exact hS.1, fun q g1 g2 => by
      rw [oq q (fun e => g2 (by rw [e]; exact hP.A hz1))]
      exact hS.2.1 q g1 g2, fun q hq => by
      rcases List.mem_append.mp hq with h | h
      · exact hS.2.2 q h
      · obtain ⟨z, -, hz⟩ := List.mem_map.mp h
        rw [← hz]
        exact hP.A hz1⟩ _ (by rw [← hH1, ← hU]; rfl) X'
  exact ⟨t, step t a1, b1⟩
theorem x_mmax (hx : p.tables.exec = Jvm.exec) (hb : c.code = cc) (hml : c.maxLocals = ls.size) {own : String} {index : Nat} (hown : s.vm.findClass own = some m.cls) (hts : ∀ w ∈ lw_all, w.before args s = true) (hlink : (Cond.methodLink own index Lib.Math.max.name) ∈ lw_all) (hstat : (Cond.static Lib.Math.max.name) ∈ lw_all) (hini : (Cond.initialized "java/lang/Math") ∈ lw_all) (hcode : (Cond.code Lib.Math.max.name Lib.Math.max.code 2 (some .int)) ∈ lw_all)
    (hframes : 1 ≤ R.frames) (hlocals : (rest.map fun v => v.category).sum + 13 ≤ R.locals) (hc : cells ≤ R.cells) (hs : slots ≤ R.slots) {x y : Int32} (hdg : decode cc pc = .ok (.invokestatic index, 3))
    (kk : W p l e R s m args below meth c H locs cells slots Q (F0 m (pc + 3) ls (.int (jmax x y) :: rest))) : W p l e R s m args below meth c H locs cells slots Q (F0 m pc ls (.int y :: .int x :: rest)) := va_mmax hx hb hml hown (hts _ hlink) (hts _ hstat) (hts _ hini) (hts _ hcode) hframes hlocals hc hs hdg kk
theorem x_mmin (hx : p.tables.exec = Jvm.exec) (hb : c.code = cc) (hml : c.maxLocals = ls.size) {own : String} {index : Nat} (hown : s.vm.findClass own = some m.cls) (hts : ∀ w ∈ lw_all, w.before args s = true) (hlink : (Cond.methodLink own index Lib.Math.min.name) ∈ lw_all) (hstat : (Cond.static Lib.Math.min.name) ∈ lw_all) (hini : (Cond.initialized "java/lang/Math") ∈ lw_all) (hcode : (Cond.code Lib.Math.min.name Lib.Math.min.code 2 (some .int)) ∈ lw_all)
    (hframes : 1 ≤ R.frames) (hlocals : (rest.map fun v => v.category).sum + 13 ≤ R.locals) (hc : cells ≤ R.cells) (hs : slots ≤ R.slots) {x y : Int32} (hdg : decode cc pc = .ok (.invokestatic index, 3))
    (kk : W p l e R s m args below meth c H locs cells slots Q (F0 m (pc + 3) ls (.int (jmin x y) :: rest))) : W p l e R s m args below meth c H locs cells slots Q (F0 m pc ls (.int y :: .int x :: rest)) := va_mmin hx hb hml hown (hts _ hlink) (hts _ hstat) (hts _ hini) (hts _ hcode) hframes hlocals hc hs hdg kk
/-- a Poly into an array of them -/
theorem x_aast3 (hx : p.tables.exec = Jvm.exec) (hb : c.code = cc) (hK : va_K G.1 xcl (xKt G) s) (hP : xW G b hole K T H) (hS0 : va_S (xA b hole) H0 H locs) {k v : Nat} (hk : kd K k = 3) (hv : kd K v = 2) {i : Int32} {j : Nat} (hi : i = nI j) (hj : j < kl K k) (hdg : decode cc pc = .ok (.aastore, 1))
    (kk : ∀ (H1 : Heap) (locs1 : List Loc), xW G b hole K (xwr T k j (some v)) H1 → va_S (xA b hole) H0 H1 locs1 → W p l e R s m args below meth c H1 locs1 cells slots Q (F0 m (pc + 1) ls rest)) : W p l e R s m args below meth c H locs cells slots Q (F0 m pc ls (.ref (b + v) :: .int i :: .ref (b + k) :: rest)) := by
  subst hi
  have hk0 : kd K k ≠ 0 := by rw [hk]; decide
  have hk16 : kd K k ≠ 16 := by rw [hk]; decide
  have hlt := hP.ll k
  have hjc : (nI j).toNatClampNeg = j := nI_clamp (Nat.lt_trans hj hlt)
  have ha := (x_PI hP hk (by decide) (by decide) (xE_3 hk)) 0 _ rfl
  have hE := fun T' => xE_3 (G := G) (b := b) (T := T') hk
  have hyt := xwr_ty (j0 := j) (v := some v) hP hk0 (fun p e => by cases e; rw [hv, hk]; exact ⟨rfl, by decide⟩)
  generalize kl K k = N at ha hj hE hlt
  obtain ⟨r', hr', cellV, g1, g2, g3, -⟩ := x_P1 hP (k := v) (by rw [hv]; decide) (by rw [hv]; decide) (xE_2 hv) 0 _ rfl
  have hcls := (hK.1 5 _ rfl).2
  obtain ⟨kA, comp, k1, k2, k3, -⟩ := (hK.2 3 _ rfl).2
  have hcomp : comp = G.1.1 5 := Option.some.inj (k3.symm.trans hcls.1)
  subst hcomp
  obtain ⟨kC, hkC, -⟩ := hcls.2
  refine W.aast hx hb ha (fun q h => by cases h) (fun h => by cases h) k1 k2 rfl hkC ⟨nI_pos (by omega), by rw [hjc]; show _ < (arrV _ _ _).slots.size; rw [arrV_size]; exact hj⟩ g1 (fun q h => by rw [g3] at h; cases h) (by rw [g2]; exact hkC) (by rw [g2]; exact va_asg _ _) rfl rfl hdg fun H1 e z oq => ?_
  refine kk H1 _ (hP.one hk0 hk16 ?_ (fun _ _ => rfl) (fun q hq => xwr_r hq) hyt z oq) (hS0.put z oq (hP.A hk0))
  rw [hE]
  show H1[b + k]? = some (vp_cell _ _)
  rw [e, hjc]
  rw [vp_cell_q, vp_cell_q, arrV_store]
  congr 2
  funext z
  show updV _ _ _ _ = va_rf (((va_up (xr T) k (va_up (xr T k) j (some v))) k z).map _)
  rw [va_up_self]
  by_cases hz : z = j
  · subst hz
    simp [updV, va_up, va_rf]
  · simp [updV, va_up, hz]
/-- an array of Polys into an array of those -/
theorem x_aast14 (hx : p.tables.exec = Jvm.exec) (hb : c.code = cc) (hK : va_K G.1 xcl (xKt G) s) (hPP : xPP G s) (hP : xW G b hole K T H) (hS0 : va_S (xA b hole) H0 H locs) {k v : Nat} (hk : kd K k = 14) (hv : kd K v = 3) {i : Int32} {j : Nat} (hi : i = nI j) (hj : j < kl K k) (hdg : decode cc pc = .ok (.aastore, 1))
    (kk : ∀ (H1 : Heap) (locs1 : List Loc), xW G b hole K (xwr T k j (some v)) H1 → va_S (xA b hole) H0 H1 locs1 → W p l e R s m args below meth c H1 locs1 cells slots Q (F0 m (pc + 1) ls rest)) : W p l e R s m args below meth c H locs cells slots Q (F0 m pc ls (.ref (b + v) :: .int i :: .ref (b + k) :: rest)) := by
  subst hi
  have hk0 : kd K k ≠ 0 := by rw [hk]; decide
  have hk16 : kd K k ≠ 16 := by rw [hk]; decide
  have hlt := hP.ll k
  have hjc : (nI j).toNatClampNeg = j := nI_clamp (Nat.lt_trans hj hlt)
  have ha := (x_PI hP hk (by decide) (by decide) (xE_14 hk)) 0 _ rfl
  have hE := fun T' => xE_14 (G := G) (b := b) (T := T') hk
  have hyt := xwr_ty (j0 := j) (v := some v) hP hk0 (fun p e => by cases e; rw [hv, hk]; exact ⟨rfl, by decide⟩)
  have g1 := (x_PI hP hv (by decide) (by decide) (xE_3 hv)) 0 _ rfl
  generalize kl K k = N at ha hj hE hlt
  generalize kl K v = N2 at g1
  obtain ⟨kA, k1, k2⟩ := hPP
  obtain ⟨kB, compB, q1, q2, q3, -⟩ := (hK.2 3 _ rfl).2
  refine W.aast hx hb ha (fun q h => by cases h) (fun h => by cases h) k1 k2 rfl q1 ⟨nI_pos (by omega), by rw [hjc]; show _ < (arrV _ _ _).slots.size; rw [arrV_size]; exact hj⟩ g1 (fun q h => by cases h) q1 (va_asg _ _) rfl rfl hdg fun H1 e z oq => ?_
  refine kk H1 _ (hP.one hk0 hk16 ?_ (fun _ _ => rfl) (fun q hq => xwr_r hq) hyt z oq) (hS0.put z oq (hP.A hk0))
  rw [hE]
  show H1[b + k]? = some (vp_cell _ _)
  rw [e, hjc]
  rw [vp_cell_q, vp_cell_q, arrV_store]
  congr 2
  funext z
  show updV _ _ _ _ = va_rf (((va_up (xr T) k (va_up (xr T k) j (some v))) k z).map _)
  rw [va_up_self]
  by_cases hz : z = j
  · subst hz
    simp [updV, va_up, va_rf]
  · simp [updV, va_up, hz]
theorem x_cast3 (hx : p.tables.exec = Jvm.exec) (hb : c.code = cc) {own : String} {index : Nat} (hown : s.vm.findClass own = some m.cls) (hts : ∀ w ∈ lw_all, w.before args s = true) (hlink : (Cond.classLink own index "[LTermDesk$Poly;") ∈ lw_all) (hK : va_K G.1 xcl (xKt G) s) (hP : xW G b hole K T H) {k : Nat} (hk : kd K k = 3) (hdg : decode cc pc = .ok (.checkcast index, 3))
    (kk : W p l e R s m args below meth c H locs cells slots Q (F0 m (pc + 3) ls (.ref (b + k) :: rest))) : W p l e R s m args below meth c H locs cells slots Q (F0 m pc ls (.ref (b + k) :: rest)) := by
  obtain ⟨_, _, _, _, _, h4⟩ := (hK.2 3 _ rfl).2
  exact va_castA hx hb hown (hts _ hlink) (x_PI hP hk (by decide) (by decide) (xE_3 hk)) 0 rfl h4 hdg kk
theorem x_cast1 (hx : p.tables.exec = Jvm.exec) (hb : c.code = cc) {own : String} {index : Nat} (hown : s.vm.findClass own = some m.cls) (hts : ∀ w ∈ lw_all, w.before args s = true) (hlink : (Cond.classLink own index "[I") ∈ lw_all) (hK : va_K G.1 xcl (xKt G) s) (hP : xW G b hole K T H) {k : Nat} (hk : kd K k = 1) (hdg : decode cc pc = .ok (.checkcast index, 3))
    (kk : W p l e R s m args below meth c H locs cells slots Q (F0 m (pc + 3) ls (.ref (b + k) :: rest))) : W p l e R s m args below meth c H locs cells slots Q (F0 m pc ls (.ref (b + k) :: rest)) :=
  va_castA hx hb hown (hts _ hlink) (x_PI hP hk (by decide) (by decide) (xE_1 hk)) 0 rfl (hK.2 0 _ rfl).2 hdg kk
/-- references that may be null -/
theorem x_aload (hx : p.tables.exec = Jvm.exec) (hb : c.code = cc) {i : Nat} {r : Option Nat} (hdg : decode cc pc = .ok (.aload i, 2)) (hl : ls[i]? = some (.val (rfv b r)))
    (k : W p l e R s m args below meth c H locs cells slots Q (F0 m (pc + 2) ls (rfv b r :: rest))) : W p l e R s m args below meth c H locs cells slots Q (F0 m pc ls rest) := by
  cases r with
  | none => exact lv_aloadN hx hb hdg hl k
  | some v => exact lv_aload hx hb hdg hl k
theorem x_aload_n (hx : p.tables.exec = Jvm.exec) (hb : c.code = cc) {k : Fin 4} {i : Nat} {r : Option Nat} (hdg : decode cc pc = .ok (.aload_n k, 1)) (hi : (k : Nat) = i) (hl : ls[i]? = some (.val (rfv b r)))
    (kk : W p l e R s m args below meth c H locs cells slots Q (F0 m (pc + 1) ls (rfv b r :: rest))) : W p l e R s m args below meth c H locs cells slots Q (F0 m pc ls rest) := by
  cases r with
  | none => exact lv_aload_nN hx hb hdg hi hl kk
  | some v => exact lv_aload_n hx hb hdg hi hl kk
theorem x_astore (hx : p.tables.exec = Jvm.exec) (hb : c.code = cc) {i nL : Nat} {r : Option Nat} {lv lv' : List (Nat × Value)} (hdg : decode cc pc = .ok (.astore i, 2)) (h : lv_has ls nL lv) (hn : i < nL) (hl : (i, rfv b r) :: lv.filter (fun q => !(q.1 == i) && !(q.1 + 1 == i && q.2.category == 2)) = lv')
    (kk : ∀ ls' : Array Slot, lv_has ls' nL lv' → W p l e R s m args below meth c H locs cells slots Q (F0 m (pc + 2) ls' rest)) : W p l e R s m args below meth c H locs cells slots Q (F0 m pc ls (rfv b r :: rest)) := by
  cases r with
  | none => exact lv_astoreN hx hb hdg h hn hl kk
  | some v => exact lv_astore hx hb hdg h hn hl kk
theorem x_astore_n (hx : p.tables.exec = Jvm.exec) (hb : c.code = cc) {k : Fin 4} {i nL : Nat} {r : Option Nat} {lv lv' : List (Nat × Value)} (hdg : decode cc pc = .ok (.astore_n k, 1)) (hi : (k : Nat) = i) (h : lv_has ls nL lv) (hn : i < nL) (hl : (i, rfv b r) :: lv.filter (fun q => !(q.1 == i) && !(q.1 + 1 == i && q.2.category == 2)) = lv')
    (kk : ∀ ls' : Array Slot, lv_has ls' nL lv' → W p l e R s m args below meth c H locs cells slots Q (F0 m (pc + 1) ls' rest)) : W p l e R s m args below meth c H locs cells slots Q (F0 m pc ls (rfv b r :: rest)) := by
  cases r with
  | none => exact lv_astore_nN hx hb hdg hi h hn hl kk
  | some v => exact lv_astore_n hx hb hdg hi h hn hl kk
theorem x_ifnull (hx : p.tables.exec = Jvm.exec) (hb : c.code = cc) {r : Option Nat} {off : Int} {tgt : Nat} (hdg : decode cc pc = .ok (.ifnull off, 3)) (ht : (pc : Int) + off = (tgt : Int)) (k1 : r = none → W p l e R s m args below meth c H locs cells slots Q (F0 m tgt ls rest)) (k2 : ∀ v, r = some v → W p l e R s m args below meth c H locs cells slots Q (F0 m (pc + 3) ls rest)) : W p l e R s m args below meth c H locs cells slots Q (F0 m pc ls (rfv b r :: rest)) := by
  cases r with
  | none => exact lv_ifnullN hx hb hdg ht (k1 rfl)
  | some v => exact lv_ifnull hx hb hdg (k2 v rfl)
theorem x_ifnonnull (hx : p.tables.exec = Jvm.exec) (hb : c.code = cc) {r : Option Nat} {off : Int} {tgt : Nat} (hdg : decode cc pc = .ok (.ifnonnull off, 3)) (ht : (pc : Int) + off = (tgt : Int)) (k1 : ∀ v, r = some v → W p l e R s m args below meth c H locs cells slots Q (F0 m tgt ls rest)) (k2 : r = none → W p l e R s m args below meth c H locs cells slots Q (F0 m (pc + 3) ls rest)) : W p l e R s m args below meth c H locs cells slots Q (F0 m pc ls (rfv b r :: rest)) := by
  cases r with
  | none => exact lv_ifnonnullN hx hb hdg (k2 rfl)
  | some v => exact lv_ifnonnull hx hb hdg ht (k1 v rfl)
theorem x_some {r : Option Nat} {v : Nat} (e9 : r = some v) (k : W p l e R s m args below meth c H locs cells slots Q (F0 m pc ls (.ref (b + v) :: rest))) : W p l e R s m args below meth c H locs cells slots Q (F0 m pc ls (rfv b r :: rest)) := by
  subst e9
  exact k
/-! calls -/
theorem x_blind {av : List Value} : FrameBlind (xPc G b hole av K T) := fun a U g mk q => by obtain ⟨q0, q1, q2, q3⟩ := q; exact ⟨q0, q1, va_K.moved (u := U) (U := U.calling g mk a) (Vm.Alike.refl U.vm) q2, q3.call⟩
theorem x_env (hV : xV G b s H0) (hb0 : b ≤ H0.size) (hS : va_S (xA b hole) H0 H locs) {U : State} (hU : U.heap = H) (hW : s.WarmedH U.vm) : xV G b U U.heap := hV.go hW (fun q hq => by
  rw [hU]
  exact hS.2.1 q (by omega) (fun z => by have := z.1; omega))
theorem x_run {ρ : Type} {enc : ρ → Option Value} {post : ρ → XT → XK → Prop} {mc ms : Nat} {a : Array Value} {st0 : List Value} (hr : va_Run p l e R s m args below meth c H locs cells slots mc ms (F0 m pc ls st0) rest (xQ G b hole K mc ms enc post a) (xA b hole)) (hS : va_S (xA b hole) H0 H locs)
    (kk : ∀ (r : ρ) (T1 : XT) (K1 : XK) (H1 : Heap) (locs1 : List Loc), post r T1 K1 → kle K K1 → kc K1 = kc K + mc → ks K1 = ks K + ms → xW G b hole K1 T1 H1 → va_S (xA b hole) H0 H1 locs1 → W p l e R s m args below meth c H1 locs1 (cells + mc) (slots + ms) Q (F0 m (pc + 3) ls ((enc r).toList ++ rest))) : W p l e R s m args below meth c H locs cells slots Q (F0 m pc ls st0) := by
  intro U hU X
  obtain ⟨v, st₀, t, U', L, h0, X', hL, e1, e2, ⟨⟨r, T1, K1, hv, hp, hle, hc, hs, hW1, hK1⟩, hz, hk⟩, st⟩ := hr U hU X
  cases hv
  rw [h0] at hz hk
  obtain ⟨t2, a1, b1⟩ := kk r T1 K1 U'.heap (locs ++ L) hp hle hc hs (by rw [e1]; exact hW1)
    ⟨Nat.le_trans hS.1 (by rw [e1]; exact hz), fun q h1 h2 => by rw [e1, hk q (Nat.lt_of_lt_of_le h1 hS.1) h2]; exact hS.2.1 q h1 h2, fun q hq => by
      rcases List.mem_append.mp hq with h | h
      · exact hS.2.2 q h
      · exact hL q h⟩ U' rfl X'
  exact ⟨t2, st t2 a1, b1⟩
variable {y : MethodName} {bytes : ByteArray} {maxL nL index n mc ms : Nat} {ret : Option FieldType} {rm : Room} {own CC host : String} {As st0 : List Value} {ρ : Type} {enc : ρ → Option Value} {post : ρ → XT → XK → Prop} {k : Nat}
theorem x_recv {TT : u_T} {N ci kn : Nat} {fs : List Value} (hK : va_K G.1 xcl (xKt G) s) (hP : xW G b hole K T H) (hk : kd K k = kn) (h0 : kn ≠ 0) (h16 : kn ≠ 16) (hc : xcl[ci]? = some (CC, TT, N)) (hE : xE G b K T k = .inr (ci, fs)) : ∃ cellB : Cell, H[b + k]? = some cellB ∧ cellB.vm.isStatics = false ∧ s.vm.findClass CC = some cellB.cls := va_recv hK (x_P1 hP (by rw [hk]; exact h0) (by rw [hk]; exact h16) hE) (ci := ci) (q0 := 0) hc rfl
theorem x_cV (F : CallFix p m c cc nL s args lw_all own) (hM : Met l y (ws_ y bytes maxL ret) rm (xPc G b hole (.ref (b + k) :: As) K T) (xQ G b hole K mc ms enc post) mc ms (xA b hole)) (cw : CallW R s args own CC index y bytes maxL ret (ws_ y bytes maxL ret) rm mc ms n) (hrc : ∃ cellB : Cell, H[b + k]? = some cellB ∧ cellB.vm.isStatics = false ∧ s.vm.findClass CC = some cellB.cls)
    (hK : va_K G.1 xcl (xKt G) s) (hV : xV G b s H0) (hb0 : b ≤ H0.size) (hP : xW G b hole K T H) (hS : va_S (xA b hole) H0 H locs) (hn : As.length = n) (hsize : ls.size = nL) (hstack : st0 = As.reverse ++ .ref (b + k) :: rest) (hW : (rest.map fun v => v.category).sum ≤ 8) (hdg : decode cc pc = .ok (.invokevirtual index, 3)) (hf : cells + mc ≤ R.cells ∧ slots + ms ≤ R.slots)
    (kk : ∀ (r : ρ) (T1 : XT) (K1 : XK) (H1 : Heap) (locs1 : List Loc), post r T1 K1 → kle K K1 → kc K1 = kc K + mc → ks K1 = ks K + ms → xW G b hole K1 T1 H1 → va_S (xA b hole) H0 H1 locs1 → W p l e R s m args below meth c H1 locs1 (cells + mc) (slots + ms) Q (F0 m (pc + 3) ls ((enc r).toList ++ rest))) : W p l e R s m args below meth c H locs cells slots Q (F0 m pc ls st0) :=
  x_run (va_runV (As := As) (rest := rest) F hM cw ⟨x_blind, hrc, fun U hU hW => ⟨rfl, by rw [hU]; exact hP, va_K.moved hW.alike hK, x_env hV hb0 hS hU hW⟩⟩ rfl hn hsize hstack (lv_room hW) hdg hf) hS kk
theorem x_cVN (F : CallFix p m c cc nL s args lw_all own) (hM : Met l y (ws_ y bytes maxL ret) rm (xPc G b hole (.ref (b + k) :: As) K T) (xQ G b hole K mc ms enc post) mc ms (xA b hole)) (cw : va_CN R s args own index y host bytes maxL ret (ws_ y bytes maxL ret) rm mc ms n ∧ (Cond.instanceMethod y).before args s = true ∧ (Cond.selects CC y y).before args s = true) (hrc : ∃ cellB : Cell, H[b + k]? = some cellB ∧ cellB.vm.isStatics = false ∧ s.vm.findClass CC = some cellB.cls)
    (hK : va_K G.1 xcl (xKt G) s) (hV : xV G b s H0) (hb0 : b ≤ H0.size) (hP : xW G b hole K T H) (hS : va_S (xA b hole) H0 H locs) (hn : As.length = n) (hsize : ls.size = nL) (hstack : st0 = As.reverse ++ .ref (b + k) :: rest) (hW : (rest.map fun v => v.category).sum ≤ 8) (hdg : decode cc pc = .ok (.invokevirtual index, 3)) (hf : cells + mc ≤ R.cells ∧ slots + ms ≤ R.slots)
    (kk : ∀ (r : ρ) (T1 : XT) (K1 : XK) (H1 : Heap) (locs1 : List Loc), post r T1 K1 → kle K K1 → kc K1 = kc K + mc → ks K1 = ks K + ms → xW G b hole K1 T1 H1 → va_S (xA b hole) H0 H1 locs1 → W p l e R s m args below meth c H1 locs1 (cells + mc) (slots + ms) Q (F0 m (pc + 3) ls ((enc r).toList ++ rest))) : W p l e R s m args below meth c H locs cells slots Q (F0 m pc ls st0) :=
  x_run (va_runVN (As := As) (rest := rest) F hM cw ⟨x_blind, hrc, fun U hU hW => ⟨rfl, by rw [hU]; exact hP, va_K.moved hW.alike hK, x_env hV hb0 hS hU hW⟩⟩ rfl hn hsize hstack (lv_room hW) hdg hf) hS kk
theorem x_cS (F : CallFix p m c cc nL s args lw_all own) (hM : Met l y (ws_ y bytes maxL ret) rm (xPc G b hole As K T) (xQ G b hole K mc ms enc post) mc ms (xA b hole)) (cw : CallB R s args own index y bytes maxL ret (ws_ y bytes maxL ret) rm mc ms n ∧ (Cond.static y).before args s = true)
    (hK : va_K G.1 xcl (xKt G) s) (hV : xV G b s H0) (hb0 : b ≤ H0.size) (hP : xW G b hole K T H) (hS : va_S (xA b hole) H0 H locs) (hn : As.length = n) (hsize : ls.size = nL) (hstack : st0 = As.reverse ++ rest) (hW : (rest.map fun v => v.category).sum ≤ 8) (hdg : decode cc pc = .ok (.invokestatic index, 3)) (hf : cells + mc ≤ R.cells ∧ slots + ms ≤ R.slots)
    (kk : ∀ (r : ρ) (T1 : XT) (K1 : XK) (H1 : Heap) (locs1 : List Loc), post r T1 K1 → kle K K1 → kc K1 = kc K + mc → ks K1 = ks K + ms → xW G b hole K1 T1 H1 → va_S (xA b hole) H0 H1 locs1 → W p l e R s m args below meth c H1 locs1 (cells + mc) (slots + ms) Q (F0 m (pc + 3) ls ((enc r).toList ++ rest))) : W p l e R s m args below meth c H locs cells slots Q (F0 m pc ls st0) :=
  x_run (va_runS (As := As) (rest := rest) F hM cw ⟨x_blind, fun U hU hW => ⟨rfl, by rw [hU]; exact hP, va_K.moved hW.alike hK, x_env hV hb0 hS hU hW⟩⟩ rfl hn hsize hstack (lv_room hW) hdg hf) hS kk
theorem x_cSN (F : CallFix p m c cc nL s args lw_all own) (hM : Met l y (ws_ y bytes maxL ret) rm (xPc G b hole As K T) (xQ G b hole K mc ms enc post) mc ms (xA b hole)) (cw : va_CN R s args own index y host bytes maxL ret (ws_ y bytes maxL ret) rm mc ms n ∧ (Cond.static y).before args s = true ∧ True)
    (hK : va_K G.1 xcl (xKt G) s) (hV : xV G b s H0) (hb0 : b ≤ H0.size) (hP : xW G b hole K T H) (hS : va_S (xA b hole) H0 H locs) (hn : As.length = n) (hsize : ls.size = nL) (hstack : st0 = As.reverse ++ rest) (hW : (rest.map fun v => v.category).sum ≤ 8) (hdg : decode cc pc = .ok (.invokestatic index, 3)) (hf : cells + mc ≤ R.cells ∧ slots + ms ≤ R.slots)
    (kk : ∀ (r : ρ) (T1 : XT) (K1 : XK) (H1 : Heap) (locs1 : List Loc), post r T1 K1 → kle K K1 → kc K1 = kc K + mc → ks K1 = ks K + ms → xW G b hole K1 T1 H1 → va_S (xA b hole) H0 H1 locs1 → W p l e R s m args below meth c H1 locs1 (cells + mc) (slots + ms) Q (F0 m (pc + 3) ls ((enc r).toList ++ rest))) : W p l e R s m args below meth c H locs cells slots Q (F0 m pc ls st0) :=
  x_run (va_runSN (As := As) (rest := rest) F hM cw ⟨x_blind, fun U hU hW => ⟨rfl, by rw [hU]; exact hP, va_K.moved hW.alike hK, x_env hV hb0 hS hU hW⟩⟩ rfl hn hsize hstack (lv_room hW) hdg hf) hS kk
theorem x_cI (F : CallFix p m c cc nL s args lw_all own) (hM : Met l y (ws_ y bytes maxL none) rm (xPc G b hole (.ref (b + k) :: As) K T) (xQ G b hole K mc ms enc post) mc ms (xA b hole)) (cw : CallB R s args own index y bytes maxL none (ws_ y bytes maxL none) rm mc ms n ∧ y.name = "<init>" ∧ (Cond.instanceMethod y).before args s = true)
    (hK : va_K G.1 xcl (xKt G) s) (hV : xV G b s H0) (hb0 : b ≤ H0.size) (hP : xW G b hole K T H) (hS : va_S (xA b hole) H0 H locs) (hn : As.length = n) (hsize : ls.size = nL) (hstack : st0 = As.reverse ++ .ref (b + k) :: rest) (hW : (rest.map fun v => v.category).sum ≤ 8) (hdg : decode cc pc = .ok (.invokespecial index, 3)) (hf : cells + mc ≤ R.cells ∧ slots + ms ≤ R.slots)
    (kk : ∀ (r : ρ) (T1 : XT) (K1 : XK) (H1 : Heap) (locs1 : List Loc), post r T1 K1 → kle K K1 → kc K1 = kc K + mc → ks K1 = ks K + ms → xW G b hole K1 T1 H1 → va_S (xA b hole) H0 H1 locs1 → W p l e R s m args below meth c H1 locs1 (cells + mc) (slots + ms) Q (F0 m (pc + 3) ls ((enc r).toList ++ rest))) : W p l e R s m args below meth c H locs cells slots Q (F0 m pc ls st0) :=
  x_run (va_runI (As := As) (rest := rest) F hM cw ⟨x_blind, fun U hU hW => ⟨rfl, by rw [hU]; exact hP, va_K.moved hW.alike hK, x_env hV hb0 hS hU hW⟩⟩ rfl hn hsize hstack (lv_room hW) hdg hf) hS kk
end XR3
