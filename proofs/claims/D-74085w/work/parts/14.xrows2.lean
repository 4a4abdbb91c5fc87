set_option maxRecDepth 100000
/-- a part of an int array copied -/
def xcpy (T : XT) (k0 k1 sp dp n : Nat) : XT := (va_up (xi T) k1 (va_cpy (xi T k0) (xi T k1) sp dp n), xr T)
/-- a cell's contents put over another's -/
def xdup (T : XT) (k0 k1 : Nat) : XT := (va_up (xi T) k1 (xi T k0), va_up (xr T) k1 (xr T k0))
def jmax (x y : Int32) : Int32 := if x < y then y else x
def jmin (x y : Int32) : Int32 := if y < x then y else x
section XR2
variable {p : Program} {l : Launch} {e : Env} {R : Room} {s : State} {m : MethodId} {args : Array Value} {below : List Frame} {meth : Method} {c : Code} {H H0 : Heap} {locs : List Loc} {cells slots : Nat} {Q : State → Prop}
variable {cc : ByteArray} {pc : Nat} {ls : Array Slot} {rest : List Value} {G : XG} {b : Nat} {hole : Nat → Prop} {K : XK} {T : XT}
theorem va_S.wide {A : Nat → Prop} {H2 : Heap} (hS : va_S A H0 H locs) (z : H2.size = H.size + 1) (o : ∀ q, q < H.size → H2[q]? = H[q]?) : va_S A H0 H2 locs := ⟨Nat.le_trans hS.1 (by omega), fun x h1 h2 => (o x (Nat.lt_of_lt_of_le h1 hS.1)).trans (hS.2.1 x h1 h2), hS.2.2⟩
/-- new, of a class whose cells are all kept by T -/
theorem x_new (hx : p.tables.exec = Jvm.exec) (hb : c.code = cc) (hts : ∀ w ∈ lw_all, w.before args s = true) {own CC : String} {TT : u_T} {N ci kn : Nat} (hin : ∀ w ∈ u_ws CC TT N, w ∈ lw_all) (ty0 : Nat → FieldType) (hty0 : ∀ k, k < N → parseFieldDescriptor (TT k).2.2.1 = some (ty0 k)) (hown : s.vm.findClass own = some m.cls) {index : Nat} (hcl : (Cond.classLink own index CC) ∈ lw_all) (hinst : (Cond.instantiable CC N) ∈ lw_all) (hini : (Cond.initialized CC) ∈ lw_all) (hK : va_K G.1 xcl (xKt G) s) (hP : xW G b hole K T H) (hS : va_S (xA b hole) H0 H locs) (hc : xcl[ci]? = some (CC, TT, N)) (h16 : kn ≠ 16) (h9 : kn ≠ 9) {fs : List Value} (hE : ∀ K1 : XK, kd K1 (kz K) = kn → xE G b K1 (xnil T (kz K)) (kz K) = .inr (ci, fs)) (hfs : ∀ j, j < N → defaultValue (ty0 j) = vp_V fs j) (hcells : cells + 1 ≤ R.cells) (hslots : slots + N ≤ R.slots) (hdg : decode cc pc = .ok (.new index, 3))
    (kk : ∀ (H1 : Heap), xW G b hole (knew K kn 0 N) (xnil T (kz K)) H1 → va_S (xA b hole) H0 H1 locs → W p l e R s m args below meth c H1 locs (cells + 1) (slots + N) Q (F0 m (pc + 3) ls (.ref (b + kz K) :: rest))) : W p l e R s m args below meth c H locs cells slots Q (F0 m pc ls rest) := by
  have hKn := hK.1 ci _ hc
  refine W.newcK hx hb hown (hts _ hcl) (hts _ hinst) (hts _ hini) rfl hdg hcells hslots hKn.2.1 hP.2.2.2 fun H1 kC hkC e1 z1 o1 => ?_
  refine kk H1 (hP.more h9 (by decide) (fun _ _ => ?_) (fun h => absurd h h16) (by rw [z1, hP.2.2.2]) (fun q hq => o1 q (by rw [← hP.2.2.2]; exact hq))) (va_S.wide hS (by rw [z1, hP.2.2.2]) (fun q hq => o1 q (by rw [← hP.2.2.2]; exact hq)))
  rw [hE _ knew_kd]
  exact ⟨_, hc, (u_born ty0 hts hin hKn hkC e1 hty0).to hfs⟩
theorem x_newai (hx : p.tables.exec = Jvm.exec) (hb : c.code = cc) (hts : ∀ w ∈ lw_all, w.before args s = true) (harr : (Cond.arrayClass .int) ∈ lw_all) (hK : va_K G.1 xcl (xKt G) s) (hP : xW G b hole K T H) (hS : va_S (xA b hole) H0 H locs) {n : Int32} {N : Nat} (hn : n = nI N) (hN : N < 2 ^ 27) (hcells : cells + 1 ≤ R.cells) (hslots : slots + N ≤ R.slots) (hdg : decode cc pc = .ok (.newarray .int, 2))
    (kk : ∀ (H1 : Heap), xW G b hole (knew K 1 N N) (xnil T (kz K)) H1 → va_S (xA b hole) H0 H1 locs → W p l e R s m args below meth c H1 locs (cells + 1) (slots + N) Q (F0 m (pc + 2) ls (.ref (b + kz K) :: rest))) : W p l e R s m args below meth c H locs cells slots Q (F0 m pc ls (.int n :: rest)) := by
  have h0 : ¬ n < 0 := by rw [hn]; exact nI_pos (by omega)
  have h1 : n.toNatClampNeg = N := by rw [hn]; exact nI_clamp (by omega)
  refine va_newaK (atype := .int) hx hb (hts _ harr) rfl hdg rfl h0 h1 (by show N * _ ≤ _; simp only [componentBytes, newarray.typeOf]; omega) hcells hslots hP.2.2.2 fun H1 cA e1 z1 o1 hAr hNm => ?_
  refine kk H1 (hP.more (by decide) hN (fun _ _ => ?_) (fun h => by cases h) (by rw [z1, hP.2.2.2]) (fun q hq => o1 q (by rw [← hP.2.2.2]; exact hq))) (va_S.wide hS (by rw [z1, hP.2.2.2]) (fun q hq => o1 q (by rw [← hP.2.2.2]; exact hq)))
  have hcA : cA = G.2.1 1 := Option.some.inj (hNm.symm.trans (hK.2 0 _ rfl).2)
  rw [xE_1 knew_kd, knew_kl]
  show H1[b + kz K]? = some (vp_cell _ _)
  rw [e1, vp_cell_i, hcA]
  congr 2
  funext z
  show _ = Value.int ((va_up (xi T) (kz K) (fun _ => 0)) (kz K) z)
  rw [va_up_self]
  rfl
theorem x_newab (hx : p.tables.exec = Jvm.exec) (hb : c.code = cc) (hts : ∀ w ∈ lw_all, w.before args s = true) (harr : (Cond.arrayClass .byte) ∈ lw_all) (hK : va_K G.1 xcl (xKt G) s) (hP : xW G b hole K T H) (hS : va_S (xA b hole) H0 H locs) {n : Int32} {N : Nat} (hn : n = nI N) (hN : N < 2 ^ 27) (hcells : cells + 1 ≤ R.cells) (hslots : slots + N ≤ R.slots) (hdg : decode cc pc = .ok (.newarray .byte, 2))
    (kk : ∀ (H1 : Heap), xW G b hole (knew K 6 N N) (xnil T (kz K)) H1 → va_S (xA b hole) H0 H1 locs → W p l e R s m args below meth c H1 locs (cells + 1) (slots + N) Q (F0 m (pc + 2) ls (.ref (b + kz K) :: rest))) : W p l e R s m args below meth c H locs cells slots Q (F0 m pc ls (.int n :: rest)) := by
  have h0 : ¬ n < 0 := by rw [hn]; exact nI_pos (by omega)
  have h1 : n.toNatClampNeg = N := by rw [hn]; exact nI_clamp (by omega)
  refine va_newaK (atype := .byte) hx hb (hts _ harr) rfl hdg rfl h0 h1 (by show N * _ ≤ _; simp only [componentBytes, newarray.typeOf]; omega) hcells hslots hP.2.2.2 fun H1 cA e1 z1 o1 hAr hNm => ?_
  refine kk H1 (hP.more (by decide) hN (fun _ _ => ?_) (fun h => by cases h) (by rw [z1, hP.2.2.2]) (fun q hq => o1 q (by rw [← hP.2.2.2]; exact hq))) (va_S.wide hS (by rw [z1, hP.2.2.2]) (fun q hq => o1 q (by rw [← hP.2.2.2]; exact hq)))
  have hcA : cA = G.2.1 6 := Option.some.inj (hNm.symm.trans (hK.2 1 _ rfl).2)
  rw [xE_6 knew_kd, knew_kl]
  show H1[b + kz K]? = some (vp_cell _ _)
  rw [e1, vp_cell_i, hcA]
  congr 2
  funext z
  show _ = Value.int ((va_up (xi T) (kz K) (fun _ => 0)) (kz K) z)
  rw [va_up_self]
  rfl
theorem x_newac (hx : p.tables.exec = Jvm.exec) (hb : c.code = cc) (hts : ∀ w ∈ lw_all, w.before args s = true) (harr : (Cond.arrayClass .char) ∈ lw_all) (hK : va_K G.1 xcl (xKt G) s) (hP : xW G b hole K T H) (hS : va_S (xA b hole) H0 H locs) {n : Int32} {N : Nat} (hn : n = nI N) (hN : N < 2 ^ 27) (hcells : cells + 1 ≤ R.cells) (hslots : slots + N ≤ R.slots) (hdg : decode cc pc = .ok (.newarray .char, 2))
    (kk : ∀ (H1 : Heap), xW G b hole (knew K 7 N N) (xnil T (kz K)) H1 → va_S (xA b hole) H0 H1 locs → W p l e R s m args below meth c H1 locs (cells + 1) (slots + N) Q (F0 m (pc + 2) ls (.ref (b + kz K) :: rest))) : W p l e R s m args below meth c H locs cells slots Q (F0 m pc ls (.int n :: rest)) := by
  have h0 : ¬ n < 0 := by rw [hn]; exact nI_pos (by omega)
  have h1 : n.toNatClampNeg = N := by rw [hn]; exact nI_clamp (by omega)
  refine va_newaK (atype := .char) hx hb (hts _ harr) rfl hdg rfl h0 h1 (by show N * _ ≤ _; simp only [componentBytes, newarray.typeOf]; omega) hcells hslots hP.2.2.2 fun H1 cA e1 z1 o1 hAr hNm => ?_
  refine kk H1 (hP.more (by decide) hN (fun _ _ => ?_) (fun h => by cases h) (by rw [z1, hP.2.2.2]) (fun q hq => o1 q (by rw [← hP.2.2.2]; exact hq))) (va_S.wide hS (by rw [z1, hP.2.2.2]) (fun q hq => o1 q (by rw [← hP.2.2.2]; exact hq)))
  have hcA : cA = G.2.1 7 := Option.some.inj (hNm.symm.trans (hK.2 2 _ rfl).2)
  rw [xE_7 knew_kd, knew_kl]
  show H1[b + kz K]? = some (vp_cell _ _)
  rw [e1, vp_cell_i, hcA]
  congr 2
  funext z
  show _ = Value.int ((va_up (xi T) (kz K) (fun _ => 0)) (kz K) z)
  rw [va_up_self]
  rfl
theorem x_clone1 (hx : p.tables.exec = Jvm.exec) (hb : c.code = cc) (hml : c.maxLocals = ls.size) {own : String} {index : Nat} (hown : s.vm.findClass own = some m.cls) (hts : ∀ w ∈ lw_all, w.before args s = true)
    (hlink : (Cond.methodLink own index ⟨"[I", "clone", "()Ljava/lang/Object;"⟩) ∈ lw_all) (hsame : (Cond.sameMethod "[I" "java/lang/Object" "clone" "()Ljava/lang/Object;") ∈ lw_all)
    (hnat : (Cond.native ⟨"java/lang/Object", "clone", "()Ljava/lang/Object;"⟩) ∈ lw_all) (hinst : (Cond.instanceMethod ⟨"java/lang/Object", "clone", "()Ljava/lang/Object;"⟩) ∈ lw_all)
    (hsel : (Cond.selects "[I" ⟨"[I", "clone", "()Ljava/lang/Object;"⟩ ⟨"java/lang/Object", "clone", "()Ljava/lang/Object;"⟩) ∈ lw_all) (hcl : (Cond.castable "[I" "java/lang/Cloneable") ∈ lw_tbl) (hV : xN s)
    (hK : va_K G.1 xcl (xKt G) s) (hP : xW G b hole K T H) (hS : va_S (xA b hole) H0 H locs) {k : Nat} (hk : kd K k = 1)
    (hframes : 1 ≤ R.frames) (hlocals : (rest.map fun v => v.category).sum + 14 ≤ R.locals) (hcells : cells + 1 ≤ R.cells) (hslots : slots + kl K k ≤ R.slots) (hdg : decode cc pc = .ok (.invokevirtual index, 3))
    (kk : ∀ (H1 : Heap), xW G b hole (knew K 1 (kl K k) (kl K k)) (xdup (xnil T (kz K)) k (kz K)) H1 → va_S (xA b hole) H0 H1 locs →
      W p l e R s m args below meth c H1 locs (cells + 1) (slots + kl K k) Q (F0 m (pc + 3) ls (.ref (b + kz K) :: rest))) : W p l e R s m args below meth c H locs cells slots Q (F0 m pc ls (.ref (b + k) :: rest)) := by
  have hk0 : kd K k ≠ 0 := by rw [hk]; decide
  have hkz : k ≠ kz K := by have := (hP.2.2.1.2.1 k hk0).1; omega
  obtain ⟨x, hxx⟩ : ∃ x : vp_A, x = (kl K k, .inl (xi T k)) := ⟨_, rfl⟩
  obtain ⟨cA, hcAe⟩ : ∃ cA : ClassId, cA = G.2.1 1 := ⟨_, rfl⟩
  have hcell : H[b + k]? = some (vp_cell cA x) := by rw [hxx, hcAe]; exact (x_PI hP hk (by decide) (by decide) (xE_1 hk)) 0 _ rfl
  have hx1 : x.1 = kl K k := by rw [hxx]
  have hsz : (vp_cell cA x).slots.size = x.1 := by
    obtain ⟨n, f | f | f | f | f⟩ := x <;> exact arrV_size _ _ _
  have hvm0 : (vp_cell cA x).vm = .none := by
    obtain ⟨n, f | f | f | f | f⟩ := x <;> rfl
  have hcl0 : (vp_cell cA x).cls = cA := by
    obtain ⟨n, f | f | f | f | f⟩ := x <;> rfl
  have hcellE : ({ cls := (vp_cell cA x).cls, slots := (vp_cell cA x).slots } : Cell) = vp_cell cA x := by
    obtain ⟨n, f | f | f | f | f⟩ := x <;> rfl
  have hnm : s.vm.findClass "[I" = some cA := by rw [hcAe]; exact (hK.2 0 _ rfl).2
  obtain ⟨c0, t0', f1, f2, f3⟩ := Cond.castable_spec (va_Nw.use (A := args) rfl (hV.2.2 _ _ hcl))
  cases hnm.symm.trans f1
  have hKt := (hK.2 0 _ rfl).1
  rw [← hcAe] at hKt
  intro U hU X
  have hcellT : U.heap[b + k]? = some (vp_cell cA x) := by rw [hU]; exact hcell
  obtain ⟨-, kA, hkA, comp, hkind⟩ := State.isArrayOf_alike X.warmed.alike (hKt 0 (fun _ => .null))
  obtain ⟨-, kS, hkS, compS, hkindS⟩ := hKt 0 (fun _ => .null)
  have hfit : ∀ (i : Nat) (v : Value), (vp_cell cA x).slots[i]? = some v → fits .int v = true := by
    intro i v hv
    rw [hxx, vp_cell_i] at hv
    have hi : i < kl K k := by
      have := (Array.getElem?_eq_some_iff.mp hv).1
      rw [arrV_size] at this
      exact this
    rw [arrV_read _ _ hi] at hv
    cases hv
    rfl
  obtain ⟨vm', X', st⟩ := X.cloneArray hx hown (hts _ hlink) (hts _ hsame) (hts _ hnat) (hts _ hinst) (hts _ hsel) (a := b + k) (cell := vp_cell cA x) hcellT (fun k h => by rw [hvm0] at h; cases h) (by rw [hvm0]; exact fun h => by cases h) (by rw [hcl0]; exact hnm) f2 (by rw [hcl0]; exact f3)
    (fun i v hv => by
      rw [hcl0]
      have hk' : U.vm.classes[cA]? = some kA := hkA
      simpa [State.fitsSlot, State.slotType?, hk', hkind] using hfit i v hv)
    (g := F0 m pc ls (.ref (b + k) :: rest)) rfl (by rw [hml]) rfl (by rw [hb]; exact hdg) hframes (by show 2 * 0 + _ + 14 ≤ _; omega) hcells (by rw [hsz, hx1]; exact hslots) (hloader := by rw [hcl0]; exact Vm.clonesLoader_of_array hkS hkindS)
  rw [hcellE, hsz, hx1] at X'
  generalize hH1 : H.push (vp_cell cA x) = H1
  have z1 : H1.size = H.size + 1 := by rw [← hH1, Array.size_push]
  have e1 : H1[H.size]? = some (vp_cell cA x) := by rw [← hH1, Array.getElem?_push_size]
  have o1 : ∀ q : Nat, q < H.size → H1[q]? = H[q]? := fun q hq => by rw [← hH1, Array.getElem?_push, if_neg (Nat.ne_of_lt hq)]
  have hW2 : xW G b hole (knew K 1 (kl K k) (kl K k)) (xdup (xnil T (kz K)) k (kz K)) H1 := by
    have a1 : xi (xdup (xnil T (kz K)) k (kz K)) (kz K) = xi T k := by
      show (va_up _ (kz K) (va_up (xi T) (kz K) (fun _ => 0) k)) (kz K) = _
      rw [va_up_self, va_up_ne _ _ hkz]
    have a2 : ∀ q, q ≠ kz K → xi (xdup (xnil T (kz K)) k (kz K)) q = xi T q := fun q hq => by
      show (va_up (va_up (xi T) (kz K) _) (kz K) _) q = _
      rw [va_up_ne _ _ hq, va_up_ne _ _ hq]
    have a3 : ∀ q, q ≠ kz K → xr (xdup (xnil T (kz K)) k (kz K)) q = xr T q := fun q hq => by
      show (va_up (va_up (xr T) (kz K) _) (kz K) _) q = _
      rw [va_up_ne _ _ hq, va_up_ne _ _ hq]
    have a4 : xr (xdup (xnil T (kz K)) k (kz K)) (kz K) = xr T k := by
      show (va_up _ (kz K) (va_up (xr T) (kz K) (fun _ => none) k)) (kz K) = _
      rw [va_up_self, va_up_ne _ _ hkz]
    exact hP.moreD (by have := hP.2.2.1.2.2.2.1 k; omega) (by decide) (by decide) (by decide) (by rw [xE_1 knew_kd, knew_kl, a1]; show H1[b + kz K]? = _; rw [← hP.2.2.2, e1, hxx, hcAe]) a2 a3 (fun j p hp => by
      rw [a4] at hp
      have h9 := hP.2.1 k j p hk0 hp
      rw [hk] at h9
      exact absurd h9.1 h9.2) z1 o1
  obtain ⟨t, b1, b2⟩ := kk H1 hW2 (va_S.wide hS z1 o1) ((U.setVm vm').pushCell (vp_cell cA x)) (by rw [← hH1, ← hU]; rfl) X'
  refine ⟨t, st t ?_, b2⟩
  rw [hcellE, hU, hP.2.2.2]
  exact b1
theorem x_clone3 (hx : p.tables.exec = Jvm.exec) (hb : c.code = cc) (hml : c.maxLocals = ls.size) {own : String} {index : Nat} (hown : s.vm.findClass own = some m.cls) (hts : ∀ w ∈ lw_all, w.before args s = true)
    (hlink : (Cond.methodLink own index ⟨"[LTermDesk$Poly;", "clone", "()Ljava/lang/Object;"⟩) ∈ lw_all) (hsame : (Cond.sameMethod "[LTermDesk$Poly;" "java/lang/Object" "clone" "()Ljava/lang/Object;") ∈ lw_all)
    (hnat : (Cond.native ⟨"java/lang/Object", "clone", "()Ljava/lang/Object;"⟩) ∈ lw_all) (hinst : (Cond.instanceMethod ⟨"java/lang/Object", "clone", "()Ljava/lang/Object;"⟩) ∈ lw_all)
    (hsel : (Cond.selects "[LTermDesk$Poly;" ⟨"[LTermDesk$Poly;", "clone", "()Ljava/lang/Object;"⟩ ⟨"java/lang/Object", "clone", "()Ljava/lang/Object;"⟩) ∈ lw_all) (hcl : (Cond.castable "[LTermDesk$Poly;" "java/lang/Cloneable") ∈ lw_tbl) (hV : xN s)
    (hK : va_K G.1 xcl (xKt G) s) (hP : xW G b hole K T H) (hS : va_S (xA b hole) H0 H locs) {k : Nat} (hk : kd K k = 3)
    (hframes : 1 ≤ R.frames) (hlocals : (rest.map fun v => v.category).sum + 14 ≤ R.locals) (hcells : cells + 1 ≤ R.cells) (hslots : slots + kl K k ≤ R.slots) (hdg : decode cc pc = .ok (.invokevirtual index, 3))
    (kk : ∀ (H1 : Heap), xW G b hole (knew K 3 (kl K k) (kl K k)) (xdup (xnil T (kz K)) k (kz K)) H1 → va_S (xA b hole) H0 H1 locs →
      W p l e R s m args below meth c H1 locs (cells + 1) (slots + kl K k) Q (F0 m (pc + 3) ls (.ref (b + kz K) :: rest))) : W p l e R s m args below meth c H locs cells slots Q (F0 m pc ls (.ref (b + k) :: rest)) := by
  have hk0 : kd K k ≠ 0 := by rw [hk]; decide
  have hkz : k ≠ kz K := by have := (hP.2.2.1.2.1 k hk0).1; omega
  obtain ⟨x, hxx⟩ : ∃ x : vp_A, x = (kl K k, .inr (.inr (.inr (.inr (fun j => (xr T k j).map (fun x => b + x)))))) := ⟨_, rfl⟩
  obtain ⟨cA, hcAe⟩ : ∃ cA : ClassId, cA = G.2.1 3 := ⟨_, rfl⟩
  have hcell : H[b + k]? = some (vp_cell cA x) := by rw [hxx, hcAe]; exact (x_PI hP hk (by decide) (by decide) (xE_3 hk)) 0 _ rfl
  have hx1 : x.1 = kl K k := by rw [hxx]
  have hsz : (vp_cell cA x).slots.size = x.1 := by
    obtain ⟨n, f | f | f | f | f⟩ := x <;> exact arrV_size _ _ _
  have hvm0 : (vp_cell cA x).vm = .none := by
    obtain ⟨n, f | f | f | f | f⟩ := x <;> rfl
  have hcl0 : (vp_cell cA x).cls = cA := by
    obtain ⟨n, f | f | f | f | f⟩ := x <;> rfl
  have hcellE : ({ cls := (vp_cell cA x).cls, slots := (vp_cell cA x).slots } : Cell) = vp_cell cA x := by
    obtain ⟨n, f | f | f | f | f⟩ := x <;> rfl
  have hnm : s.vm.findClass "[LTermDesk$Poly;" = some cA := by
    rw [hcAe]
    obtain ⟨_, _, _, _, _, h4⟩ := (hK.2 3 _ rfl).2
    exact h4
  obtain ⟨c0, t0', f1, f2, f3⟩ := Cond.castable_spec (va_Nw.use (A := args) rfl (hV.2.2 _ _ hcl))
  cases hnm.symm.trans f1
  have hKt := (hK.2 3 _ rfl).1
  rw [← hcAe] at hKt
  intro U hU X
  have hcellT : U.heap[b + k]? = some (vp_cell cA x) := by rw [hU]; exact hcell
  obtain ⟨-, kA, hkA, comp, hkind⟩ := State.isArrayOf_alike X.warmed.alike (hKt 0 (fun _ => .null))
  obtain ⟨-, kS, hkS, compS, hkindS⟩ := hKt 0 (fun _ => .null)
  have hfit : ∀ (i : Nat) (v : Value), (vp_cell cA x).slots[i]? = some v → fits (.object "TermDesk$Poly") v = true := by
    intro i v hv
    rw [hxx, vp_cell_q] at hv
    have hi : i < kl K k := by
      have := (Array.getElem?_eq_some_iff.mp hv).1
      rw [arrV_size] at this
      exact this
    rw [arrV_read _ _ hi] at hv
    cases hv
    cases (xr T k i) <;> rfl
  obtain ⟨vm', X', st⟩ := X.cloneArray hx hown (hts _ hlink) (hts _ hsame) (hts _ hnat) (hts _ hinst) (hts _ hsel) (a := b + k) (cell := vp_cell cA x) hcellT (fun k h => by rw [hvm0] at h; cases h) (by rw [hvm0]; exact fun h => by cases h) (by rw [hcl0]; exact hnm) f2 (by rw [hcl0]; exact f3)
    (fun i v hv => by
      rw [hcl0]
      have hk' : U.vm.classes[cA]? = some kA := hkA
      simpa [State.fitsSlot, State.slotType?, hk', hkind] using hfit i v hv)
    (g := F0 m pc ls (.ref (b + k) :: rest)) rfl (by rw [hml]) rfl (by rw [hb]; exact hdg) hframes (by show 2 * 0 + _ + 14 ≤ _; omega) hcells (by rw [hsz, hx1]; exact hslots) (hloader := by rw [hcl0]; exact Vm.clonesLoader_of_array hkS hkindS)
  rw [hcellE, hsz, hx1] at X'
  generalize hH1 : H.push (vp_cell cA x) = H1
  have z1 : H1.size = H.size + 1 := by rw [← hH1, Array.size_push]
  have e1 : H1[H.size]? = some (vp_cell cA x) := by rw [← hH1, Array.getElem?_push_size]
  have o1 : ∀ q : Nat, q < H.size → H1[q]? = H[q]? := fun q hq => by rw [← hH1, Array.getElem?_push, if_neg (Nat.ne_of_lt hq)]
  have hW2 : xW G b hole (knew K 3 (kl K k) (kl K k)) (xdup (xnil T (kz K)) k (kz K)) H1 := by
    have a2 : ∀ q, q ≠ kz K → xi (xdup (xnil T (kz K)) k (kz K)) q = xi T q := fun q hq => by
      show (va_up (va_up (xi T) (kz K) _) (kz K) _) q = _
      rw [va_up_ne _ _ hq, va_up_ne _ _ hq]
    have a3 : ∀ q, q ≠ kz K → xr (xdup (xnil T (kz K)) k (kz K)) q = xr T q := fun q hq => by
      show (va_up (va_up (xr T) (kz K) _) (kz K) _) q = _
      rw [va_up_ne _ _ hq, va_up_ne _ _ hq]
    have a4 : xr (xdup (xnil T (kz K)) k (kz K)) (kz K) = xr T k := by
      show (va_up _ (kz K) (va_up (xr T) (kz K) (fun _ => none) k)) (kz K) = _
      rw [va_up_self, va_up_ne _ _ hkz]
    exact hP.moreD (by have := hP.2.2.1.2.2.2.1 k; omega) (by decide) (by decide) (by decide) (by rw [xE_3 knew_kd, knew_kl, a4]; show H1[b + kz K]? = _; rw [← hP.2.2.2, e1, hxx, hcAe]) a2 a3 (fun j p hp => by
      rw [a4] at hp
      have h9 := hP.2.1 k j p hk0 hp
      rw [hk] at h9
      exact h9) z1 o1
  obtain ⟨t, b1, b2⟩ := kk H1 hW2 (va_S.wide hS z1 o1) ((U.setVm vm').pushCell (vp_cell cA x)) (by rw [← hH1, ← hU]; rfl) X'
  refine ⟨t, st t ?_, b2⟩
  rw [hcellE, hU, hP.2.2.2]
  exact b1
end XR2
