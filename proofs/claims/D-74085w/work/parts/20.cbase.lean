set_option maxRecDepth 100000
def cW (D : va_G) (cl : List vw_C) (b n : Nat) (E : Nat → va_E) (H : Heap) : Prop := (∀ k : Nat, k < n → va_at D cl (b + k, E k) H) ∧ H.size = b + n
def cset (E : Nat → va_E) (k : Nat) (e : va_E) : Nat → va_E := fun j => if j = k then e else E j
def cA (b : Nat) : Nat → Prop := fun q => b ≤ q
section CB
variable {p : Program} {l : Launch} {e : Env} {R : Room} {s : State} {m : MethodId} {args : Array Value} {below : List Frame} {meth : Method} {c : Code} {H H0 : Heap} {locs : List Loc} {cells slots : Nat} {Q : State → Prop}
variable {cc : ByteArray} {pc : Nat} {ls : Array Slot} {rest : List Value} {D : va_G} {cl : List vw_C} {tys : List (ClassId × FieldType)} {b n : Nat} {E : Nat → va_E}
theorem cW.more {H1 : Heap} {x : va_E} (h : cW D cl b n E H) (hn : va_at D cl (b + n, x) H1) (z : H1.size = b + n + 1) (o : ∀ q, q < b + n → H1[q]? = H[q]?) : cW D cl b (n + 1) (cset E n x) H1 := by
  refine ⟨fun k hk => ?_, by rw [z]; rfl⟩
  by_cases e : k = n
  · subst e
    show va_at D cl (b + k, if k = k then x else E k) H1
    rw [if_pos rfl]
    exact hn
  · show va_at D cl (b + k, if k = n then x else E k) H1
    rw [if_neg e]
    exact (h.1 k (by omega)).kept (o _ (by omega))
theorem cW.one {H1 : Heap} {x : va_E} {k : Nat} (h : cW D cl b n E H) (hn : va_at D cl (b + k, x) H1) (z : H1.size = H.size) (o : ∀ q, q ≠ b + k → H1[q]? = H[q]?) : cW D cl b n (cset E k x) H1 := by
  refine ⟨fun j hj => ?_, by rw [z]; exact h.2⟩
  by_cases e : j = k
  · subst e
    show va_at D cl (b + j, if j = j then x else E j) H1
    rw [if_pos rfl]
    exact hn
  · show va_at D cl (b + j, if j = k then x else E j) H1
    rw [if_neg e]
    exact (h.1 j hj).kept (o _ (by omega))
theorem c_new (hx : p.tables.exec = Jvm.exec) (hb : c.code = cc) (hts : ∀ w ∈ lw_all, w.before args s = true) {own CC : String} {TT : u_T} {N ci : Nat} (hin : ∀ w ∈ u_ws CC TT N, w ∈ lw_all) (ty0 : Nat → FieldType) (hty0 : ∀ k, k < N → parseFieldDescriptor (TT k).2.2.1 = some (ty0 k)) (hown : s.vm.findClass own = some m.cls) {index NS : Nat} (hcl : (Cond.classLink own index CC) ∈ lw_all) (hinst : (Cond.instantiable CC NS) ∈ lw_all) (hini : (Cond.initialized CC) ∈ lw_all) (hK : va_K D cl tys s) (hP : cW D cl b n E H) (hS : va_S (cA b) H0 H locs) (hc : cl[ci]? = some (CC, TT, N)) {fs : List Value} (hfs : ∀ j, j < N → defaultValue (ty0 j) = vp_V fs j) (hcells : cells + 1 ≤ R.cells) (hslots : slots + NS ≤ R.slots) (hdg : decode cc pc = .ok (.new index, 3))
    (kk : ∀ (H1 : Heap), cW D cl b (n + 1) (cset E n (.inr (ci, fs))) H1 → va_S (cA b) H0 H1 locs → W p l e R s m args below meth c H1 locs (cells + 1) (slots + NS) Q (F0 m (pc + 3) ls (.ref (b + n) :: rest))) : W p l e R s m args below meth c H locs cells slots Q (F0 m pc ls rest) := by
  have hKn := hK.1 ci _ hc
  refine W.newcK hx hb hown (hts _ hcl) (hts _ hinst) (hts _ hini) rfl hdg hcells hslots hKn.2.1 hP.2 fun H1 kC hkC e1 z1 o1 => ?_
  refine kk H1 (hP.more ?_ z1 o1) (va_S.wide hS (by rw [z1, hP.2]) (fun q hq => o1 q (by rw [← hP.2]; exact hq)))
  exact ⟨_, hc, (u_born ty0 hts hin hKn hkC e1 hty0).to hfs⟩
theorem c_newai (hx : p.tables.exec = Jvm.exec) (hb : c.code = cc) (hts : ∀ w ∈ lw_all, w.before args s = true) (harr : (Cond.arrayClass .int) ∈ lw_all) {cI : ClassId} (hcI : s.vm.findClass "[I" = some cI) (hP : cW D cl b n E H) (hS : va_S (cA b) H0 H locs) {v : Int32} {N : Nat} (hn : v = nI N) (hN : N < 2 ^ 27) (hcells : cells + 1 ≤ R.cells) (hslots : slots + N ≤ R.slots) (hdg : decode cc pc = .ok (.newarray .int, 2))
    (kk : ∀ (H1 : Heap), cW D cl b (n + 1) (cset E n (.inl (cI, N, .inl (fun _ => 0)))) H1 → va_S (cA b) H0 H1 locs → W p l e R s m args below meth c H1 locs (cells + 1) (slots + N) Q (F0 m (pc + 2) ls (.ref (b + n) :: rest))) : W p l e R s m args below meth c H locs cells slots Q (F0 m pc ls (.int v :: rest)) := by
  have h0 : ¬ v < 0 := by rw [hn]; exact nI_pos (by omega)
  have h1 : v.toNatClampNeg = N := by rw [hn]; exact nI_clamp (by omega)
  refine va_newaK (atype := .int) hx hb (hts _ harr) rfl hdg rfl h0 h1 (by show N * _ ≤ _; simp only [componentBytes, newarray.typeOf]; omega) hcells hslots hP.2 fun H1 cA e1 z1 o1 hAr hNm => ?_
  refine kk H1 (hP.more ?_ z1 o1) (va_S.wide hS (by rw [z1, hP.2]) (fun q hq => o1 q (by rw [← hP.2]; exact hq)))
  have hcA : cA = cI := Option.some.inj (hNm.symm.trans hcI)
  show H1[b + n]? = some (vp_cell _ _)
  rw [e1, vp_cell_i, hcA]
  rfl
theorem c_newab (hx : p.tables.exec = Jvm.exec) (hb : c.code = cc) (hts : ∀ w ∈ lw_all, w.before args s = true) (harr : (Cond.arrayClass .byte) ∈ lw_all) {cI : ClassId} (hcI : s.vm.findClass "[B" = some cI) (hP : cW D cl b n E H) (hS : va_S (cA b) H0 H locs) {v : Int32} {N : Nat} (hn : v = nI N) (hN : N < 2 ^ 27) (hcells : cells + 1 ≤ R.cells) (hslots : slots + N ≤ R.slots) (hdg : decode cc pc = .ok (.newarray .byte, 2))
    (kk : ∀ (H1 : Heap), cW D cl b (n + 1) (cset E n (.inl (cI, N, .inl (fun _ => 0)))) H1 → va_S (cA b) H0 H1 locs → W p l e R s m args below meth c H1 locs (cells + 1) (slots + N) Q (F0 m (pc + 2) ls (.ref (b + n) :: rest))) : W p l e R s m args below meth c H locs cells slots Q (F0 m pc ls (.int v :: rest)) := by
  have h0 : ¬ v < 0 := by rw [hn]; exact nI_pos (by omega)
  have h1 : v.toNatClampNeg = N := by rw [hn]; exact nI_clamp (by omega)
  refine va_newaK (atype := .byte) hx hb (hts _ harr) rfl hdg rfl h0 h1 (by show N * _ ≤ _; simp only [componentBytes, newarray.typeOf]; omega) hcells hslots hP.2 fun H1 cA e1 z1 o1 hAr hNm => ?_
  refine kk H1 (hP.more ?_ z1 o1) (va_S.wide hS (by rw [z1, hP.2]) (fun q hq => o1 q (by rw [← hP.2]; exact hq)))
  have hcA : cA = cI := Option.some.inj (hNm.symm.trans hcI)
  show H1[b + n]? = some (vp_cell _ _)
  rw [e1, vp_cell_i, hcA]
  rfl
theorem c_newac (hx : p.tables.exec = Jvm.exec) (hb : c.code = cc) (hts : ∀ w ∈ lw_all, w.before args s = true) (harr : (Cond.arrayClass .char) ∈ lw_all) {cI : ClassId} (hcI : s.vm.findClass "[C" = some cI) (hP : cW D cl b n E H) (hS : va_S (cA b) H0 H locs) {v : Int32} {N : Nat} (hn : v = nI N) (hN : N < 2 ^ 27) (hcells : cells + 1 ≤ R.cells) (hslots : slots + N ≤ R.slots) (hdg : decode cc pc = .ok (.newarray .char, 2))
    (kk : ∀ (H1 : Heap), cW D cl b (n + 1) (cset E n (.inl (cI, N, .inl (fun _ => 0)))) H1 → va_S (cA b) H0 H1 locs → W p l e R s m args below meth c H1 locs (cells + 1) (slots + N) Q (F0 m (pc + 2) ls (.ref (b + n) :: rest))) : W p l e R s m args below meth c H locs cells slots Q (F0 m pc ls (.int v :: rest)) := by
  have h0 : ¬ v < 0 := by rw [hn]; exact nI_pos (by omega)
  have h1 : v.toNatClampNeg = N := by rw [hn]; exact nI_clamp (by omega)
  refine va_newaK (atype := .char) hx hb (hts _ harr) rfl hdg rfl h0 h1 (by show N * _ ≤ _; simp only [componentBytes, newarray.typeOf]; omega) hcells hslots hP.2 fun H1 cA e1 z1 o1 hAr hNm => ?_
  refine kk H1 (hP.more ?_ z1 o1) (va_S.wide hS (by rw [z1, hP.2]) (fun q hq => o1 q (by rw [← hP.2]; exact hq)))
  have hcA : cA = cI := Option.some.inj (hNm.symm.trans hcI)
  show H1[b + n]? = some (vp_cell _ _)
  rw [e1, vp_cell_i, hcA]
  rfl
theorem c_put (hx : p.tables.exec = Jvm.exec) (hb : c.code = cc) (hts : ∀ w ∈ lw_all, w.before args s = true) {own CC : String} {TT : u_T} {N ci : Nat} (hin : ∀ w ∈ u_ws CC TT N, w ∈ lw_all) (ty0 : Nat → FieldType) (hty0 : ∀ k, k < N → parseFieldDescriptor (TT k).2.2.1 = some (ty0 k)) (hnm : ∀ a, a < N → ∀ b, b < N → a ≠ b → (TT a).2.1 ≠ (TT b).2.1) (hown : s.vm.findClass own = some m.cls) (hK : va_K D cl tys s) (hP : cW D cl b n E H) (hS0 : va_S (cA b) H0 H locs) {k : Nat} (hk : k < n) (hc : cl[ci]? = some (CC, TT, N)) {fs : List Value} (hE : E k = .inr (ci, fs)) (hlen : fs.length = N) (j : Nat) (hj : j < N) {index : Nat} {ref : String} (hlink : (Cond.fieldLink own index ref (TT j).2.1 (TT j).2.2.1) ∈ lw_all) (hsame : (TT j).1 = ref) (hfin : (TT j).2.2.2 = false ∨ ((TT j).2.2.2 = true ∧ meth.name = "<init>" ∧ (TT j).1 = own)) {ty : FieldType} {v : Value} (hd : ty0 j = ty) (hn : narrow ty v = v) (hfit : fits ty v = true) (hdg : decode cc pc = .ok (.putfield index, 3))
    (kk : ∀ (H1 : Heap) (locs1 : List Loc), cW D cl b n (cset E k (.inr (ci, fs.set j v))) H1 → va_S (cA b) H0 H1 locs1 → W p l e R s m args below meth c H1 locs1 cells slots Q (F0 m (pc + 3) ls rest)) : W p l e R s m args below meth c H locs cells slots Q (F0 m pc ls (v :: .ref (b + k) :: rest)) := by
  have hap := va_apart (own := own) (C := CC) (T := TT) (N := N) (ci := ci) hts hin ty0 hty0 hnm hK hc
  have h00 := hP.1 k hk
  rw [hE] at h00
  obtain ⟨r, h1, cell, q1, q2, q3, q4⟩ := h00
  have hr0 : r = (CC, TT, N) := Option.some.inj (h1.symm.trans hc)
  subst hr0
  obtain ⟨hS, hfc, kC, hkC, hkind⟩ := hK.1 ci _ hc
  obtain ⟨cf, kf, fi, f, hif, hsl⟩ := hS j hj
  have hlay := hts _ (hin _ (u_in_lay hj))
  have hst := (u_facts hfc hkC (u_lays hts hin hj) hif).1
  have hi' := hif
  rw [hsame] at hi'
  have fin : ∀ H' : Heap, H'[b + k]? = some (cell.setSlot f.slot v) → H'.size = H.size → (∀ q, q ≠ b + k → H'[q]? = H[q]?) → W p l e R s m args below meth c H' (locs ++ [⟨b + k, f.slot⟩]) cells slots Q (F0 m (pc + 3) ls rest) := by
    intro H' e1 e2 e3
    rw [hsl] at e1 ⊢
    refine kk H' _ (hP.one ?_ e2 e3) (hS0.put e2 e3 (Nat.le_add_right _ _))
    exact ⟨_, hc, t_OB.to (V := updV (vp_V fs) j v) ⟨_, e1, q2, q3, t_set q4 hap hj v⟩ (fun j' _ => vp_updV_set (by rw [hlen]; exact hj) v j')⟩
  rcases hfin with hf | ⟨hf, hin2, hdecl⟩
  · unfold u_lay at hlay
    rw [if_neg (by rw [hf]; decide)] at hlay
    have h6 := u_store hfc hkC hkind hlay hif (by rw [hty0 j hj, hd]) hn hfit
    exact W.putK hx hb (f := f) ⟨hown, hts _ hlink, ⟨_, _, _, hi'⟩, hst⟩ (by rw [q2]; exact h6) q1 q3 (by rw [hsl]; exact k2_hasslot (q4 j hj)) rfl rfl hdg fin
  · unfold u_lay at hlay
    rw [if_pos hf] at hlay
    have hcf : m.cls = cf := by
      obtain ⟨_, _, c', _, _, _, -, -, hf', -, -, -, hown2, -⟩ := Cond.laysFinal_spec hlay
      have e1 : c' = cf := by have := hif.symm.trans hf'; simp at this; exact this.1.symm
      rw [hdecl] at hown2
      rw [← e1]; exact Option.some.inj (hown.symm.trans hown2)
    have h6 := u_fits hfc hkC hkind (Or.inr hlay) hif (by rw [hty0 j hj, hd]) hn hfit
    exact W.putFinK hx hb hown (hts _ hlink) hi' hst hcf hin2 (by rw [q2]; exact h6) q1 q3 (by rw [hsl]; exact k2_hasslot (q4 j hj)) rfl rfl hdg fin
end CB
