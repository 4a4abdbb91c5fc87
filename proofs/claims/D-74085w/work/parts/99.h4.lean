set_option maxRecDepth 100000
/-! constructors: getfield, anewarray, aastore -/
section CD
variable {p : Program} {l : Launch} {e : Env} {R : Room} {s : State} {m : MethodId} {args : Array Value} {below : List Frame} {meth : Method} {c : Code} {H H0 : Heap} {locs : List Loc} {cells slots : Nat} {Q : State → Prop}
variable {cc : ByteArray} {pc : Nat} {ls : Array Slot} {rest : List Value} {D : va_G} {cl : List vw_C} {tys : List (ClassId × FieldType)} {b n : Nat} {E : Nat → va_E}
theorem cW.P1 (h : cW D cl b n E H) {k : Nat} (hk : k < n) {x : va_E} (hE : E k = x) : va_P D cl [(b + k, x)] H := fun i q hq => by
  have hi : i = 0 := by
    have := (List.getElem?_eq_some_iff.mp hq).1
    simp at this
    exact this
  subst hi
  cases hq
  rw [← hE]
  exact h.1 k hk
theorem c_get (hx : p.tables.exec = Jvm.exec) (hb : c.code = cc) (hts : ∀ w ∈ lw_all, w.before args s = true) {own CC : String} {TT : u_T} {N ci : Nat} (hin : ∀ w ∈ u_ws CC TT N, w ∈ lw_all) (hown : s.vm.findClass own = some m.cls) (hK : va_K D cl tys s) (hP : cW D cl b n E H) {k : Nat} (hk : k < n) (hc : cl[ci]? = some (CC, TT, N)) {fs : List Value} (hE : E k = .inr (ci, fs)) (j : Nat) (hj : j < N) {index : Nat} (hlink : (Cond.fieldLink own index CC (TT j).2.1 (TT j).2.2.1) ∈ lw_all) (hsame : (TT j).1 = CC) {v : Value} (hv : fs[j]? = some v) (hdg : decode cc pc = .ok (.getfield index, 3))
    (kk : W p l e R s m args below meth c H locs cells slots Q (F0 m (pc + 3) ls (v :: rest))) : W p l e R s m args below meth c H locs cells slots Q (F0 m pc ls (.ref (b + k) :: rest)) :=
  va_get (D := D) (ci := ci) (v := v) (C := CC) (T := TT) (N := N) hx hb hts hin hown hK (hP.P1 hk hE) 0 rfl hc j hj (hts _ hlink) (fun x h9 => by rw [hsame] at h9; exact h9) hv hdg kk
theorem c_newq (hx : p.tables.exec = Jvm.exec) (hb : c.code = cc) {own C : String} {index : Nat} (hown : s.vm.findClass own = some m.cls) (hclink : (Cond.classLink own index C).before args s = true) (hover : va_AO C s) {ti : Nat} {cX : ClassId} (hK : va_K D cl tys s) (hti : tys[ti]? = some (cX, .object C)) (hP : cW D cl b n E H) (hS : va_S (cA b) H0 H locs) {v : Int32} {N : Nat} (hv : v = nI N) (hN : N < 2 ^ 27) (hcells : cells + 1 ≤ R.cells) (hslots : slots + N ≤ R.slots) (hdg : decode cc pc = .ok (.anewarray index, 3))
    (kk : ∀ (H1 : Heap), cW D cl b (n + 1) (cset E n (.inl (cX, N, .inr (.inr (.inr (.inr (fun _ => none))))))) H1 → va_S (cA b) H0 H1 locs → W p l e R s m args below meth c H1 locs (cells + 1) (slots + N) Q (F0 m (pc + 3) ls (.ref (b + n) :: rest))) : W p l e R s m args below meth c H locs cells slots Q (F0 m pc ls (.int v :: rest)) := by
  have h0 : ¬ v < 0 := by rw [hv]; exact nI_pos (by omega)
  have h1 : v.toNatClampNeg = N := by rw [hv]; exact nI_clamp (by omega)
  subst h1
  refine W.anew hx hb hown hclink (va_AO.use hover) rfl hdg rfl h0 (by omega) hcells hslots fun cY kA comp f1 f2 f3 f4 => ?_
  obtain ⟨-, kA', comp', g1, g2, g3, g4⟩ := hK.2 ti _ hti
  have hcY : cY = cX := Option.some.inj (f1.symm.trans g4)
  subst hcY
  generalize hH1 : H.push ({ cls := cY, slots := Array.replicate v.toNatClampNeg .null, vm := .none } : Cell) = H1
  have z1 : H1.size = H.size + 1 := by rw [← hH1, Array.size_push]
  have e1 : H1[H.size]? = some (arrV cY v.toNatClampNeg (fun _ => .null)) := by rw [← hH1, Array.getElem?_push_size, ← arrV_new]
  have o1 : ∀ q : Nat, q < H.size → H1[q]? = H[q]? := fun q hq => by rw [← hH1, Array.getElem?_push, if_neg (Nat.ne_of_lt hq)]
  rw [hP.2] at z1 e1 o1
  have := kk H1 (hP.more ?_ z1 o1) (va_S.wide hS (by rw [z1, hP.2]) (fun q hq => o1 q (by rw [← hP.2]; exact hq)))
  · rw [hP.2]; exact this
  · show H1[b + n]? = some (vp_cell _ _)
    rw [e1, vp_cell_q]
    rfl
end CD
