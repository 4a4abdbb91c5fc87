set_option maxRecDepth 100000
/-- an order's cell: what it has captured -/
def xlm (T : XT) (a : Nat) (z0 z1 z2 : Int32) : XT := xwi (xwi (xwi (xnil T a) a 0 z0) a 1 z1) a 2 z2
theorem xlm_i {T : XT} {a q : Nat} {z0 z1 z2 : Int32} (hq : q ≠ a) : xi (xlm T a z0 z1 z2) q = xi T q := by
  unfold xlm
  rw [xwi_i hq, xwi_i hq, xwi_i hq]
  exact if_neg hq
theorem xlm_r {T : XT} {a q : Nat} {z0 z1 z2 : Int32} (hq : q ≠ a) : xr (xlm T a z0 z1 z2) q = xr T q := if_neg hq
theorem xlm_ra {T : XT} {a : Nat} {z0 z1 z2 : Int32} (j : Nat) : xr (xlm T a z0 z1 z2) a j = none := by
  show (va_up (xr T) a (fun _ => none)) a j = none
  rw [va_up_self]
theorem xlm_0 {T : XT} {a : Nat} {z0 z1 z2 : Int32} : xi (xlm T a z0 z1 z2) a 0 = z0 ∧ xi (xlm T a z0 z1 z2) a 1 = z1 ∧ xi (xlm T a z0 z1 z2) a 2 = z2 := by
  simp [xlm, xwi, xi, xnil, va_up, upd]
section XK5
variable {p : Program} {l : Launch} {e : Env} {R : Room} {s : State} {m : MethodId} {args : Array Value} {below : List Frame} {meth : Method} {c : Code} {H H0 : Heap} {locs : List Loc} {cells slots : Nat} {Q : State → Prop}
variable {cc : ByteArray} {pc : Nat} {ls : Array Slot} {rest : List Value} {G : XG} {b : Nat} {hole : Nat → Prop} {K : XK} {T : XT}
/-- an order is made -/
theorem x_indy (hx : p.tables.exec = Jvm.exec) (hb : c.code = cc) (hml : c.maxLocals = ls.size) (hnm : s.methodNamed? orderN = some m) (hV : xV G b s H0) (hP : xW G b hole K T H) (hS : va_S (xA b hole) H0 H locs) {k : Nat} (hk : k < 3) (hpc : pc = lpc k) {z0 z1 z2 : Int32}
    (hlocals : (rest.map fun v => v.category).sum + 3 + 3072 ≤ R.locals) (hcells : cells + 1 ≤ R.cells) (hslots : slots + 3 ≤ R.slots) (hdg : decode cc pc = .ok (.invokedynamic (lix k), 5))
    (kk : ∀ (H1 : Heap), xW G b hole (knew K 16 k 3) (xlm T (kz K) z0 z1 z2) H1 → va_S (xA b hole) H0 H1 locs → W p l e R s m args below meth c H1 locs (cells + 1) (slots + 3) Q (F0 m (pc + 5) ls (.ref (b + kz K) :: rest))) : W p l e R s m args below meth c H locs cells slots Q (F0 m pc ls (.int z2 :: .int z1 :: .int z0 :: rest)) := by
  intro U hU X
  obtain ⟨hLk, hLo, -, -⟩ := hV.2.2.1
  have hLks := hLk k hk
  obtain ⟨kC, tkC, fileC, methC, ckC, tdC, tC, f0, f1, f2, ci, nt9, w1, w2, w3, w4, w5, w6, w7, w8, w9, w10, w11, w12, w13, w14, w15, w16, w17, w18, w19, w20, w21, w22, w23, w24, w25, w26, w27, w28⟩ := lfacts_of hk hLks hLo
  obtain ⟨m9, dk, cf, i0, p0, bsm, nt, l1, l2, l3, l4, l5, l6, l7, l8, l9⟩ := hLks
  cases hnm.symm.trans l1
  have hzip : ((kC.instanceTypes.toList.zip [Value.int z0, Value.int z1, Value.int z2]).map fun (t, v) => narrow t v) = [Value.int z0, Value.int z1, Value.int z2] := by rw [w27]; rfl
  have hsig : parseLongMethodDescriptor "(III)LTermDesk$Order;" = some ⟨[.int, .int, .int], some (.object "TermDesk$Order")⟩ := by decide +kernel
  have hmk := X.lambdaMakes hx (g := F0 m pc ls (.int z2 :: .int z1 :: .int z0 :: rest)) rfl (by rw [hml]) (by rw [hb]; exact hdg) l2 (by rw [← hpc] at l7; exact l7) l4 l8 l9 hsig (vals := [.int z0, .int z1, .int z2]) rfl (rest := rest) rfl w1
    (by rw [X.admits.platform]; show 2 * 0 + (1 + (1 + (1 + (rest.map fun v => v.category).sum))) + 3072 ≤ R.locals; omega) hcells (by rw [hzip]; exact hslots)
    (fun i v hv => by
      rw [hzip] at hv
      have hi : i < 3 := (Array.getElem?_eq_some_iff.mp hv).1
      rcases (show i = 0 ∨ i = 1 ∨ i = 2 by omega) with rfl | rfl | rfl <;>
        (cases hv; simp [State.fitsSlot, State.slotType?, w1, w28, w27, fits]))
  rw [hzip] at hmk
  obtain ⟨X', st⟩ := hmk
  generalize hH1 : H.push ({ cls := G.2.2.1 k, slots := #[.int z0, .int z1, .int z2], vm := .none } : Cell) = H1
  have z1' : H1.size = H.size + 1 := by rw [← hH1, Array.size_push]
  have e1 : H1[H.size]? = some ({ cls := G.2.2.1 k, slots := #[.int z0, .int z1, .int z2], vm := .none } : Cell) := by rw [← hH1, Array.getElem?_push_size]
  have o1 : ∀ q : Nat, q < H.size → H1[q]? = H[q]? := fun q hq => by rw [← hH1, Array.getElem?_push, if_neg (Nat.ne_of_lt hq)]
  have hW2 : xW G b hole (knew K 16 k 3) (xlm T (kz K) z0 z1 z2) H1 := by
    refine hP.moreG (by decide) (by omega) (fun q hq => xlm_i hq) (fun q hq => xlm_r hq) (fun j p hp => by rw [xlm_ra] at hp; cases hp) (fun _ h => absurd rfl h) (fun _ => ?_) z1' o1
    rw [← hP.2.2.2, e1]
    obtain ⟨a0, a1, a2⟩ := xlm_0 (T := T) (a := kz K) (z0 := z0) (z1 := z1) (z2 := z2)
    show _ = some ({ cls := G.2.2.1 (kl (knew K 16 k 3) (kz K)), slots := #[.int (xi (xlm T (kz K) z0 z1 z2) (kz K) 0), .int (xi (xlm T (kz K) z0 z1 z2) (kz K) 1), .int (xi (xlm T (kz K) z0 z1 z2) (kz K) 2)], vm := .none } : Cell)
    rw [knew_kl, a0, a1, a2]
  obtain ⟨t, b1, b2⟩ := kk H1 hW2 (va_S.wide hS z1' o1) _ (by rw [← hH1, ← hU]; rfl) X'
  refine ⟨t, st t ?_, b2⟩
  rw [hU, hP.2.2.2]
  exact b1
end XK5
