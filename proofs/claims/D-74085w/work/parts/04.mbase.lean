set_option maxRecDepth 100000
/-- loops: an invariant with a number that falls -/
def wLoop {V : Type} (body : (V → Prop) → V → Prop) (v : V) : Prop := ∃ (I : Nat → V → Prop) (n : Nat), I n v ∧ ∀ (n : Nat) (v : V), I n v → body (fun v' => ∃ m, m < n ∧ I m v') v
abbrev St : Type := Nat → Nat → Int32
/-- a bank's place gets a value -/
def bw (S : St) (k i : Nat) (v : Int32) : St := va_up S k (upd (S k) i v)
def mkL (hi lo : Int32) : Int64 := Int64.ofBitVec (hi.toBitVec ++ lo.toBitVec)
def hiL (x : Int64) : Int32 := Int32.ofBitVec (x.toBitVec.extractLsb' 32 32)
def loL (x : Int64) : Int32 := Int32.ofBitVec (x.toBitVec.extractLsb' 0 32)
theorem mkL_hl (x : Int64) : mkL (hiL x) (loL x) = x := by
  have h : (hiL x).toBitVec ++ (loL x).toBitVec = x.toBitVec := by
    apply BitVec.eq_of_getLsbD_eq
    intro i hi
    rw [BitVec.getLsbD_append]
    by_cases h : i < 32
    · simp [loL, h]
    · have h3 : i - 32 < 32 := by omega
      simp [hiL, h, h3]
      rw [show 32 + (i - 32) = i by omega]
  show Int64.ofBitVec _ = x
  rw [h]
  rfl
def mlen : Nat → Nat := fun k => match k with
  | 1 => 32768
  | 2 => 24576
  | 3 => 700
  | 4 => 4096
  | 5 => 61
  | 6 => 4096
  | 7 => 4096
  | 8 => 4096
  | 9 => 32768
  | 10 => 8
  | 11 => 8
  | 12 => 8
  | 13 => 32768
  | 14 => 8
  | 15 => 8
  | 16 => 8
  | 17 => 8
  | 18 => 36864
  | 19 => 36864
  | 20 => 2304
  | 21 => 2304
  | 22 => 2304
  | 23 => 2304
  | 24 => 2304
  | _ => 0
def mfs (b : Nat) (S : St) : List Value := [.int (S 0 0), .int (S 0 1), .int (S 0 2), .ref (b + 1), .ref (b + 2), .int (S 0 5), .int (S 0 6), .int (S 0 7), .int (S 0 8), .int (S 0 9), .int (S 0 10), .int (S 0 11), .int (S 0 12), .int (S 0 13), .int (S 0 14), .ref (b + 3), .int (S 0 16), .int (S 0 17), .int (S 0 18), .int (S 0 19), .int (S 0 20), .int (S 0 21), .int (S 0 22), .long (mkL (S 0 23) (S 0 53)), .ref (b + 4), .int (S 0 25), .ref (b + 5), .int (S 0 27), .ref (b + 6), .int (S 0 29), .ref (b + 7), .ref (b + 8), .ref (b + 9), .ref (b + 10), .ref (b + 11), .ref (b + 12), .int (S 0 36), .int (S 0 37), .int (S 0 38), .int (S 0 39), .ref (b + 13), .ref (b + 14), .ref (b + 15), .ref (b + 16), .ref (b + 17), .int (S 0 45), .ref (b + 18), .ref (b + 19), .ref (b + 20), .ref (b + 21), .ref (b + 22), .ref (b + 23), .ref (b + 24)]
def mE (cI cB : ClassId) (b : Nat) (S : St) (k : Nat) : va_E := if k = 0 then .inr (0, mfs b S) else .inl (if k = 3 then cB else cI, mlen k, .inl (S k))
abbrev mcl : List vw_C := [(RX7, TX7, 53)]
def mW (D : va_G) (cI cB : ClassId) (b : Nat) (S : St) (H : Heap) : Prop := ∀ k : Nat, k < 25 → va_at D mcl (b + k, mE cI cB b S k) H
def mA (b : Nat) : Nat → Prop := fun q => b ≤ q ∧ q < b + 25
def mok (k : Nat) : Prop := 1 ≤ k ∧ k < 25 ∧ k ≠ 3
abbrev mKt (cI cB : ClassId) : List (ClassId × FieldType) := [(cI, .int), (cB, .byte)]
abbrev mB (D : va_G) (cI cB : ClassId) (b : Nat) (S : St) (t : State) : Prop := mW D cI cB b S t.heap ∧ va_K D mcl (mKt cI cB) t
abbrev mPc (D : va_G) (cI cB : ClassId) (b : Nat) (av : List Value) (S : St) : Array Value → State → Prop := va_Pc av (fun U => mB D cI cB b S U)
abbrev mQi (D : va_G) (cI cB : ClassId) (b : Nat) (post : Int32 → St → Prop) : Array Value → State → Outcome → State → Prop := va_Qi post (mB D cI cB b) (mA b)
abbrev mQv (D : va_G) (cI cB : ClassId) (b : Nat) (post : St → Prop) : Array Value → State → Outcome → State → Prop := va_Qv post (mB D cI cB b) (mA b)
theorem mset_0 (b : Nat) (S : St) (x : Int32) : mfs b (bw S 0 0 x) = (mfs b S).set 0 (.int x) := rfl
theorem mset_1 (b : Nat) (S : St) (x : Int32) : mfs b (bw S 0 1 x) = (mfs b S).set 1 (.int x) := rfl
theorem mset_2 (b : Nat) (S : St) (x : Int32) : mfs b (bw S 0 2 x) = (mfs b S).set 2 (.int x) := rfl
theorem mset_5 (b : Nat) (S : St) (x : Int32) : mfs b (bw S 0 5 x) = (mfs b S).set 5 (.int x) := rfl
theorem mset_6 (b : Nat) (S : St) (x : Int32) : mfs b (bw S 0 6 x) = (mfs b S).set 6 (.int x) := rfl
theorem mset_7 (b : Nat) (S : St) (x : Int32) : mfs b (bw S 0 7 x) = (mfs b S).set 7 (.int x) := rfl
theorem mset_8 (b : Nat) (S : St) (x : Int32) : mfs b (bw S 0 8 x) = (mfs b S).set 8 (.int x) := rfl
theorem mset_9 (b : Nat) (S : St) (x : Int32) : mfs b (bw S 0 9 x) = (mfs b S).set 9 (.int x) := rfl
theorem mset_10 (b : Nat) (S : St) (x : Int32) : mfs b (bw S 0 10 x) = (mfs b S).set 10 (.int x) := rfl
theorem mset_11 (b : Nat) (S : St) (x : Int32) : mfs b (bw S 0 11 x) = (mfs b S).set 11 (.int x) := rfl
theorem mset_12 (b : Nat) (S : St) (x : Int32) : mfs b (bw S 0 12 x) = (mfs b S).set 12 (.int x) := rfl
theorem mset_13 (b : Nat) (S : St) (x : Int32) : mfs b (bw S 0 13 x) = (mfs b S).set 13 (.int x) := rfl
theorem mset_14 (b : Nat) (S : St) (x : Int32) : mfs b (bw S 0 14 x) = (mfs b S).set 14 (.int x) := rfl
theorem mset_16 (b : Nat) (S : St) (x : Int32) : mfs b (bw S 0 16 x) = (mfs b S).set 16 (.int x) := rfl
theorem mset_17 (b : Nat) (S : St) (x : Int32) : mfs b (bw S 0 17 x) = (mfs b S).set 17 (.int x) := rfl
theorem mset_18 (b : Nat) (S : St) (x : Int32) : mfs b (bw S 0 18 x) = (mfs b S).set 18 (.int x) := rfl
theorem mset_19 (b : Nat) (S : St) (x : Int32) : mfs b (bw S 0 19 x) = (mfs b S).set 19 (.int x) := rfl
theorem mset_20 (b : Nat) (S : St) (x : Int32) : mfs b (bw S 0 20 x) = (mfs b S).set 20 (.int x) := rfl
theorem mset_21 (b : Nat) (S : St) (x : Int32) : mfs b (bw S 0 21 x) = (mfs b S).set 21 (.int x) := rfl
theorem mset_22 (b : Nat) (S : St) (x : Int32) : mfs b (bw S 0 22 x) = (mfs b S).set 22 (.int x) := rfl
theorem mset_23 (b : Nat) (S : St) (x : Int64) : mfs b (bw (bw S 0 23 (hiL x)) 0 53 (loL x)) = (mfs b S).set 23 (.long x) := (congrArg (fun z => (mfs b S).set 23 (.long z)) (mkL_hl x))
theorem mset_25 (b : Nat) (S : St) (x : Int32) : mfs b (bw S 0 25 x) = (mfs b S).set 25 (.int x) := rfl
theorem mset_27 (b : Nat) (S : St) (x : Int32) : mfs b (bw S 0 27 x) = (mfs b S).set 27 (.int x) := rfl
theorem mset_29 (b : Nat) (S : St) (x : Int32) : mfs b (bw S 0 29 x) = (mfs b S).set 29 (.int x) := rfl
theorem mset_36 (b : Nat) (S : St) (x : Int32) : mfs b (bw S 0 36 x) = (mfs b S).set 36 (.int x) := rfl
theorem mset_37 (b : Nat) (S : St) (x : Int32) : mfs b (bw S 0 37 x) = (mfs b S).set 37 (.int x) := rfl
theorem mset_38 (b : Nat) (S : St) (x : Int32) : mfs b (bw S 0 38 x) = (mfs b S).set 38 (.int x) := rfl
theorem mset_39 (b : Nat) (S : St) (x : Int32) : mfs b (bw S 0 39 x) = (mfs b S).set 39 (.int x) := rfl
theorem mset_45 (b : Nat) (S : St) (x : Int32) : mfs b (bw S 0 45 x) = (mfs b S).set 45 (.int x) := rfl
theorem mfs_len (b : Nat) (S : St) : (mfs b S).length = 53 := rfl
theorem mfs_bw {b : Nat} {S : St} {k i : Nat} {x : Int32} (hk : 1 ≤ k) : mfs b (bw S k i x) = mfs b S := by
  have h : bw S k i x 0 = S 0 := by
    show (if 0 = k then _ else _) = _
    rw [if_neg (by omega)]
  unfold mfs
  rw [h]
theorem mE_ne {cI cB : ClassId} {b : Nat} {S : St} {k j i : Nat} {x : Int32} (hk : 1 ≤ k) (hj : j ≠ k) : mE cI cB b (bw S k i x) j = mE cI cB b S j := by
  unfold mE
  rw [mfs_bw hk]
  have h : bw S k i x j = S j := by
    show (if j = k then _ else _) = _
    rw [if_neg hj]
  rw [h]
theorem mE_0 {cI cB : ClassId} {b : Nat} {S : St} : mE cI cB b S 0 = .inr (0, mfs b S) := rfl
theorem mE_i {cI cB : ClassId} {b : Nat} {S : St} {k : Nat} (hk : mok k) : mE cI cB b S k = .inl (cI, mlen k, .inl (S k)) := by
  unfold mE
  rw [if_neg (by have := hk.1; omega), if_neg hk.2.2]
theorem mE_up {cI cB : ClassId} {b : Nat} {S S' : St} {j : Nat} (hj : j ≠ 0) (h : S' j = S j) : mE cI cB b S' j = mE cI cB b S j := by
  unfold mE
  rw [if_neg hj, if_neg hj, h]
theorem mW.P0 {D : va_G} {cI cB : ClassId} {b : Nat} {S : St} {H : Heap} (h : mW D cI cB b S H) : va_P D mcl [(b, .inr (0, mfs b S))] H := by
  intro k q hq
  have h0 := h 0 (by decide)
  match k, hq with
  | 0, hq => cases hq; exact h0
theorem mW.Pk {D : va_G} {cI cB : ClassId} {b k : Nat} {S : St} {H : Heap} (h : mW D cI cB b S H) (hk : mok k) : va_P D mcl [(b + k, .inl (cI, mlen k, .inl (S k)))] H := by
  intro j q hq
  have h0 := h k hk.2.1
  rw [mE_i hk] at h0
  match j, hq with
  | 0, hq => cases hq; exact h0
theorem mW.P3 {D : va_G} {cI cB : ClassId} {b : Nat} {S : St} {H : Heap} (h : mW D cI cB b S H) : va_P D mcl [(b + 3, .inl (cB, 700, .inl (S 3)))] H := by
  intro j q hq
  have h0 := h 3 (by decide)
  match j, hq with
  | 0, hq => cases hq; exact h0
theorem mlen_lt (k : Nat) : mlen k < 2 ^ 31 := by
  unfold mlen
  split <;> decide
section MROWS
variable {p : Program} {l : Launch} {e : Env} {R : Room} {s : State} {m : MethodId} {args : Array Value} {below : List Frame} {meth : Method} {c : Code} {H H0 : Heap} {locs : List Loc} {cells slots : Nat} {Q : State → Prop}
variable {cc : ByteArray} {pc : Nat} {ls : Array Slot} {rest : List Value} {D : va_G} {cI cB : ClassId} {b : Nat} {S : St}
theorem m_get (hx : p.tables.exec = Jvm.exec) (hb : c.code = cc) (hts : ∀ w ∈ lw_all, w.before args s = true) (hown : s.vm.findClass RX7 = some m.cls) (hK : va_K D mcl (mKt cI cB) s) (hP : mW D cI cB b S H) (k : Nat) (hk : k < 53) {index : Nat} (hlink : (Cond.fieldLink RX7 index RX7 (TX7 k).2.1 (TX7 k).2.2.1) ∈ lw_all) (hsame : (TX7 k).1 = RX7) {v : Value} (hv : (mfs b S)[k]? = some v) (hdg : decode cc pc = .ok (.getfield index, 3))
    (kk : W p l e R s m args below meth c H locs cells slots Q (F0 m (pc + 3) ls (v :: rest))) : W p l e R s m args below meth c H locs cells slots Q (F0 m pc ls (.ref b :: rest)) :=
  va_get (D := D) (ci := 0) (v := v) (C := RX7) (T := TX7) (N := 53) hx hb hts in_X7 hown hK hP.P0 0 rfl rfl k hk (hts _ hlink) (fun x h9 => by rw [hsame] at h9; exact h9) hv hdg kk
theorem m_put (hx : p.tables.exec = Jvm.exec) (hb : c.code = cc) (hts : ∀ w ∈ lw_all, w.before args s = true) (hown : s.vm.findClass RX7 = some m.cls) (hK : va_K D mcl (mKt cI cB) s) (hP : mW D cI cB b S H) (hS0 : va_S (mA b) H0 H locs) (k : Nat) (hk : k < 53) {index : Nat} (hlink : (Cond.fieldLink RX7 index RX7 (TX7 k).2.1 (TX7 k).2.2.1) ∈ lw_all) (hsame : (TX7 k).1 = RX7) (hfin : (TX7 k).2.2.2 = false) {ty : FieldType} {v : Value} (hd : parseFieldDescriptor (TX7 k).2.2.1 = some ty) (hn : narrow ty v = v) (hfit : fits ty v = true)
    {S1 : St} (hset : mfs b S1 = (mfs b S).set k v) (hoth : ∀ j, j ≠ 0 → S1 j = S j) (hdg : decode cc pc = .ok (.putfield index, 3))
    (kk : ∀ (H1 : Heap) (locs1 : List Loc), mW D cI cB b S1 H1 → va_S (mA b) H0 H1 locs1 → W p l e R s m args below meth c H1 locs1 cells slots Q (F0 m (pc + 3) ls rest)) : W p l e R s m args below meth c H locs cells slots Q (F0 m pc ls (v :: .ref b :: rest)) := by
  have hap := va_apart (own := RX7) (C := RX7) (T := TX7) (N := 53) (ci := 0) hts in_X7 tyX7 tyX7_ok nmX7 hK rfl
  obtain ⟨r, h1, cell, q1, q2, q3, q4⟩ := hP.P0 0 _ rfl
  have hr : r = (RX7, TX7, 53) := Option.some.inj (h1.symm.trans rfl)
  subst hr
  obtain ⟨hS, hfc, kC, hkC, hkind⟩ := hK.1 0 _ rfl
  obtain ⟨cf, kf, fi, f, hi, hsl⟩ := hS k hk
  have hlay := hts _ (in_X7 _ (u_in_lay hk))
  unfold u_lay at hlay
  rw [if_neg (by rw [hfin]; decide)] at hlay
  have hst := (u_facts hfc hkC (u_lays hts in_X7 hk) hi).1
  have h6 := u_store hfc hkC hkind hlay hi hd hn hfit
  have hi' := hi
  rw [hsame] at hi'
  refine W.putK hx hb (f := f) ⟨hown, hts _ hlink, ⟨_, _, _, hi'⟩, hst⟩ (by rw [q2]; exact h6) q1 q3 (by rw [hsl]; exact k2_hasslot (q4 k hk)) rfl rfl hdg fun H' e1 e2 e3 => ?_
  rw [hsl] at e1 ⊢
  refine kk H' _ (fun j hj => ?_) (hS0.put e2 e3 ⟨Nat.le_refl _, by show b < b + 25; omega⟩)
  by_cases hj0 : j = 0
  · subst hj0
    rw [mE_0, hset]
    exact ⟨_, rfl, t_OB.to (V := updV (vp_V (mfs b S)) k v) ⟨_, e1, q2, q3, t_set q4 hap hk v⟩ (fun j _ => vp_updV_set (by rw [mfs_len]; exact hk) v j)⟩
  · rw [mE_up hj0 (hoth j hj0)]
    exact (hP j hj).kept (e3 _ (by show b + j ≠ b; omega))
theorem bw_0 {S : St} {i : Nat} {x : Int32} : ∀ j, j ≠ 0 → bw S 0 i x j = S j := fun j hj => if_neg hj
theorem bw_00 {S : St} {i i2 : Nat} {x x2 : Int32} : ∀ j, j ≠ 0 → bw (bw S 0 i x) 0 i2 x2 j = S j := fun j hj => (if_neg hj).trans (if_neg hj)
theorem m_iald (hx : p.tables.exec = Jvm.exec) (hb : c.code = cc) (hK : va_K D mcl (mKt cI cB) s) (hP : mW D cI cB b S H) {k : Nat} (hk : mok k) {i : Int32} {j : Nat} (hi : i = nI j) (hj : j < mlen k) (hdg : decode cc pc = .ok (.iaload, 1))
    (kk : W p l e R s m args below meth c H locs cells slots Q (F0 m (pc + 1) ls (.int (S k j) :: rest))) : W p l e R s m args below meth c H locs cells slots Q (F0 m pc ls (.int i :: .ref (b + k) :: rest)) := by
  subst hi
  refine va_iald hx hb hK (hP.Pk hk) 0 0 rfl rfl (vp_in_nI hj (mlen_lt k)) hdg ?_
  rw [nI_clamp (Nat.lt_trans hj (mlen_lt k))]
  exact kk
theorem m_bald (hx : p.tables.exec = Jvm.exec) (hb : c.code = cc) (hK : va_K D mcl (mKt cI cB) s) (hP : mW D cI cB b S H) {i : Int32} {j : Nat} (hi : i = nI j) (hj : j < 700) (hdg : decode cc pc = .ok (.baload, 1))
    (kk : W p l e R s m args below meth c H locs cells slots Q (F0 m (pc + 1) ls (.int (S 3 j) :: rest))) : W p l e R s m args below meth c H locs cells slots Q (F0 m pc ls (.int i :: .ref (b + 3) :: rest)) := by
  subst hi
  refine va_bald hx hb hK hP.P3 0 1 rfl rfl (vp_in_nI hj (by decide)) hdg ?_
  rw [nI_clamp (by omega)]
  exact kk
theorem m_iast (hx : p.tables.exec = Jvm.exec) (hb : c.code = cc) (hK : va_K D mcl (mKt cI cB) s) (hP : mW D cI cB b S H) (hS0 : va_S (mA b) H0 H locs) {k : Nat} (hk : mok k) {i x : Int32} {j : Nat} (hi : i = nI j) (hj : j < mlen k) (hdg : decode cc pc = .ok (.iastore, 1))
    (kk : ∀ (H1 : Heap) (locs1 : List Loc), mW D cI cB b (bw S k j x) H1 → va_S (mA b) H0 H1 locs1 → W p l e R s m args below meth c H1 locs1 cells slots Q (F0 m (pc + 1) ls rest)) : W p l e R s m args below meth c H locs cells slots Q (F0 m pc ls (.int x :: .int i :: .ref (b + k) :: rest)) := by
  subst hi
  have hjc : (nI j).toNatClampNeg = j := nI_clamp (Nat.lt_trans hj (mlen_lt k))
  have ha : H[b + k]? = some (vp_cell cI (mlen k, .inl (S k))) := (hP.Pk hk) 0 _ rfl
  refine W.iast hx hb ha ((hK.2 0 _ rfl).1 (mlen k) (fun j => .int (S k j))) (fun q => by cases q) (by show ¬ (_ ∨ (arrV _ _ _).slots.size ≤ _); rw [arrV_size]; exact vp_in_nI hj (mlen_lt k)) rfl rfl hdg fun H1 e z oq => ?_
  refine kk H1 _ (fun q hq => ?_) (hS0.put z oq ⟨Nat.le_add_right _ _, Nat.add_lt_add_left hk.2.1 _⟩)
  by_cases hqk : q = k
  · subst hqk
    rw [mE_i hk]
    show H1[b + q]? = some (vp_cell _ _)
    rw [e, hjc]
    rw [vp_cell_i, vp_cell_i, arrV_store]
    congr 2
    funext z
    show updV _ _ _ _ = Value.int ((if q = q then upd (S q) j x else S q) z)
    rw [if_pos rfl]
    by_cases hz : z = j
    · subst hz
      simp [updV, upd]
    · simp [updV, upd, hz]
  · rw [mE_ne hk.1 hqk]
    exact (hP q hq).kept (oq _ (by show b + q ≠ b + k; omega))
theorem m_bast (hx : p.tables.exec = Jvm.exec) (hb : c.code = cc) (hK : va_K D mcl (mKt cI cB) s) (hP : mW D cI cB b S H) (hS0 : va_S (mA b) H0 H locs) {i x : Int32} {j : Nat} (hi : i = nI j) (hj : j < 700) (hdg : decode cc pc = .ok (.bastore, 1))
    (kk : ∀ (H1 : Heap) (locs1 : List Loc), mW D cI cB b (bw S 3 j (x.toInt8.toInt32)) H1 → va_S (mA b) H0 H1 locs1 → W p l e R s m args below meth c H1 locs1 cells slots Q (F0 m (pc + 1) ls rest)) : W p l e R s m args below meth c H locs cells slots Q (F0 m pc ls (.int x :: .int i :: .ref (b + 3) :: rest)) := by
  subst hi
  have hjc : (nI j).toNatClampNeg = j := nI_clamp (by omega)
  have ha : H[b + 3]? = some (vp_cell cB (700, .inl (S 3))) := hP.P3 0 _ rfl
  have hE : ∀ S' : St, mE cI cB b S' 3 = .inl (cB, 700, .inl (S' 3)) := fun _ => rfl
  obtain ⟨N, hN⟩ : ∃ N : Nat, N = 700 := ⟨_, rfl⟩
  have hN2 : N < 2 ^ 31 := by omega
  rw [← hN] at ha hj
  simp only [← hN] at hE
  refine W.bast hx hb ha ((hK.2 1 _ rfl).1 N (fun j => .int (S 3 j))) (fun q => by cases q) (by show ¬ (_ ∨ (arrV _ _ _).slots.size ≤ _); rw [arrV_size]; exact vp_in_nI hj hN2) rfl rfl hdg fun H1 e z oq => ?_
  refine kk H1 _ (fun q hq => ?_) (hS0.put z oq ⟨Nat.le_add_right _ _, Nat.add_lt_add_left (by decide) _⟩)
  by_cases hqk : q = 3
  · subst hqk
    rw [hE]
    show H1[b + 3]? = some (vp_cell _ _)
    rw [e, hjc]
    rw [vp_cell_i, vp_cell_i, arrV_store]
    congr 2
    funext z
    show updV _ _ _ _ = Value.int ((if 3 = 3 then upd (S 3) j (x.toInt8.toInt32) else S 3) z)
    rw [if_pos rfl]
    by_cases hz : z = j
    · subst hz
      simp [updV, upd, narrow]
    · simp [updV, upd, hz]
  · rw [mE_ne (by decide) hqk]
    exact (hP q hq).kept (oq _ (by show b + q ≠ b + 3; omega))
theorem m_blind {av : List Value} : FrameBlind (mPc D cI cB b av S) := fun a U g mk q => by obtain ⟨q0, q1, q2⟩ := q; exact ⟨q0, q1, va_K.moved (u := U) (U := U.calling g mk a) (Vm.Alike.refl U.vm) q2⟩
variable {y : MethodName} {bytes : ByteArray} {maxL nL index n : Nat} {ret : Option FieldType} {rm : Room} {own : String} {As st0 : List Value}
/-- a call of an own method, its answer an int -/
theorem m_cVi {post : Int32 → St → Prop} (F : CallFix p m c cc nL s args lw_all own) (hM : Met l y (ws_ y bytes maxL ret) rm (mPc D cI cB b (.ref b :: As) S) (mQi D cI cB b post) 0 0 (mA b)) (cw : CallW R s args own RX7 index y bytes maxL ret (ws_ y bytes maxL ret) rm 0 0 n)
    (hK : va_K D mcl (mKt cI cB) s) (hP : mW D cI cB b S H) (hS : va_S (mA b) H0 H locs) (hn : As.length = n) (hsize : ls.size = nL) (hstack : st0 = As.reverse ++ .ref b :: rest) (hW : (rest.map fun v => v.category).sum ≤ 8) (hdg : decode cc pc = .ok (.invokevirtual index, 3)) (hf : cells ≤ R.cells ∧ slots ≤ R.slots)
    (kk : ∀ (r : Int32) (S1 : St) (H1 : Heap) (locs1 : List Loc), post r S1 → mW D cI cB b S1 H1 → va_S (mA b) H0 H1 locs1 → W p l e R s m args below meth c H1 locs1 cells slots Q (F0 m (pc + 3) ls (.int r :: rest))) : W p l e R s m args below meth c H locs cells slots Q (F0 m pc ls st0) :=
  va_calli (va_runV (As := As) (rest := rest) F hM cw ⟨m_blind, va_recv hK hP.P0 (ci := 0) (q0 := 0) rfl rfl, fun U hU hW => ⟨rfl, by rw [hU]; exact hP, va_K.moved hW.alike hK⟩⟩ rfl hn hsize hstack (lv_room hW) hdg hf) hS (fun q _ h => h) (fun q h => h) (fun r S1 t H1 locs1 ht hvm hp hB hz hk hS1 => kk r S1 H1 locs1 hp (by rw [← ht]; exact hB.1) hS1)
theorem m_cVv {post : St → Prop} (F : CallFix p m c cc nL s args lw_all own) (hM : Met l y (ws_ y bytes maxL ret) rm (mPc D cI cB b (.ref b :: As) S) (mQv D cI cB b post) 0 0 (mA b)) (cw : CallW R s args own RX7 index y bytes maxL ret (ws_ y bytes maxL ret) rm 0 0 n)
    (hK : va_K D mcl (mKt cI cB) s) (hP : mW D cI cB b S H) (hS : va_S (mA b) H0 H locs) (hn : As.length = n) (hsize : ls.size = nL) (hstack : st0 = As.reverse ++ .ref b :: rest) (hW : (rest.map fun v => v.category).sum ≤ 8) (hdg : decode cc pc = .ok (.invokevirtual index, 3)) (hf : cells ≤ R.cells ∧ slots ≤ R.slots)
    (kk : ∀ (S1 : St) (H1 : Heap) (locs1 : List Loc), post S1 → mW D cI cB b S1 H1 → va_S (mA b) H0 H1 locs1 → W p l e R s m args below meth c H1 locs1 cells slots Q (F0 m (pc + 3) ls rest)) : W p l e R s m args below meth c H locs cells slots Q (F0 m pc ls st0) :=
  va_callv (va_runV (As := As) (rest := rest) F hM cw ⟨m_blind, va_recv hK hP.P0 (ci := 0) (q0 := 0) rfl rfl, fun U hU hW => ⟨rfl, by rw [hU]; exact hP, va_K.moved hW.alike hK⟩⟩ rfl hn hsize hstack (lv_room hW) hdg hf) hS (fun q _ h => h) (fun q h => h) (fun S1 t H1 locs1 ht hvm hp hB hz hk hS1 => kk S1 H1 locs1 hp (by rw [← ht]; exact hB.1) hS1)
theorem m_cSi {post : Int32 → St → Prop} (F : CallFix p m c cc nL s args lw_all own) (hM : Met l y (ws_ y bytes maxL ret) rm (mPc D cI cB b As S) (mQi D cI cB b post) 0 0 (mA b)) (cw : CallB R s args own index y bytes maxL ret (ws_ y bytes maxL ret) rm 0 0 n ∧ (Cond.static y).before args s = true)
    (hK : va_K D mcl (mKt cI cB) s) (hP : mW D cI cB b S H) (hS : va_S (mA b) H0 H locs) (hn : As.length = n) (hsize : ls.size = nL) (hstack : st0 = As.reverse ++ rest) (hW : (rest.map fun v => v.category).sum ≤ 8) (hdg : decode cc pc = .ok (.invokestatic index, 3)) (hf : cells ≤ R.cells ∧ slots ≤ R.slots)
    (kk : ∀ (r : Int32) (S1 : St) (H1 : Heap) (locs1 : List Loc), post r S1 → mW D cI cB b S1 H1 → va_S (mA b) H0 H1 locs1 → W p l e R s m args below meth c H1 locs1 cells slots Q (F0 m (pc + 3) ls (.int r :: rest))) : W p l e R s m args below meth c H locs cells slots Q (F0 m pc ls st0) :=
  va_calli (va_runS (As := As) (rest := rest) F hM cw ⟨m_blind, fun U hU hW => ⟨rfl, by rw [hU]; exact hP, va_K.moved hW.alike hK⟩⟩ rfl hn hsize hstack (lv_room hW) hdg hf) hS (fun q _ h => h) (fun q h => h) (fun r S1 t H1 locs1 ht hvm hp hB hz hk hS1 => kk r S1 H1 locs1 hp (by rw [← ht]; exact hB.1) hS1)
theorem m_cSv {post : St → Prop} (F : CallFix p m c cc nL s args lw_all own) (hM : Met l y (ws_ y bytes maxL ret) rm (mPc D cI cB b As S) (mQv D cI cB b post) 0 0 (mA b)) (cw : CallB R s args own index y bytes maxL ret (ws_ y bytes maxL ret) rm 0 0 n ∧ (Cond.static y).before args s = true)
    (hK : va_K D mcl (mKt cI cB) s) (hP : mW D cI cB b S H) (hS : va_S (mA b) H0 H locs) (hn : As.length = n) (hsize : ls.size = nL) (hstack : st0 = As.reverse ++ rest) (hW : (rest.map fun v => v.category).sum ≤ 8) (hdg : decode cc pc = .ok (.invokestatic index, 3)) (hf : cells ≤ R.cells ∧ slots ≤ R.slots)
    (kk : ∀ (S1 : St) (H1 : Heap) (locs1 : List Loc), post S1 → mW D cI cB b S1 H1 → va_S (mA b) H0 H1 locs1 → W p l e R s m args below meth c H1 locs1 cells slots Q (F0 m (pc + 3) ls rest)) : W p l e R s m args below meth c H locs cells slots Q (F0 m pc ls st0) :=
  va_callv (va_runS (As := As) (rest := rest) F hM cw ⟨m_blind, fun U hU hW => ⟨rfl, by rw [hU]; exact hP, va_K.moved hW.alike hK⟩⟩ rfl hn hsize hstack (lv_room hW) hdg hf) hS (fun q _ h => h) (fun q h => h) (fun S1 t H1 locs1 ht hvm hp hB hz hk hS1 => kk S1 H1 locs1 hp (by rw [← ht]; exact hB.1) hS1)
end MROWS
