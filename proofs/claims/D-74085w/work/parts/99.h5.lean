set_option maxRecDepth 100000
/-! constructors: aastore -/
section CE
variable {p : Program} {l : Launch} {e : Env} {R : Room} {s : State} {m : MethodId} {args : Array Value} {below : List Frame} {meth : Method} {c : Code} {H H0 : Heap} {locs : List Loc} {cells slots : Nat} {Q : State → Prop}
variable {cc : ByteArray} {pc : Nat} {ls : Array Slot} {rest : List Value} {D : va_G} {cl : List vw_C} {tys : List (ClassId × FieldType)} {b n : Nat} {E : Nat → va_E}
theorem c_aast (hx : p.tables.exec = Jvm.exec) (hb : c.code = cc) (hK : va_K D cl tys s) (hP : cW D cl b n E H) (hS0 : va_S (cA b) H0 H locs) {k v ti ci N TN : Nat} {cX : ClassId} {C : String} {TT : u_T} {fs : List Value} {rf : Nat → Option Nat} (hk : k < n) (hv : v < n) (hti : tys[ti]? = some (cX, .object C)) (hci : cl[ci]? = some (C, TT, TN)) (hEk : E k = .inl (cX, N, .inr (.inr (.inr (.inr rf))))) (hEv : E v = .inr (ci, fs)) {i : Int32} {j : Nat} (hi : i = nI j) (hj : j < N) (hN : N < 2 ^ 31) (hdg : decode cc pc = .ok (.aastore, 1))
    (kk : ∀ (H1 : Heap) (locs1 : List Loc), cW D cl b n (cset E k (.inl (cX, N, .inr (.inr (.inr (.inr (va_up rf j (some (b + v))))))))) H1 → va_S (cA b) H0 H1 locs1 → W p l e R s m args below meth c H1 locs1 cells slots Q (F0 m (pc + 1) ls rest)) : W p l e R s m args below meth c H locs cells slots Q (F0 m pc ls (.ref (b + v) :: .int i :: .ref (b + k) :: rest)) := by
  subst hi
  have hjc : (nI j).toNatClampNeg = j := nI_clamp (Nat.lt_trans hj hN)
  have ha := hP.1 k hk
  rw [hEk] at ha
  have hvv := hP.1 v hv
  rw [hEv] at hvv
  obtain ⟨r', hr', cellV, g1, g2, g3, -⟩ := hvv
  have er : r' = (C, TT, TN) := Option.some.inj (hr'.symm.trans hci)
  subst er
  have hcls := (hK.1 ci _ hci).2
  obtain ⟨kA, comp, k1, k2, k3, -⟩ := (hK.2 ti _ hti).2
  have hcomp : comp = D.1 ci := Option.some.inj (k3.symm.trans hcls.1)
  subst hcomp
  obtain ⟨kC, hkC, -⟩ := hcls.2
  refine W.aast hx hb ha (fun q h => by cases h) (fun h => by cases h) k1 k2 rfl hkC ⟨nI_pos (by omega), by rw [hjc]; show _ < (arrV _ _ _).slots.size; rw [arrV_size]; exact hj⟩ g1 (fun q h => by rw [g3] at h; cases h) (by rw [g2]; exact hkC) (by rw [g2]; exact va_asg _ _) rfl rfl hdg fun H1 e z oq => ?_
  refine kk H1 _ (hP.one ?_ z oq) (hS0.put z oq (Nat.le_add_right _ _))
  show H1[b + k]? = some (vp_cell _ _)
  rw [e, hjc]
  rw [vp_cell_q, vp_cell_q, arrV_store]
  congr 2
  funext z
  show updV _ _ _ _ = va_rf (va_up rf j (some (b + v)) z)
  by_cases hz : z = j
  · subst hz
    simp [updV, va_up, va_rf]
  · simp [updV, va_up, hz]
end CE
