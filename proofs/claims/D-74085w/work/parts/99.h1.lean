set_option maxRecDepth 100000
/-! constructors: calls -/
section CC
variable {p : Program} {l : Launch} {e : Env} {R : Room} {s : State} {m : MethodId} {args : Array Value} {below : List Frame} {meth : Method} {c : Code} {H H0 : Heap} {locs : List Loc} {cells slots : Nat} {Q : State → Prop}
variable {cc : ByteArray} {pc : Nat} {ls : Array Slot} {rest : List Value} {D : va_G} {cl : List vw_C} {tys : List (ClassId × FieldType)} {b n n1 k : Nat} {E E1 : Nat → va_E}
variable {y : MethodName} {bytes : ByteArray} {maxL nL index nA mc ms : Nat} {rm : Room} {own : String} {As st0 : List Value}
def cP (D : va_G) (cl : List vw_C) (tys : List (ClassId × FieldType)) (b n : Nat) (E : Nat → va_E) (X : State → Prop) : State → Prop := fun U => cW D cl b n E U.heap ∧ va_K D cl tys U ∧ X U
def cQ (D : va_G) (cl : List vw_C) (tys : List (ClassId × FieldType)) (b n : Nat) (E : Nat → va_E) : Array Value → State → Outcome → State → Prop := fun _ st oc t => oc = .returned none ∧ (cW D cl b n E t.heap ∧ va_K D cl tys t) ∧ va_F (cA b) st t
/-- what holds along -/
def stb (b : Nat) (X : State → Prop) : Prop := (∀ (a : Array Value) (U : State) (g : _) (mk : _), X U → X (U.calling g mk a)) ∧ ∀ s U : State, X s → s.WarmedH U.vm → (∀ q : Nat, q < s.heap.size → ¬ cA b q → U.heap[q]? = s.heap[q]?) → X U
theorem c_blind {av : List Value} {X : State → Prop} (hX : stb b X) : FrameBlind (va_Pc av (cP D cl tys b n E X)) := fun a U g mk q => by
  obtain ⟨q0, q1, q2, q3⟩ := q
  exact ⟨q0, q1, va_K.moved (u := U) (U := U.calling g mk a) (Vm.Alike.refl U.vm) q2, hX.1 a U g mk q3⟩
theorem c_cI {X : State → Prop} (hX : stb b X) (hXs : X s) (F : CallFix p m c cc nL s args lw_all own) (hM : Met l y (ws_ y bytes maxL none) rm (va_Pc (.ref (b + k) :: As) (cP D cl tys b n E X)) (cQ D cl tys b n1 E1) mc ms (cA b)) (cw : CallB R s args own index y bytes maxL none (ws_ y bytes maxL none) rm mc ms nA ∧ y.name = "<init>" ∧ (Cond.instanceMethod y).before args s = true)
    (hK : va_K D cl tys s) (hP : cW D cl b n E H) (hS : va_S (cA b) s.heap H locs) (hn : As.length = nA) (hsize : ls.size = nL) (hstack : st0 = As.reverse ++ .ref (b + k) :: rest) (hW : (rest.map fun v => v.category).sum ≤ 8) (hdg : decode cc pc = .ok (.invokespecial index, 3)) (hf : cells + mc ≤ R.cells ∧ slots + ms ≤ R.slots)
    (kk : ∀ (H1 : Heap) (locs1 : List Loc), cW D cl b n1 E1 H1 → va_S (cA b) s.heap H1 locs1 → W p l e R s m args below meth c H1 locs1 (cells + mc) (slots + ms) Q (F0 m (pc + 3) ls rest)) : W p l e R s m args below meth c H locs cells slots Q (F0 m pc ls st0) := by
  have hr := va_runI (e := e) (below := below) (meth := meth) (locs := locs) (g := F0 m pc ls st0) (cells := cells) (slots := slots) (As := As) (rest := rest) F hM cw ⟨c_blind hX, fun U hU hW => ⟨rfl, by rw [hU]; exact hP, va_K.moved hW.alike hK, hX.2 s U hXs hW (fun q h1 h2 => by rw [hU]; exact hS.2.1 q h1 h2)⟩⟩ rfl hn hsize hstack (lv_room hW) hdg hf
  intro U hU X0
  obtain ⟨v, st₀, t, U', L, h0, X', hL, e1, e2, ⟨hv, ⟨hW1, hK1⟩, hz, hk⟩, st⟩ := hr U hU X0
  cases hv
  rw [h0] at hz hk
  obtain ⟨t2, a1, b1⟩ := kk U'.heap (locs ++ L) (by rw [e1]; exact hW1)
    ⟨Nat.le_trans hS.1 (by rw [e1]; exact hz), fun q h1 h2 => by rw [e1, hk q (Nat.lt_of_lt_of_le h1 hS.1) h2]; exact hS.2.1 q h1 h2, fun q hq => by
      rcases List.mem_append.mp hq with h | h
      · exact hS.2.2 q h
      · exact hL q h⟩ U' rfl X'
  exact ⟨t2, st t2 a1, b1⟩
end CC
