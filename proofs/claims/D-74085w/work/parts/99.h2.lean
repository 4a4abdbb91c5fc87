set_option maxRecDepth 100000
/-! constructors: rows, polynomials -/
abbrev ycl : List vw_C := [(RX1, TX1, 26), (RX2, TX2, 3), (RX3, TX3, 9), (RX4, TX4, 17), (RX5, TX5, 8), (RX6, TX6, 3), (RX8, TX8, 3), (RJ4, TJ4, 4)]
def cints (G : XG) (N : Nat) : va_E := .inl (G.2.1 1, N, .inl (fun _ => 0))
def crow (b n : Nat) : va_E := .inr (1, [.ref (b + n), .ref (b + (n + 1)), .int 0])
def crow0 : va_E := .inr (1, [.null, .null, .int 0])
/-- a row at k, its arrays at n, n + 1 -/
def Erow (G : XG) (b n k N : Nat) (E : Nat → va_E) : Nat → va_E := fun j => if j = k then crow b n else if j = n then cints G N else if j = n + 1 then cints G N else E j
set_option maxHeartbeats 4000000 in
theorem ci_row2 (l : Launch) (G : XG) (D : va_G) (b n k N : Nat) (E : Nat → va_E) (X : State → Prop) (hk : k < n) (hE : E k = crow0) (hN : N < 2 ^ 20) : Met l yX2_init_2 (ws_ yX2_init_2 cX2_init_2 2 none) ({ frames := 1, cells := 2, slots := 2 * N, locals := 60 } : Room) (va_Pc [.ref (b + k), .int (nI N)] (cP D ycl (xKt G) b n E X)) (cQ D ycl (xKt G) b (n + 2) (Erow G b n k N E)) 2 (2 * N) (cA b) := by
  refine Met.ofW (cc := cX2_init_2) (maxL := 2) (ret := none) (by decide) rfl ?_
  intro p e s m args below meth c s₁ B hml hv
  obtain ⟨rfl, hP, hK, hXs⟩ := hv
  have hx := B.exec
  have hb := B.bytes
  have hr := B.returns
  have hts := atoms_spec (ws := ws_ yX2_init_2 cX2_init_2 2 none) B.pre
  have hts : ∀ w ∈ lw_all, w.before _ s = true := fun w h => hts w (List.mem_cons_of_mem _ h)
  have hown : s.vm.findClass RX2 = some m.cls := findClass_of_methodNamed B.named
  have hin : meth.name = "<init>" := (name_of_methodNamed B.named B.method).1
  have hcI : s.vm.findClass "[I" = some (G.2.1 1) := (hK.2 0 _ rfl).2
  have hS : va_S (cA b) s.heap s.heap [] := va_S.rf
  have hl := lv_entry ([.ref (b + k), .int (nI N)]) (n := 2) (Nat.le_of_ble_eq_true rfl)
  rw [lg_entry_eq]
  generalize (lg_sl ([.ref (b + k), .int (nI N)]) ++ List.replicate (2 - (lg_sl ([.ref (b + k), .int (nI N)])).length) Slot.unset).toArray = ls at hl ⊢
  have hl : lv_has ls 2 [(0, .ref (b + k)), (1, .int (nI N))] := hl
  refine lv_aload_n hx hb dX2_init_2_0 rfl (lv_at hl 0 rfl) ?_
  refine W.objInit hx hb hown (hts _ q155) (hts _ q145) (hts _ q146) rfl (by rw [hml]; exact hl.1) rfl dX2_init_2_1 (Nat.le_of_ble_eq_true rfl) (Nat.le_of_ble_eq_true rfl) ?_
  refine W.eq (g2 := F0 m 4 ls []) rfl ?_
  refine lv_aload_n hx hb dX2_init_2_4 rfl (lv_at hl 0 rfl) ?_
  refine lv_iload_n hx hb dX2_init_2_5 rfl (lv_at hl 1 rfl) ?_
  refine c_newai (N := N) hx hb hts q170 hcI hP hS rfl (by omega) (by show 0 + 1 ≤ 2; omega) (by show 0 + N ≤ 2 * N; omega) dX2_init_2_6 (fun H hP hS => ?_)
  refine c_put (CC := RX2) (TT := TX2) (N := 3) (ci := 1) (k := k) (v := .ref (b + n)) (fs := [.null, .null, .int 0]) hx hb hts in_X2 tyX2 tyX2_ok nmX2 hown hK hP hS (by omega) rfl ((if_neg (by omega)).trans hE) rfl 0 (by decide) q156 rfl (Or.inr ⟨rfl, hin, rfl⟩) rfl rfl rfl dX2_init_2_8 (fun H locs hP hS => ?_)
  refine lv_aload_n hx hb dX2_init_2_11 rfl (lv_at hl 0 rfl) ?_
  refine lv_iload_n hx hb dX2_init_2_12 rfl (lv_at hl 1 rfl) ?_
  refine c_newai (N := N) hx hb hts q170 hcI hP hS rfl (by omega) (by show 0 + 1 + 1 ≤ 2; omega) (by show 0 + N + N ≤ 2 * N; omega) dX2_init_2_13 (fun H hP hS => ?_)
  refine c_put (CC := RX2) (TT := TX2) (N := 3) (ci := 1) (k := k) (v := .ref (b + (n + 1))) (fs := [.ref (b + n), .null, .int 0]) hx hb hts in_X2 tyX2 tyX2_ok nmX2 hown hK hP hS (by omega) rfl ((if_neg (by omega)).trans (if_pos rfl)) rfl 1 (by decide) q158 rfl (Or.inr ⟨rfl, hin, rfl⟩) rfl rfl rfl dX2_init_2_15 (fun H locs hP hS => ?_)
  have hP : cW D ycl b (n + 2) (Erow G b n k N E) H := hP.cg (fun j hj => by
    unfold cset Erow
    by_cases h1 : j = k
    · simp only [if_pos h1]; rfl
    · simp only [if_neg h1]
      by_cases h2 : j = n + 1
      · simp only [if_pos h2, if_neg (show ¬ j = n by omega)]; rfl
      · simp only [if_neg h2]; rfl)
  rw [show 0 + N + N = 2 * N by omega]
  exact W.vret hx hb hr (fun t ht hW => ⟨rfl, ⟨by rw [ht]; exact hP, va_K.moved hW.alike hK⟩, hS.F ht⟩) hS.2.2 dX2_init_2_18
