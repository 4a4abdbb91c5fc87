set_option maxRecDepth 100000
/-! constructors: a row of 4096, polynomials -/
theorem cwx_X2_init_2 : yX2_init_2.cls ≠ "java/lang/invoke/MethodHandle" ∧ yX2_init_2.cls ≠ "java/lang/invoke/VarHandle" ∧ (parseMethodDescriptor yX2_init_2.desc).map (fun d => d.parameters.length) = some 1 := by decide +kernel
set_option maxHeartbeats 4000000 in
theorem ci_row (l : Launch) (G : XG) (D : va_G) (b n k : Nat) (E : Nat → va_E) (X : State → Prop) (hX : stb b X) (hk : k < n) (hE : E k = crow0) : Met l yX2_init (ws_ yX2_init cX2_init 1 none) ({ frames := 2, cells := 2, slots := 8192, locals := 90 } : Room) (va_Pc [.ref (b + k)] (cP D ycl (xKt G) b n E X)) (cQ D ycl (xKt G) b (n + 2) (Erow G b n k 4096 E)) (2) (8192) (cA b) := by
  refine Met.ofW (cc := cX2_init) (maxL := 1) (ret := none) (by decide) rfl ?_
  intro p e s m args below meth c s₁ B hml hv
  obtain ⟨rfl, hP, hK, hXs⟩ := hv
  have hx := B.exec
  have hb := B.bytes
  have hr := B.returns
  have hts := atoms_spec (ws := ws_ yX2_init cX2_init 1 none) B.pre
  have hts : ∀ w ∈ lw_all, w.before _ s = true := fun w h => hts w (List.mem_cons_of_mem _ h)
  have hown : s.vm.findClass RX2 = some m.cls := findClass_of_methodNamed B.named
  have hin : meth.name = "<init>" := (name_of_methodNamed B.named B.method).1
  have hcI : s.vm.findClass "[I" = some (G.2.1 1) := (hK.2 0 _ rfl).2
  have hS : va_S (cA b) s.heap s.heap [] := va_S.rf
  have hl := lv_entry ([.ref (b + k)]) (n := 1) (Nat.le_of_ble_eq_true rfl)
  rw [lg_entry_eq]
  generalize (lg_sl ([.ref (b + k)]) ++ List.replicate (1 - (lg_sl ([.ref (b + k)])).length) Slot.unset).toArray = ls at hl ⊢
  have hl : lv_has ls 1 [(0, .ref (b + k))] := hl
  refine lv_aload_n hx hb dX2_init_0 rfl (lv_at hl 0 rfl) ?_
  refine lv_sipush (v := 4096) hx hb dX2_init_1 (by decide) ?_
  refine c_cI (k := k) (As := [.int 4096]) (rest := []) hX hXs ⟨hx, hb, hml, hown, hts⟩ (ci_row2 l G D b n k 4096 E X hk hE (by omega)) (cwI 1 hts (lw_meth q154) rfl rfl rfl (hts _ q119) (hts _ q152) (hts _ q153) rfl cwx_X2_init_2 ⟨Nat.le_of_ble_eq_true rfl, Nat.le_of_ble_eq_true rfl⟩) hK hP hS rfl hl.1 rfl (Nat.le_of_ble_eq_true rfl) dX2_init_4 ⟨Nat.le_of_ble_eq_true rfl, Nat.le_of_ble_eq_true rfl⟩ (fun H locs hP hS => ?_)
  exact W.vret hx hb hr (fun t ht hW => ⟨rfl, ⟨by rw [ht]; exact hP, va_K.moved hW.alike hK⟩, hS.F ht⟩) hS.2.2 dX2_init_7
def cpol0 : va_E := .inr (5, [.null, .null, .int 0])
def Epol2 (b k va vb : Nat) (v : Int32) (E : Nat → va_E) : Nat → va_E := fun j => if j = k then .inr (5, [.ref (b + va), .ref (b + vb), .int v]) else E j
set_option maxHeartbeats 4000000 in
theorem ci_pol2 (l : Launch) (G : XG) (D : va_G) (b n k va vb : Nat) (v : Int32) (E : Nat → va_E) (X : State → Prop) (hk : k < n) (hE : E k = cpol0) : Met l yX6_init_2 (ws_ yX6_init_2 cX6_init_2 4 none) ({ frames := 1, cells := 0, slots := 0, locals := 60 } : Room) (va_Pc [.ref (b + k), .int v, .ref (b + va), .ref (b + vb)] (cP D ycl (xKt G) b n E X)) (cQ D ycl (xKt G) b (n) (Epol2 b k va vb v E)) (0) (0) (cA b) := by
  refine Met.ofW (cc := cX6_init_2) (maxL := 4) (ret := none) (by decide) rfl ?_
  intro p e s m args below meth c s₁ B hml hv
  obtain ⟨rfl, hP, hK, hXs⟩ := hv
  have hx := B.exec
  have hb := B.bytes
  have hr := B.returns
  have hts := atoms_spec (ws := ws_ yX6_init_2 cX6_init_2 4 none) B.pre
  have hts : ∀ w ∈ lw_all, w.before _ s = true := fun w h => hts w (List.mem_cons_of_mem _ h)
  have hown : s.vm.findClass RX6 = some m.cls := findClass_of_methodNamed B.named
  have hin : meth.name = "<init>" := (name_of_methodNamed B.named B.method).1
  have hcI : s.vm.findClass "[I" = some (G.2.1 1) := (hK.2 0 _ rfl).2
  have hS : va_S (cA b) s.heap s.heap [] := va_S.rf
  have hl := lv_entry ([.ref (b + k), .int v, .ref (b + va), .ref (b + vb)]) (n := 4) (Nat.le_of_ble_eq_true rfl)
  rw [lg_entry_eq]
  generalize (lg_sl ([.ref (b + k), .int v, .ref (b + va), .ref (b + vb)]) ++ List.replicate (4 - (lg_sl ([.ref (b + k), .int v, .ref (b + va), .ref (b + vb)])).length) Slot.unset).toArray = ls at hl ⊢
  have hl : lv_has ls 4 [(0, .ref (b + k)), (1, .int v), (2, .ref (b + va)), (3, .ref (b + vb))] := hl
  refine lv_aload_n hx hb dX6_init_2_0 rfl (lv_at hl 0 rfl) ?_
  refine W.objInit hx hb hown (hts _ q363) (hts _ q145) (hts _ q146) rfl (by rw [hml]; exact hl.1) rfl dX6_init_2_1 (Nat.le_of_ble_eq_true rfl) (Nat.le_of_ble_eq_true rfl) ?_
  refine W.eq (g2 := F0 m 4 ls []) rfl ?_
  refine lv_aload_n hx hb dX6_init_2_4 rfl (lv_at hl 0 rfl) ?_
  refine lv_iload_n hx hb dX6_init_2_5 rfl (lv_at hl 1 rfl) ?_
  refine c_put (CC := RX6) (TT := TX6) (N := 3) (ci := 5) (k := k) (v := .int v) (fs := [.null, .null, .int 0]) hx hb hts in_X6 tyX6 tyX6_ok nmX6 hown hK hP hS hk rfl (hE) rfl 2 (by decide) q370 rfl (Or.inr ⟨rfl, hin, rfl⟩) rfl rfl rfl dX6_init_2_6 (fun H locs hP hS => ?_)
  refine lv_aload_n hx hb dX6_init_2_9 rfl (lv_at hl 0 rfl) ?_
  refine lv_aload_n hx hb dX6_init_2_10 rfl (lv_at hl 2 rfl) ?_
  refine c_put (CC := RX6) (TT := TX6) (N := 3) (ci := 5) (k := k) (v := .ref (b + va)) (fs := [.null, .null, .int v]) hx hb hts in_X6 tyX6 tyX6_ok nmX6 hown hK hP hS hk rfl (if_pos rfl) rfl 0 (by decide) q364 rfl (Or.inr ⟨rfl, hin, rfl⟩) rfl rfl rfl dX6_init_2_11 (fun H locs hP hS => ?_)
  refine lv_aload_n hx hb dX6_init_2_14 rfl (lv_at hl 0 rfl) ?_
  refine lv_aload_n hx hb dX6_init_2_15 rfl (lv_at hl 3 rfl) ?_
  refine c_put (CC := RX6) (TT := TX6) (N := 3) (ci := 5) (k := k) (v := .ref (b + vb)) (fs := [.ref (b + va), .null, .int v]) hx hb hts in_X6 tyX6 tyX6_ok nmX6 hown hK hP hS hk rfl (if_pos rfl) rfl 1 (by decide) q367 rfl (Or.inr ⟨rfl, hin, rfl⟩) rfl rfl rfl dX6_init_2_16 (fun H locs hP hS => ?_)
  have hP : cW D ycl b n (Epol2 b k va vb v E) H := hP.cg (fun j hj => by
    unfold cset Epol2
    by_cases h1 : j = k
    · simp only [if_pos h1]; rfl
    · simp only [if_neg h1])
  exact W.vret hx hb hr (fun t ht hW => ⟨rfl, ⟨by rw [ht]; exact hP, va_K.moved hW.alike hK⟩, hS.F ht⟩) hS.2.2 dX6_init_2_19
/-- a polynomial of no terms at k, its arrays at n, n + 1 -/
def Epol (G : XG) (b n k : Nat) (E : Nat → va_E) : Nat → va_E := fun j => if j = k then .inr (5, [.ref (b + n), .ref (b + (n + 1)), .int 0]) else if j = n then cints G 0 else if j = n + 1 then cints G 0 else E j
set_option maxHeartbeats 4000000 in
theorem ci_pol (l : Launch) (G : XG) (D : va_G) (b n k : Nat) (E : Nat → va_E) (X : State → Prop) (hX : stb b X) (hk : k < n) (hE : E k = cpol0) : Met l yX6_init (ws_ yX6_init cX6_init 1 none) ({ frames := 2, cells := 2, slots := 0, locals := 90 } : Room) (va_Pc [.ref (b + k)] (cP D ycl (xKt G) b n E X)) (cQ D ycl (xKt G) b (n + 2) (Epol G b n k E)) (2) (0) (cA b) := by
  refine Met.ofW (cc := cX6_init) (maxL := 1) (ret := none) (by decide) rfl ?_
  intro p e s m args below meth c s₁ B hml hv
  obtain ⟨rfl, hP, hK, hXs⟩ := hv
  have hx := B.exec
  have hb := B.bytes
  have hr := B.returns
  have hts := atoms_spec (ws := ws_ yX6_init cX6_init 1 none) B.pre
  have hts : ∀ w ∈ lw_all, w.before _ s = true := fun w h => hts w (List.mem_cons_of_mem _ h)
  have hown : s.vm.findClass RX6 = some m.cls := findClass_of_methodNamed B.named
  have hin : meth.name = "<init>" := (name_of_methodNamed B.named B.method).1
  have hcI : s.vm.findClass "[I" = some (G.2.1 1) := (hK.2 0 _ rfl).2
  have hS : va_S (cA b) s.heap s.heap [] := va_S.rf
  have hl := lv_entry ([.ref (b + k)]) (n := 1) (Nat.le_of_ble_eq_true rfl)
  rw [lg_entry_eq]
  generalize (lg_sl ([.ref (b + k)]) ++ List.replicate (1 - (lg_sl ([.ref (b + k)])).length) Slot.unset).toArray = ls at hl ⊢
  have hl : lv_has ls 1 [(0, .ref (b + k))] := hl
  refine lv_aload_n hx hb dX6_init_0 rfl (lv_at hl 0 rfl) ?_
  refine lv_iconst (v := 0) hx hb dX6_init_1 (by decide) ?_
  refine lv_iconst (v := 0) hx hb dX6_init_2 (by decide) ?_
  refine c_newai (N := 0) hx hb hts q170 hcI hP hS (by decide) (by decide) (Nat.le_of_ble_eq_true rfl) (Nat.le_of_ble_eq_true rfl) dX6_init_3 (fun H hP hS => ?_)
  refine lv_iconst (v := 0) hx hb dX6_init_5 (by decide) ?_
  refine c_newai (N := 0) hx hb hts q170 hcI hP hS (by decide) (by decide) (Nat.le_of_ble_eq_true rfl) (Nat.le_of_ble_eq_true rfl) dX6_init_6 (fun H hP hS => ?_)
  refine c_cI (k := k) (As := [.int 0, .ref (b + n), .ref (b + (n + 1))]) (rest := []) hX hXs ⟨hx, hb, hml, hown, hts⟩ (ci_pol2 l G D b (n + 1 + 1) k n (n + 1) 0 _ X (by omega) ((if_neg (by omega)).trans ((if_neg (by omega)).trans hE))) (cwI 3 hts (lw_meth q362) rfl rfl rfl (hts _ q126) (hts _ q360) (hts _ q361) rfl cwx_X6_init_2 ⟨Nat.le_of_ble_eq_true rfl, Nat.le_of_ble_eq_true rfl⟩) hK hP hS rfl hl.1 rfl (Nat.le_of_ble_eq_true rfl) dX6_init_8 ⟨Nat.le_of_ble_eq_true rfl, Nat.le_of_ble_eq_true rfl⟩ (fun H locs hP hS => ?_)
  have hP : cW D ycl b (n + 2) (Epol G b n k E) H := hP.cg (fun j hj => by
    unfold Epol2 cset Epol
    by_cases h1 : j = k
    · simp only [if_pos h1]
    · simp only [if_neg h1]
      by_cases h2 : j = n + 1
      · simp only [if_pos h2, if_neg (show ¬ j = n by omega)]; rfl
      · simp only [if_neg h2]; rfl)
  exact W.vret hx hb hr (fun t ht hW => ⟨rfl, ⟨by rw [ht]; exact hP, va_K.moved hW.alike hK⟩, hS.F ht⟩) hS.2.2 dX6_init_11
