set_option maxRecDepth 100000
/-! constructors: what is thrown, further -/
theorem cwx_J0_init_2 : yJ0_init_2.cls ≠ "java/lang/invoke/MethodHandle" ∧ yJ0_init_2.cls ≠ "java/lang/invoke/VarHandle" ∧ (parseMethodDescriptor yJ0_init_2.desc).map (fun d => d.parameters.length) = some 4 := by decide +kernel
theorem cwx_J1_init : yJ1_init.cls ≠ "java/lang/invoke/MethodHandle" ∧ yJ1_init.cls ≠ "java/lang/invoke/VarHandle" ∧ (parseMethodDescriptor yJ1_init.desc).map (fun d => d.parameters.length) = some 4 := by decide +kernel
theorem cwx_J2_init : yJ2_init.cls ≠ "java/lang/invoke/MethodHandle" ∧ yJ2_init.cls ≠ "java/lang/invoke/VarHandle" ∧ (parseMethodDescriptor yJ2_init.desc).map (fun d => d.parameters.length) = some 4 := by decide +kernel
set_option maxHeartbeats 4000000 in
theorem ci_exc (l : Launch) (G : XG) (D : va_G) (b n k : Nat) (E : Nat → va_E) (X : State → Prop) (hX : stb b X) (hk : k < n) (hE : E k = cthr) (hT : ∀ U, X U → xth b U) : Met l yJ1_init (ws_ yJ1_init cJ1_init 5 none) ({ frames := 2, cells := 0, slots := 0, locals := 100 } : Room) (va_Pc [.ref (b + k), .null, .null, .int 0, .int 0] (cP D ycl (xKt G) b n E X)) (cQ D ycl (xKt G) b (n) (E)) (0) (0) (cA b) := by
  refine Met.ofW (cc := cJ1_init) (maxL := 5) (ret := none) (by decide) rfl ?_
  intro p e s m args below meth c s₁ B hml hv
  obtain ⟨rfl, hP, hK, hXs⟩ := hv
  have hx := B.exec
  have hb := B.bytes
  have hr := B.returns
  have hts := atoms_spec (ws := ws_ yJ1_init cJ1_init 5 none) B.pre
  have hts : ∀ w ∈ lw_all, w.before _ s = true := fun w h => hts w (List.mem_cons_of_mem _ h)
  have hown : s.vm.findClass RJ1 = some m.cls := findClass_of_methodNamed B.named
  have hin : meth.name = "<init>" := (name_of_methodNamed B.named B.method).1
  have hcI : s.vm.findClass "[I" = some (G.2.1 1) := (hK.2 0 _ rfl).2
  have hS : va_S (cA b) s.heap s.heap [] := va_S.rf
  have hl := lv_entry ([.ref (b + k), .null, .null, .int 0, .int 0]) (n := 5) (Nat.le_of_ble_eq_true rfl)
  rw [lg_entry_eq]
  generalize (lg_sl ([.ref (b + k), .null, .null, .int 0, .int 0]) ++ List.replicate (5 - (lg_sl ([.ref (b + k), .null, .null, .int 0, .int 0])).length) Slot.unset).toArray = ls at hl ⊢
  have hl : lv_has ls 5 [(0, .ref (b + k)), (1, .null), (2, .null), (3, .int 0), (4, .int 0)] := hl
  refine lv_aload_n hx hb dJ1_init_0 rfl (lv_at hl 0 rfl) ?_
  refine x_aload_n (b := b) (r := none) hx hb dJ1_init_1 rfl (lv_at hl 1 rfl) ?_
  refine x_aload_n (b := b) (r := none) hx hb dJ1_init_2 rfl (lv_at hl 2 rfl) ?_
  refine lv_iload_n hx hb dJ1_init_3 rfl (lv_at hl 3 rfl) ?_
  refine lv_iload hx hb dJ1_init_4 (lv_at hl 4 rfl) ?_
  refine c_cI (k := k) (As := [.null, .null, .int 0, .int 0]) (rest := []) hX hXs ⟨hx, hb, hml, hown, hts⟩ (ci_thr l G D b n k E X hk hE hT) (cwI 4 hts (lw_meth q272) rfl rfl rfl (hts _ q122) (hts _ q270) (hts _ q271) rfl cwx_J0_init_2 ⟨Nat.le_of_ble_eq_true rfl, Nat.le_of_ble_eq_true rfl⟩) hK hP hS rfl hl.1 rfl (Nat.le_of_ble_eq_true rfl) dJ1_init_6 ⟨Nat.le_of_ble_eq_true rfl, Nat.le_of_ble_eq_true rfl⟩ (fun H locs hP hS => ?_)
  exact W.vret hx hb hr (fun t ht hW => ⟨rfl, ⟨by rw [ht]; exact hP, va_K.moved hW.alike hK⟩, hS.F ht⟩) hS.2.2 dJ1_init_9
set_option maxHeartbeats 4000000 in
theorem ci_rte (l : Launch) (G : XG) (D : va_G) (b n k : Nat) (E : Nat → va_E) (X : State → Prop) (hX : stb b X) (hk : k < n) (hE : E k = cthr) (hT : ∀ U, X U → xth b U) : Met l yJ2_init (ws_ yJ2_init cJ2_init 5 none) ({ frames := 3, cells := 0, slots := 0, locals := 140 } : Room) (va_Pc [.ref (b + k), .null, .null, .int 0, .int 0] (cP D ycl (xKt G) b n E X)) (cQ D ycl (xKt G) b (n) (E)) (0) (0) (cA b) := by
  refine Met.ofW (cc := cJ2_init) (maxL := 5) (ret := none) (by decide) rfl ?_
  intro p e s m args below meth c s₁ B hml hv
  obtain ⟨rfl, hP, hK, hXs⟩ := hv
  have hx := B.exec
  have hb := B.bytes
  have hr := B.returns
  have hts := atoms_spec (ws := ws_ yJ2_init cJ2_init 5 none) B.pre
  have hts : ∀ w ∈ lw_all, w.before _ s = true := fun w h => hts w (List.mem_cons_of_mem _ h)
  have hown : s.vm.findClass RJ2 = some m.cls := findClass_of_methodNamed B.named
  have hin : meth.name = "<init>" := (name_of_methodNamed B.named B.method).1
  have hcI : s.vm.findClass "[I" = some (G.2.1 1) := (hK.2 0 _ rfl).2
  have hS : va_S (cA b) s.heap s.heap [] := va_S.rf
  have hl := lv_entry ([.ref (b + k), .null, .null, .int 0, .int 0]) (n := 5) (Nat.le_of_ble_eq_true rfl)
  rw [lg_entry_eq]
  generalize (lg_sl ([.ref (b + k), .null, .null, .int 0, .int 0]) ++ List.replicate (5 - (lg_sl ([.ref (b + k), .null, .null, .int 0, .int 0])).length) Slot.unset).toArray = ls at hl ⊢
  have hl : lv_has ls 5 [(0, .ref (b + k)), (1, .null), (2, .null), (3, .int 0), (4, .int 0)] := hl
  refine lv_aload_n hx hb dJ2_init_0 rfl (lv_at hl 0 rfl) ?_
  refine x_aload_n (b := b) (r := none) hx hb dJ2_init_1 rfl (lv_at hl 1 rfl) ?_
  refine x_aload_n (b := b) (r := none) hx hb dJ2_init_2 rfl (lv_at hl 2 rfl) ?_
  refine lv_iload_n hx hb dJ2_init_3 rfl (lv_at hl 3 rfl) ?_
  refine lv_iload hx hb dJ2_init_4 (lv_at hl 4 rfl) ?_
  refine c_cI (k := k) (As := [.null, .null, .int 0, .int 0]) (rest := []) hX hXs ⟨hx, hb, hml, hown, hts⟩ (ci_exc l G D b n k E X hX hk hE hT) (cwI 4 hts (lw_meth q269) rfl rfl rfl (hts _ q123) (hts _ q267) (hts _ q268) rfl cwx_J1_init ⟨Nat.le_of_ble_eq_true rfl, Nat.le_of_ble_eq_true rfl⟩) hK hP hS rfl hl.1 rfl (Nat.le_of_ble_eq_true rfl) dJ2_init_6 ⟨Nat.le_of_ble_eq_true rfl, Nat.le_of_ble_eq_true rfl⟩ (fun H locs hP hS => ?_)
  exact W.vret hx hb hr (fun t ht hW => ⟨rfl, ⟨by rw [ht]; exact hP, va_K.moved hW.alike hK⟩, hS.F ht⟩) hS.2.2 dJ2_init_9
def Eref (k : Nat) (E : Nat → va_E) : Nat → va_E := cset E k (.inr (4, [.null, .null, .null, .null, .null, .int 0, .int 0, .int (-1)]))
set_option maxHeartbeats 4000000 in
theorem ci_ref (l : Launch) (G : XG) (D : va_G) (b n k : Nat) (E : Nat → va_E) (X : State → Prop) (hX : stb b X) (hk : k < n) (hE : E k = cthr) (hT : ∀ U, X U → xth b U) : Met l yX5_init (ws_ yX5_init cX5_init 1 none) ({ frames := 4, cells := 0, slots := 0, locals := 180 } : Room) (va_Pc [.ref (b + k)] (cP D ycl (xKt G) b n E X)) (cQ D ycl (xKt G) b (n) (Eref k E)) (0) (0) (cA b) := by
  refine Met.ofW (cc := cX5_init) (maxL := 1) (ret := none) (by decide) rfl ?_
  intro p e s m args below meth c s₁ B hml hv
  obtain ⟨rfl, hP, hK, hXs⟩ := hv
  have hx := B.exec
  have hb := B.bytes
  have hr := B.returns
  have hts := atoms_spec (ws := ws_ yX5_init cX5_init 1 none) B.pre
  have hts : ∀ w ∈ lw_all, w.before _ s = true := fun w h => hts w (List.mem_cons_of_mem _ h)
  have hown : s.vm.findClass RX5 = some m.cls := findClass_of_methodNamed B.named
  have hin : meth.name = "<init>" := (name_of_methodNamed B.named B.method).1
  have hcI : s.vm.findClass "[I" = some (G.2.1 1) := (hK.2 0 _ rfl).2
  have hS : va_S (cA b) s.heap s.heap [] := va_S.rf
  have hl := lv_entry ([.ref (b + k)]) (n := 1) (Nat.le_of_ble_eq_true rfl)
  rw [lg_entry_eq]
  generalize (lg_sl ([.ref (b + k)]) ++ List.replicate (1 - (lg_sl ([.ref (b + k)])).length) Slot.unset).toArray = ls at hl ⊢
  have hl : lv_has ls 1 [(0, .ref (b + k))] := hl
  refine lv_aload_n hx hb dX5_init_0 rfl (lv_at hl 0 rfl) ?_
  refine lv_null hx hb dX5_init_1 ?_
  refine lv_null hx hb dX5_init_2 ?_
  refine lv_iconst (v := 0) hx hb dX5_init_3 (by decide) ?_
  refine lv_iconst (v := 0) hx hb dX5_init_4 (by decide) ?_
  refine c_cI (k := k) (As := [.null, .null, .int 0, .int 0]) (rest := []) hX hXs ⟨hx, hb, hml, hown, hts⟩ (ci_rte l G D b n k E X hX hk hE hT) (cwI 4 hts (lw_meth q266) rfl rfl rfl (hts _ q124) (hts _ q264) (hts _ q265) rfl cwx_J2_init ⟨Nat.le_of_ble_eq_true rfl, Nat.le_of_ble_eq_true rfl⟩) hK hP hS rfl hl.1 rfl (Nat.le_of_ble_eq_true rfl) dX5_init_5 ⟨Nat.le_of_ble_eq_true rfl, Nat.le_of_ble_eq_true rfl⟩ (fun H locs hP hS => ?_)
  refine lv_aload_n hx hb dX5_init_8 rfl (lv_at hl 0 rfl) ?_
  refine lv_iconst (v := (-1)) hx hb dX5_init_9 (by decide) ?_
  refine c_put (CC := RX5) (TT := TX5) (N := 8) (ci := 4) (k := k) (v := .int (-1)) (fs := [.null, .null, .null, .null, .null, .int 0, .int 0, .int 0]) hx hb hts in_X5 tyX5 tyX5_ok nmX5 hown hK hP hS hk rfl hE rfl 7 (by decide) q275 rfl (Or.inl rfl) rfl rfl rfl dX5_init_10 (fun H locs hP hS => ?_)
  exact W.vret hx hb hr (fun t ht hW => ⟨rfl, ⟨by rw [ht]; exact hP, va_K.moved hW.alike hK⟩, hS.F ht⟩) hS.2.2 dX5_init_13
