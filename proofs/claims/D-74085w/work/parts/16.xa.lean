set_option maxRecDepth 100000
theorem cwx_X1_exponent : yX1_exponent.cls ≠ "java/lang/invoke/MethodHandle" ∧ yX1_exponent.cls ≠ "java/lang/invoke/VarHandle" ∧ (parseMethodDescriptor yX1_exponent.desc).map (fun d => d.parameters.length) = some 2 := by decide +kernel
def wx1_exponent (p1 : Int32) (p2 : Int32) (K : XK) (T : XT) (post : Int32 → Prop) : Prop :=
  post ((jshr p1 (4 * p2)) &&& 15)
set_option maxHeartbeats 4000000 in
theorem mx1_exponent (l : Launch) (G : XG) (b : Nat) (hole : Nat → Prop) (p1 : Int32) (p2 : Int32) (K : XK) (T : XT)  (post : Int32 → Prop) (h : wx1_exponent p1 p2 K T post) : Met l yX1_exponent (ws_ yX1_exponent cX1_exponent 2 (some .int)) ({ frames := 0, cells := 0, slots := 0, locals := 0 } : Room) (xPc G b hole [.int p1, .int p2] K T) (xQ G b hole K 0 0 (ρ := Int32) eI (fun r T1 K1 => post r ∧ T1 = T ∧ K1 = K)) 0 0 (xA b hole) := by
  refine Met.ofW (cc := cX1_exponent) (maxL := 2) (ret := (some .int)) (by decide) rfl ?_
  intro p e s m args below meth c s₁ B hml hv
  obtain ⟨rfl, hP, hK, hV⟩ := hv
  have hx := B.exec
  have hb := B.bytes
  have hr := B.returns
  have hts := atoms_spec (ws := ws_ yX1_exponent cX1_exponent 2 (some .int)) B.pre
  have hts : ∀ w ∈ lw_all, w.before _ s = true := fun w h => hts w (List.mem_cons_of_mem _ h)
  have hown : s.vm.findClass RX1 = some m.cls := findClass_of_methodNamed B.named
  have hlocks := B.notSynchronized
  have hb0 : b ≤ s.heap.size := by rw [hP.2.2.2]; exact Nat.le_add_right _ _
  have hS : va_S (xA b hole) s.heap s.heap [] := va_S.rf
  have hl := lv_entry ([.int p1, .int p2]) (n := 2) (Nat.le_of_ble_eq_true rfl)
  rw [lg_entry_eq]
  generalize (lg_sl ([.int p1, .int p2]) ++ List.replicate (2 - (lg_sl ([.int p1, .int p2])).length) Slot.unset).toArray = ls at hl ⊢
  have hl : lv_has ls 2 [(0, .int p1), (1, .int p2)] := hl
  unfold wx1_exponent at h
  refine lv_iload_n hx hb dX1_exponent_0 rfl (lv_at hl 0 rfl) ?_
  refine lv_iconst (v := 4) hx hb dX1_exponent_1 (by decide) ?_
  refine lv_iload_n hx hb dX1_exponent_2 rfl (lv_at hl 1 rfl) ?_
  refine lv_imul hx hb dX1_exponent_3 ?_
  refine m_ishr hx hb dX1_exponent_4 ?_
  refine lv_bipush (v := 15) hx hb dX1_exponent_5 (by decide) ?_
  refine lv_iand hx hb dX1_exponent_7 ?_
  exact W.iret (v := ((jshr p1 (4 * p2)) &&& 15)) hx hb hr (fun t ht hW => ⟨⟨((jshr p1 (4 * p2)) &&& 15), T, K, rfl, ⟨h, rfl, rfl⟩, kle.rf, rfl, rfl, by rw [ht]; exact hP, va_K.moved hW.alike hK⟩, hS.F ht⟩) hS.2.2 dX1_exponent_8
theorem cwx_X1_lexKey : yX1_lexKey.cls ≠ "java/lang/invoke/MethodHandle" ∧ yX1_lexKey.cls ≠ "java/lang/invoke/VarHandle" ∧ (parseMethodDescriptor yX1_lexKey.desc).map (fun d => d.parameters.length) = some 4 := by decide +kernel
def wx1_lexKey (p1 : Int32) (p2 : Int32) (p3 : Int32) (p4 : Int32) (K : XK) (T : XT) (post : Int32 → Prop) : Prop :=
  wx1_exponent p1 p2 K T (fun r_1 =>
  wx1_exponent p1 p3 K T (fun r_4 =>
  wx1_exponent p1 p4 K T (fun r_7 =>
  post (((256 * r_1) + (16 * r_4)) + r_7))))
set_option maxHeartbeats 4000000 in
theorem mx1_lexKey (l : Launch) (G : XG) (b : Nat) (hole : Nat → Prop) (p1 : Int32) (p2 : Int32) (p3 : Int32) (p4 : Int32) (K : XK) (T : XT)  (post : Int32 → Prop) (h : wx1_lexKey p1 p2 p3 p4 K T post) : Met l yX1_lexKey (ws_ yX1_lexKey cX1_lexKey 4 (some .int)) ({ frames := 1, cells := 0, slots := 0, locals := 21 } : Room) (xPc G b hole [.int p1, .int p2, .int p3, .int p4] K T) (xQ G b hole K 0 0 (ρ := Int32) eI (fun r T1 K1 => post r ∧ T1 = T ∧ K1 = K)) 0 0 (xA b hole) := by
  refine Met.ofW (cc := cX1_lexKey) (maxL := 4) (ret := (some .int)) (by decide) rfl ?_
  intro p e s m args below meth c s₁ B hml hv
  obtain ⟨rfl, hP, hK, hV⟩ := hv
  have hx := B.exec
  have hb := B.bytes
  have hr := B.returns
  have hts := atoms_spec (ws := ws_ yX1_lexKey cX1_lexKey 4 (some .int)) B.pre
  have hts : ∀ w ∈ lw_all, w.before _ s = true := fun w h => hts w (List.mem_cons_of_mem _ h)
  have hown : s.vm.findClass RX1 = some m.cls := findClass_of_methodNamed B.named
  have hlocks := B.notSynchronized
  have hb0 : b ≤ s.heap.size := by rw [hP.2.2.2]; exact Nat.le_add_right _ _
  have hS : va_S (xA b hole) s.heap s.heap [] := va_S.rf
  have hl := lv_entry ([.int p1, .int p2, .int p3, .int p4]) (n := 4) (Nat.le_of_ble_eq_true rfl)
  rw [lg_entry_eq]
  generalize (lg_sl ([.int p1, .int p2, .int p3, .int p4]) ++ List.replicate (4 - (lg_sl ([.int p1, .int p2, .int p3, .int p4])).length) Slot.unset).toArray = ls at hl ⊢
  have hl : lv_has ls 4 [(0, .int p1), (1, .int p2), (2, .int p3), (3, .int p4)] := hl
  unfold wx1_lexKey at h
  refine lv_sipush (v := 256) hx hb dX1_lexKey_0 (by decide) ?_
  refine lv_iload_n hx hb dX1_lexKey_3 rfl (lv_at hl 0 rfl) ?_
  refine lv_iload_n hx hb dX1_lexKey_4 rfl (lv_at hl 1 rfl) ?_
  refine x_cS (As := [.int p1, .int p2]) (rest := [.int 256]) ⟨hx, hb, hml, hown, hts⟩ (mx1_exponent l G b hole p1 p2 K T  _ h) (va_cwS 2 hts (lw_S q723 q724 q118 q725) rfl rfl rfl cwx_X1_exponent ⟨Nat.le_of_ble_eq_true rfl, Nat.le_of_ble_eq_true rfl⟩) hK hV hb0 hP hS rfl hl.1 rfl (Nat.le_of_ble_eq_true rfl) dX1_lexKey_5 ⟨by first | exact Nat.zero_le _ | (show _ + _ ≤ Z - kc K0; omega), by first | exact Nat.zero_le _ | (show _ + _ ≤ Y - ks K0; omega)⟩ (fun r_1 T1 K1 H locs h hle1 hc1 hs1 hP hS => ?_)
  obtain ⟨h, hTe, hKe⟩ := h
  rw [hTe, hKe] at hP
  refine lv_imul hx hb dX1_lexKey_8 ?_
  refine lv_bipush (v := 16) hx hb dX1_lexKey_9 (by decide) ?_
  refine lv_iload_n hx hb dX1_lexKey_11 rfl (lv_at hl 0 rfl) ?_
  refine lv_iload_n hx hb dX1_lexKey_12 rfl (lv_at hl 2 rfl) ?_
  refine x_cS (As := [.int p1, .int p3]) (rest := [.int 16, .int (256 * r_1)]) ⟨hx, hb, hml, hown, hts⟩ (mx1_exponent l G b hole p1 p3 K T  _ h) (va_cwS 2 hts (lw_S q723 q724 q118 q725) rfl rfl rfl cwx_X1_exponent ⟨Nat.le_of_ble_eq_true rfl, Nat.le_of_ble_eq_true rfl⟩) hK hV hb0 hP hS rfl hl.1 rfl (Nat.le_of_ble_eq_true rfl) dX1_lexKey_13 ⟨by first | exact Nat.zero_le _ | (show _ + _ ≤ Z - kc K0; omega), by first | exact Nat.zero_le _ | (show _ + _ ≤ Y - ks K0; omega)⟩ (fun r_4 T1 K1 H locs h hle1 hc1 hs1 hP hS => ?_)
  obtain ⟨h, hTe, hKe⟩ := h
  rw [hTe, hKe] at hP
  refine lv_imul hx hb dX1_lexKey_16 ?_
  refine lv_iadd hx hb dX1_lexKey_17 ?_
  refine lv_iload_n hx hb dX1_lexKey_18 rfl (lv_at hl 0 rfl) ?_
  refine lv_iload_n hx hb dX1_lexKey_19 rfl (lv_at hl 3 rfl) ?_
  refine x_cS (As := [.int p1, .int p4]) (rest := [.int ((256 * r_1) + (16 * r_4))]) ⟨hx, hb, hml, hown, hts⟩ (mx1_exponent l G b hole p1 p4 K T  _ h) (va_cwS 2 hts (lw_S q723 q724 q118 q725) rfl rfl rfl cwx_X1_exponent ⟨Nat.le_of_ble_eq_true rfl, Nat.le_of_ble_eq_true rfl⟩) hK hV hb0 hP hS rfl hl.1 rfl (Nat.le_of_ble_eq_true rfl) dX1_lexKey_20 ⟨by first | exact Nat.zero_le _ | (show _ + _ ≤ Z - kc K0; omega), by first | exact Nat.zero_le _ | (show _ + _ ≤ Y - ks K0; omega)⟩ (fun r_7 T1 K1 H locs h hle1 hc1 hs1 hP hS => ?_)
  obtain ⟨h, hTe, hKe⟩ := h
  rw [hTe, hKe] at hP
  refine lv_iadd hx hb dX1_lexKey_23 ?_
  exact W.iret (v := (((256 * r_1) + (16 * r_4)) + r_7)) hx hb hr (fun t ht hW => ⟨⟨(((256 * r_1) + (16 * r_4)) + r_7), T, K, rfl, ⟨h, rfl, rfl⟩, kle.rf, rfl, rfl, by rw [ht]; exact hP, va_K.moved hW.alike hK⟩, hS.F ht⟩) hS.2.2 dX1_lexKey_24
theorem cwx_X1_lambda_orderOf_0 : yX1_lambda_orderOf_0.cls ≠ "java/lang/invoke/MethodHandle" ∧ yX1_lambda_orderOf_0.cls ≠ "java/lang/invoke/VarHandle" ∧ (parseMethodDescriptor yX1_lambda_orderOf_0.desc).map (fun d => d.parameters.length) = some 4 := by decide +kernel
def wx1_lambda_orderOf_0 (p1 : Int32) (p2 : Int32) (p3 : Int32) (p4 : Int32) (K : XK) (T : XT) (post : Int32 → Prop) : Prop :=
  wx1_lexKey p4 p1 p2 p3 K T (fun r_1 =>
  post r_1)
set_option maxHeartbeats 4000000 in
theorem mx1_lambda_orderOf_0 (l : Launch) (G : XG) (b : Nat) (hole : Nat → Prop) (p1 : Int32) (p2 : Int32) (p3 : Int32) (p4 : Int32) (K : XK) (T : XT)  (post : Int32 → Prop) (h : wx1_lambda_orderOf_0 p1 p2 p3 p4 K T post) : Met l yX1_lambda_orderOf_0 (ws_ yX1_lambda_orderOf_0 cX1_lambda_orderOf_0 4 (some .int)) ({ frames := 2, cells := 0, slots := 0, locals := 44 } : Room) (xPc G b hole [.int p1, .int p2, .int p3, .int p4] K T) (xQ G b hole K 0 0 (ρ := Int32) eI (fun r T1 K1 => post r ∧ T1 = T ∧ K1 = K)) 0 0 (xA b hole) := by
  refine Met.ofW (cc := cX1_lambda_orderOf_0) (maxL := 4) (ret := (some .int)) (by decide) rfl ?_
  intro p e s m args below meth c s₁ B hml hv
  obtain ⟨rfl, hP, hK, hV⟩ := hv
  have hx := B.exec
  have hb := B.bytes
  have hr := B.returns
  have hts := atoms_spec (ws := ws_ yX1_lambda_orderOf_0 cX1_lambda_orderOf_0 4 (some .int)) B.pre
  have hts : ∀ w ∈ lw_all, w.before _ s = true := fun w h => hts w (List.mem_cons_of_mem _ h)
  have hown : s.vm.findClass RX1 = some m.cls := findClass_of_methodNamed B.named
  have hlocks := B.notSynchronized
  have hb0 : b ≤ s.heap.size := by rw [hP.2.2.2]; exact Nat.le_add_right _ _
  have hS : va_S (xA b hole) s.heap s.heap [] := va_S.rf
  have hl := lv_entry ([.int p1, .int p2, .int p3, .int p4]) (n := 4) (Nat.le_of_ble_eq_true rfl)
  rw [lg_entry_eq]
  generalize (lg_sl ([.int p1, .int p2, .int p3, .int p4]) ++ List.replicate (4 - (lg_sl ([.int p1, .int p2, .int p3, .int p4])).length) Slot.unset).toArray = ls at hl ⊢
  have hl : lv_has ls 4 [(0, .int p1), (1, .int p2), (2, .int p3), (3, .int p4)] := hl
  unfold wx1_lambda_orderOf_0 at h
  refine lv_iload_n hx hb dX1_lambda_orderOf_0_0 rfl (lv_at hl 3 rfl) ?_
  refine lv_iload_n hx hb dX1_lambda_orderOf_0_1 rfl (lv_at hl 0 rfl) ?_
  refine lv_iload_n hx hb dX1_lambda_orderOf_0_2 rfl (lv_at hl 1 rfl) ?_
  refine lv_iload_n hx hb dX1_lambda_orderOf_0_3 rfl (lv_at hl 2 rfl) ?_
  refine x_cS (As := [.int p4, .int p1, .int p2, .int p3]) (rest := []) ⟨hx, hb, hml, hown, hts⟩ (mx1_lexKey l G b hole p4 p1 p2 p3 K T  _ h) (va_cwS 4 hts (lw_S q720 q721 q118 q722) rfl rfl rfl cwx_X1_lexKey ⟨Nat.le_of_ble_eq_true rfl, Nat.le_of_ble_eq_true rfl⟩) hK hV hb0 hP hS rfl hl.1 rfl (Nat.le_of_ble_eq_true rfl) dX1_lambda_orderOf_0_4 ⟨by first | exact Nat.zero_le _ | (show _ + _ ≤ Z - kc K0; omega), by first | exact Nat.zero_le _ | (show _ + _ ≤ Y - ks K0; omega)⟩ (fun r_1 T1 K1 H locs h hle1 hc1 hs1 hP hS => ?_)
  obtain ⟨h, hTe, hKe⟩ := h
  rw [hTe, hKe] at hP
  exact W.iret (v := r_1) hx hb hr (fun t ht hW => ⟨⟨r_1, T, K, rfl, ⟨h, rfl, rfl⟩, kle.rf, rfl, rfl, by rw [ht]; exact hP, va_K.moved hW.alike hK⟩, hS.F ht⟩) hS.2.2 dX1_lambda_orderOf_0_7
theorem cwx_X1_sum : yX1_sum.cls ≠ "java/lang/invoke/MethodHandle" ∧ yX1_sum.cls ≠ "java/lang/invoke/VarHandle" ∧ (parseMethodDescriptor yX1_sum.desc).map (fun d => d.parameters.length) = some 1 := by decide +kernel
def wx1_sum (p1 : Int32) (K : XK) (T : XT) (post : Int32 → Prop) : Prop :=
  wx1_exponent p1 0 K T (fun r_1 =>
  wx1_exponent p1 1 K T (fun r_4 =>
  wx1_exponent p1 2 K T (fun r_7 =>
  post ((r_1 + r_4) + r_7))))
set_option maxHeartbeats 4000000 in
theorem mx1_sum (l : Launch) (G : XG) (b : Nat) (hole : Nat → Prop) (p1 : Int32) (K : XK) (T : XT)  (post : Int32 → Prop) (h : wx1_sum p1 K T post) : Met l yX1_sum (ws_ yX1_sum cX1_sum 1 (some .int)) ({ frames := 1, cells := 0, slots := 0, locals := 21 } : Room) (xPc G b hole [.int p1] K T) (xQ G b hole K 0 0 (ρ := Int32) eI (fun r T1 K1 => post r ∧ T1 = T ∧ K1 = K)) 0 0 (xA b hole) := by
  refine Met.ofW (cc := cX1_sum) (maxL := 1) (ret := (some .int)) (by decide) rfl ?_
  intro p e s m args below meth c s₁ B hml hv
  obtain ⟨rfl, hP, hK, hV⟩ := hv
  have hx := B.exec
  have hb := B.bytes
  have hr := B.returns
  have hts := atoms_spec (ws := ws_ yX1_sum cX1_sum 1 (some .int)) B.pre
  have hts : ∀ w ∈ lw_all, w.before _ s = true := fun w h => hts w (List.mem_cons_of_mem _ h)
  have hown : s.vm.findClass RX1 = some m.cls := findClass_of_methodNamed B.named
  have hlocks := B.notSynchronized
  have hb0 : b ≤ s.heap.size := by rw [hP.2.2.2]; exact Nat.le_add_right _ _
  have hS : va_S (xA b hole) s.heap s.heap [] := va_S.rf
  have hl := lv_entry ([.int p1]) (n := 1) (Nat.le_of_ble_eq_true rfl)
  rw [lg_entry_eq]
  generalize (lg_sl ([.int p1]) ++ List.replicate (1 - (lg_sl ([.int p1])).length) Slot.unset).toArray = ls at hl ⊢
  have hl : lv_has ls 1 [(0, .int p1)] := hl
  unfold wx1_sum at h
  refine lv_iload_n hx hb dX1_sum_0 rfl (lv_at hl 0 rfl) ?_
  refine lv_iconst (v := 0) hx hb dX1_sum_1 (by decide) ?_
  refine x_cS (As := [.int p1, .int 0]) (rest := []) ⟨hx, hb, hml, hown, hts⟩ (mx1_exponent l G b hole p1 0 K T  _ h) (va_cwS 2 hts (lw_S q723 q724 q118 q725) rfl rfl rfl cwx_X1_exponent ⟨Nat.le_of_ble_eq_true rfl, Nat.le_of_ble_eq_true rfl⟩) hK hV hb0 hP hS rfl hl.1 rfl (Nat.le_of_ble_eq_true rfl) dX1_sum_2 ⟨by first | exact Nat.zero_le _ | (show _ + _ ≤ Z - kc K0; omega), by first | exact Nat.zero_le _ | (show _ + _ ≤ Y - ks K0; omega)⟩ (fun r_1 T1 K1 H locs h hle1 hc1 hs1 hP hS => ?_)
  obtain ⟨h, hTe, hKe⟩ := h
  rw [hTe, hKe] at hP
  refine lv_iload_n hx hb dX1_sum_5 rfl (lv_at hl 0 rfl) ?_
  refine lv_iconst (v := 1) hx hb dX1_sum_6 (by decide) ?_
  refine x_cS (As := [.int p1, .int 1]) (rest := [.int r_1]) ⟨hx, hb, hml, hown, hts⟩ (mx1_exponent l G b hole p1 1 K T  _ h) (va_cwS 2 hts (lw_S q723 q724 q118 q725) rfl rfl rfl cwx_X1_exponent ⟨Nat.le_of_ble_eq_true rfl, Nat.le_of_ble_eq_true rfl⟩) hK hV hb0 hP hS rfl hl.1 rfl (Nat.le_of_ble_eq_true rfl) dX1_sum_7 ⟨by first | exact Nat.zero_le _ | (show _ + _ ≤ Z - kc K0; omega), by first | exact Nat.zero_le _ | (show _ + _ ≤ Y - ks K0; omega)⟩ (fun r_4 T1 K1 H locs h hle1 hc1 hs1 hP hS => ?_)
  obtain ⟨h, hTe, hKe⟩ := h
  rw [hTe, hKe] at hP
  refine lv_iadd hx hb dX1_sum_10 ?_
  refine lv_iload_n hx hb dX1_sum_11 rfl (lv_at hl 0 rfl) ?_
  refine lv_iconst (v := 2) hx hb dX1_sum_12 (by decide) ?_
  refine x_cS (As := [.int p1, .int 2]) (rest := [.int (r_1 + r_4)]) ⟨hx, hb, hml, hown, hts⟩ (mx1_exponent l G b hole p1 2 K T  _ h) (va_cwS 2 hts (lw_S q723 q724 q118 q725) rfl rfl rfl cwx_X1_exponent ⟨Nat.le_of_ble_eq_true rfl, Nat.le_of_ble_eq_true rfl⟩) hK hV hb0 hP hS rfl hl.1 rfl (Nat.le_of_ble_eq_true rfl) dX1_sum_13 ⟨by first | exact Nat.zero_le _ | (show _ + _ ≤ Z - kc K0; omega), by first | exact Nat.zero_le _ | (show _ + _ ≤ Y - ks K0; omega)⟩ (fun r_7 T1 K1 H locs h hle1 hc1 hs1 hP hS => ?_)
  obtain ⟨h, hTe, hKe⟩ := h
  rw [hTe, hKe] at hP
  refine lv_iadd hx hb dX1_sum_16 ?_
  exact W.iret (v := ((r_1 + r_4) + r_7)) hx hb hr (fun t ht hW => ⟨⟨((r_1 + r_4) + r_7), T, K, rfl, ⟨h, rfl, rfl⟩, kle.rf, rfl, rfl, by rw [ht]; exact hP, va_K.moved hW.alike hK⟩, hS.F ht⟩) hS.2.2 dX1_sum_17
theorem cwx_X1_lambda_orderOf_1 : yX1_lambda_orderOf_1.cls ≠ "java/lang/invoke/MethodHandle" ∧ yX1_lambda_orderOf_1.cls ≠ "java/lang/invoke/VarHandle" ∧ (parseMethodDescriptor yX1_lambda_orderOf_1.desc).map (fun d => d.parameters.length) = some 4 := by decide +kernel
def wx1_lambda_orderOf_1 (p1 : Int32) (p2 : Int32) (p3 : Int32) (p4 : Int32) (K : XK) (T : XT) (post : Int32 → Prop) : Prop :=
  wx1_sum p4 K T (fun r_1 =>
  wx1_lexKey p4 p1 p2 p3 K T (fun r_4 =>
  post ((4096 * r_1) + r_4)))
set_option maxHeartbeats 4000000 in
theorem mx1_lambda_orderOf_1 (l : Launch) (G : XG) (b : Nat) (hole : Nat → Prop) (p1 : Int32) (p2 : Int32) (p3 : Int32) (p4 : Int32) (K : XK) (T : XT)  (post : Int32 → Prop) (h : wx1_lambda_orderOf_1 p1 p2 p3 p4 K T post) : Met l yX1_lambda_orderOf_1 (ws_ yX1_lambda_orderOf_1 cX1_lambda_orderOf_1 4 (some .int)) ({ frames := 2, cells := 0, slots := 0, locals := 44 } : Room) (xPc G b hole [.int p1, .int p2, .int p3, .int p4] K T) (xQ G b hole K 0 0 (ρ := Int32) eI (fun r T1 K1 => post r ∧ T1 = T ∧ K1 = K)) 0 0 (xA b hole) := by
  refine Met.ofW (cc := cX1_lambda_orderOf_1) (maxL := 4) (ret := (some .int)) (by decide) rfl ?_
  intro p e s m args below meth c s₁ B hml hv
  obtain ⟨rfl, hP, hK, hV⟩ := hv
  have hx := B.exec
  have hb := B.bytes
  have hr := B.returns
  have hts := atoms_spec (ws := ws_ yX1_lambda_orderOf_1 cX1_lambda_orderOf_1 4 (some .int)) B.pre
  have hts : ∀ w ∈ lw_all, w.before _ s = true := fun w h => hts w (List.mem_cons_of_mem _ h)
  have hown : s.vm.findClass RX1 = some m.cls := findClass_of_methodNamed B.named
  have hlocks := B.notSynchronized
  have hb0 : b ≤ s.heap.size := by rw [hP.2.2.2]; exact Nat.le_add_right _ _
  have hS : va_S (xA b hole) s.heap s.heap [] := va_S.rf
  have hl := lv_entry ([.int p1, .int p2, .int p3, .int p4]) (n := 4) (Nat.le_of_ble_eq_true rfl)
  rw [lg_entry_eq]
  generalize (lg_sl ([.int p1, .int p2, .int p3, .int p4]) ++ List.replicate (4 - (lg_sl ([.int p1, .int p2, .int p3, .int p4])).length) Slot.unset).toArray = ls at hl ⊢
  have hl : lv_has ls 4 [(0, .int p1), (1, .int p2), (2, .int p3), (3, .int p4)] := hl
  unfold wx1_lambda_orderOf_1 at h
  refine lv_sipush (v := 4096) hx hb dX1_lambda_orderOf_1_0 (by decide) ?_
  refine lv_iload_n hx hb dX1_lambda_orderOf_1_3 rfl (lv_at hl 3 rfl) ?_
  refine x_cS (As := [.int p4]) (rest := [.int 4096]) ⟨hx, hb, hml, hown, hts⟩ (mx1_sum l G b hole p4 K T  _ h) (va_cwS 1 hts (lw_S q728 q729 q118 q730) rfl rfl rfl cwx_X1_sum ⟨Nat.le_of_ble_eq_true rfl, Nat.le_of_ble_eq_true rfl⟩) hK hV hb0 hP hS rfl hl.1 rfl (Nat.le_of_ble_eq_true rfl) dX1_lambda_orderOf_1_4 ⟨by first | exact Nat.zero_le _ | (show _ + _ ≤ Z - kc K0; omega), by first | exact Nat.zero_le _ | (show _ + _ ≤ Y - ks K0; omega)⟩ (fun r_1 T1 K1 H locs h hle1 hc1 hs1 hP hS => ?_)
  obtain ⟨h, hTe, hKe⟩ := h
  rw [hTe, hKe] at hP
  refine lv_imul hx hb dX1_lambda_orderOf_1_7 ?_
  refine lv_iload_n hx hb dX1_lambda_orderOf_1_8 rfl (lv_at hl 3 rfl) ?_
  refine lv_iload_n hx hb dX1_lambda_orderOf_1_9 rfl (lv_at hl 0 rfl) ?_
  refine lv_iload_n hx hb dX1_lambda_orderOf_1_10 rfl (lv_at hl 1 rfl) ?_
  refine lv_iload_n hx hb dX1_lambda_orderOf_1_11 rfl (lv_at hl 2 rfl) ?_
  refine x_cS (As := [.int p4, .int p1, .int p2, .int p3]) (rest := [.int (4096 * r_1)]) ⟨hx, hb, hml, hown, hts⟩ (mx1_lexKey l G b hole p4 p1 p2 p3 K T  _ h) (va_cwS 4 hts (lw_S q720 q721 q118 q722) rfl rfl rfl cwx_X1_lexKey ⟨Nat.le_of_ble_eq_true rfl, Nat.le_of_ble_eq_true rfl⟩) hK hV hb0 hP hS rfl hl.1 rfl (Nat.le_of_ble_eq_true rfl) dX1_lambda_orderOf_1_12 ⟨by first | exact Nat.zero_le _ | (show _ + _ ≤ Z - kc K0; omega), by first | exact Nat.zero_le _ | (show _ + _ ≤ Y - ks K0; omega)⟩ (fun r_4 T1 K1 H locs h hle1 hc1 hs1 hP hS => ?_)
  obtain ⟨h, hTe, hKe⟩ := h
  rw [hTe, hKe] at hP
  refine lv_iadd hx hb dX1_lambda_orderOf_1_15 ?_
  exact W.iret (v := ((4096 * r_1) + r_4)) hx hb hr (fun t ht hW => ⟨⟨((4096 * r_1) + r_4), T, K, rfl, ⟨h, rfl, rfl⟩, kle.rf, rfl, rfl, by rw [ht]; exact hP, va_K.moved hW.alike hK⟩, hS.F ht⟩) hS.2.2 dX1_lambda_orderOf_1_16
theorem cwx_X1_lambda_orderOf_2 : yX1_lambda_orderOf_2.cls ≠ "java/lang/invoke/MethodHandle" ∧ yX1_lambda_orderOf_2.cls ≠ "java/lang/invoke/VarHandle" ∧ (parseMethodDescriptor yX1_lambda_orderOf_2.desc).map (fun d => d.parameters.length) = some 4 := by decide +kernel
def wx1_lambda_orderOf_2 (p1 : Int32) (p2 : Int32) (p3 : Int32) (p4 : Int32) (K : XK) (T : XT) (post : Int32 → Prop) : Prop :=
  wx1_sum p4 K T (fun r_1 =>
  wx1_lexKey p4 p1 p2 p3 K T (fun r_4 =>
  post (((4096 * r_1) + 4095) - r_4)))
set_option maxHeartbeats 4000000 in
theorem mx1_lambda_orderOf_2 (l : Launch) (G : XG) (b : Nat) (hole : Nat → Prop) (p1 : Int32) (p2 : Int32) (p3 : Int32) (p4 : Int32) (K : XK) (T : XT)  (post : Int32 → Prop) (h : wx1_lambda_orderOf_2 p1 p2 p3 p4 K T post) : Met l yX1_lambda_orderOf_2 (ws_ yX1_lambda_orderOf_2 cX1_lambda_orderOf_2 4 (some .int)) ({ frames := 2, cells := 0, slots := 0, locals := 44 } : Room) (xPc G b hole [.int p1, .int p2, .int p3, .int p4] K T) (xQ G b hole K 0 0 (ρ := Int32) eI (fun r T1 K1 => post r ∧ T1 = T ∧ K1 = K)) 0 0 (xA b hole) := by
  refine Met.ofW (cc := cX1_lambda_orderOf_2) (maxL := 4) (ret := (some .int)) (by decide) rfl ?_
  intro p e s m args below meth c s₁ B hml hv
  obtain ⟨rfl, hP, hK, hV⟩ := hv
  have hx := B.exec
  have hb := B.bytes
  have hr := B.returns
  have hts := atoms_spec (ws := ws_ yX1_lambda_orderOf_2 cX1_lambda_orderOf_2 4 (some .int)) B.pre
  have hts : ∀ w ∈ lw_all, w.before _ s = true := fun w h => hts w (List.mem_cons_of_mem _ h)
  have hown : s.vm.findClass RX1 = some m.cls := findClass_of_methodNamed B.named
  have hlocks := B.notSynchronized
  have hb0 : b ≤ s.heap.size := by rw [hP.2.2.2]; exact Nat.le_add_right _ _
  have hS : va_S (xA b hole) s.heap s.heap [] := va_S.rf
  have hl := lv_entry ([.int p1, .int p2, .int p3, .int p4]) (n := 4) (Nat.le_of_ble_eq_true rfl)
  rw [lg_entry_eq]
  generalize (lg_sl ([.int p1, .int p2, .int p3, .int p4]) ++ List.replicate (4 - (lg_sl ([.int p1, .int p2, .int p3, .int p4])).length) Slot.unset).toArray = ls at hl ⊢
  have hl : lv_has ls 4 [(0, .int p1), (1, .int p2), (2, .int p3), (3, .int p4)] := hl
  unfold wx1_lambda_orderOf_2 at h
  refine lv_sipush (v := 4096) hx hb dX1_lambda_orderOf_2_0 (by decide) ?_
  refine lv_iload_n hx hb dX1_lambda_orderOf_2_3 rfl (lv_at hl 3 rfl) ?_
  refine x_cS (As := [.int p4]) (rest := [.int 4096]) ⟨hx, hb, hml, hown, hts⟩ (mx1_sum l G b hole p4 K T  _ h) (va_cwS 1 hts (lw_S q728 q729 q118 q730) rfl rfl rfl cwx_X1_sum ⟨Nat.le_of_ble_eq_true rfl, Nat.le_of_ble_eq_true rfl⟩) hK hV hb0 hP hS rfl hl.1 rfl (Nat.le_of_ble_eq_true rfl) dX1_lambda_orderOf_2_4 ⟨by first | exact Nat.zero_le _ | (show _ + _ ≤ Z - kc K0; omega), by first | exact Nat.zero_le _ | (show _ + _ ≤ Y - ks K0; omega)⟩ (fun r_1 T1 K1 H locs h hle1 hc1 hs1 hP hS => ?_)
  obtain ⟨h, hTe, hKe⟩ := h
  rw [hTe, hKe] at hP
  refine lv_imul hx hb dX1_lambda_orderOf_2_7 ?_
  refine lv_sipush (v := 4095) hx hb dX1_lambda_orderOf_2_8 (by decide) ?_
  refine lv_iadd hx hb dX1_lambda_orderOf_2_11 ?_
  refine lv_iload_n hx hb dX1_lambda_orderOf_2_12 rfl (lv_at hl 3 rfl) ?_
  refine lv_iload_n hx hb dX1_lambda_orderOf_2_13 rfl (lv_at hl 0 rfl) ?_
  refine lv_iload_n hx hb dX1_lambda_orderOf_2_14 rfl (lv_at hl 1 rfl) ?_
  refine lv_iload_n hx hb dX1_lambda_orderOf_2_15 rfl (lv_at hl 2 rfl) ?_
  refine x_cS (As := [.int p4, .int p1, .int p2, .int p3]) (rest := [.int ((4096 * r_1) + 4095)]) ⟨hx, hb, hml, hown, hts⟩ (mx1_lexKey l G b hole p4 p1 p2 p3 K T  _ h) (va_cwS 4 hts (lw_S q720 q721 q118 q722) rfl rfl rfl cwx_X1_lexKey ⟨Nat.le_of_ble_eq_true rfl, Nat.le_of_ble_eq_true rfl⟩) hK hV hb0 hP hS rfl hl.1 rfl (Nat.le_of_ble_eq_true rfl) dX1_lambda_orderOf_2_16 ⟨by first | exact Nat.zero_le _ | (show _ + _ ≤ Z - kc K0; omega), by first | exact Nat.zero_le _ | (show _ + _ ≤ Y - ks K0; omega)⟩ (fun r_4 T1 K1 H locs h hle1 hc1 hs1 hP hS => ?_)
  obtain ⟨h, hTe, hKe⟩ := h
  rw [hTe, hKe] at hP
  refine lv_isub hx hb dX1_lambda_orderOf_2_19 ?_
  exact W.iret (v := (((4096 * r_1) + 4095) - r_4)) hx hb hr (fun t ht hW => ⟨⟨(((4096 * r_1) + 4095) - r_4), T, K, rfl, ⟨h, rfl, rfl⟩, kle.rf, rfl, rfl, by rw [ht]; exact hP, va_K.moved hW.alike hK⟩, hS.F ht⟩) hS.2.2 dX1_lambda_orderOf_2_20
