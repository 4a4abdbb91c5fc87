set_option maxRecDepth 100000
theorem cwx_X1_add : yX1_add.cls = RX1 ∧ yX1_add.cls ≠ "java/lang/invoke/MethodHandle" ∧ yX1_add.cls ≠ "java/lang/invoke/VarHandle" ∧ (parseMethodDescriptor yX1_add.desc).map (fun d => d.parameters.length) = some 3 := by decide +kernel
def wx1_add (p1 : Int32) (p2 : Int32) (p3 : Int32) (K0 : XK) (T : XT) (Z Y : Nat) (post : Int32 → XT → XK → Prop) : Prop :=
  kc K0 + 1 ≤ Z ∧ ks K0 + 3 ≤ Y ∧ ∀ K_1 : XK, K_1 = knew K0 1 3 3 → ∀ T_2 : XT, T_2 = xnil T (kz K0) →
  ∃ j_3 : Nat, j_3 < kl K_1 (kz K0) ∧ 0 = nI j_3 ∧ ∀ T_4 : XT, T_4 = xwi T_2 (kz K0) j_3 p1 →
  ∃ j_5 : Nat, j_5 < kl K_1 (kz K0) ∧ 1 = nI j_5 ∧ ∀ T_6 : XT, T_6 = xwi T_4 (kz K0) j_5 p2 →
  ∃ j_7 : Nat, j_7 < kl K_1 (kz K0) ∧ 2 = nI j_7 ∧ ∀ T_8 : XT, T_8 = xwi T_6 (kz K0) j_7 p3 →
  wx1_is (kz K0) K_1 T_8 (fun r_9 =>
  wx1_why r_9 K_1 T_8 (fun r_12 =>
  wx1_isRefused r_12 K_1 T_8 (fun r_15 T_16 =>
  ((r_15 = 0 →
    ∃ v_18 : Nat, xr T_16 0 18 = some v_18 ∧
    ∃ j_19 : Nat, j_19 < kl K_1 v_18 ∧ p1 = nI j_19 ∧ ∃ v_20 : Nat, xr T_16 v_18 j_19 = some v_20 ∧
    ∃ v_21 : Nat, xr T_16 0 18 = some v_21 ∧
    ∃ j_22 : Nat, j_22 < kl K_1 v_21 ∧ p2 = nI j_22 ∧ ∃ v_23 : Nat, xr T_16 v_21 j_22 = some v_23 ∧
    ∃ Z_27 Y_28 : Nat, kc K_1 ≤ Z_27 ∧ Z_27 ≤ Z ∧ ks K_1 ≤ Y_28 ∧ Y_28 ≤ Y ∧ wx1_sum_2 v_20 v_23 1 0 K_1 T_16 Z_27 Y_28 (fun r_24 T_25 K_26 =>
    ∃ Z_32 Y_33 : Nat, kc K_26 ≤ Z_32 ∧ Z_32 ≤ Z ∧ ks K_26 ≤ Y_33 ∧ Y_33 ≤ Y ∧ wx1_lays r_24 p3 K_26 T_25 Z_32 Y_33 (fun r_29 T_30 K_31 =>
    post r_29 T_30 (kset K_31 Z Y)))) ∧
   (¬ (r_15 = 0) →
    post (-1) T_16 (kset K_1 Z Y))))))
set_option maxHeartbeats 4000000 in
theorem mx1_add (l : Launch) (G : XG) (b : Nat) (hole : Nat → Prop) (p1 : Int32) (p2 : Int32) (p3 : Int32) (K0 : XK) (T : XT) (Z Y : Nat) (hZ : kc K0 ≤ Z) (hY : ks K0 ≤ Y)  (post : Int32 → XT → XK → Prop) (h : wx1_add p1 p2 p3 K0 T Z Y post) : Met l yX1_add (ws_ yX1_add cX1_add 4 (some .int)) ({ frames := 6, cells := (Z - kc K0), slots := (Y - ks K0), locals := 143 } : Room) (xPc G b hole [.ref (b + 0), .int p1, .int p2, .int p3] K0 T) (xQ G b hole K0 (Z - kc K0) (Y - ks K0) (ρ := Int32) eI (fun r T1 K1 => post r T1 K1)) (Z - kc K0) (Y - ks K0) (xA b hole) := by
  refine Met.ofW (cc := cX1_add) (maxL := 4) (ret := (some .int)) (by decide) rfl ?_
  intro p e s m args below meth c s₁ B hml hv
  obtain ⟨rfl, hP, hK, hV⟩ := hv
  have hx := B.exec
  have hb := B.bytes
  have hr := B.returns
  have hts := atoms_spec (ws := ws_ yX1_add cX1_add 4 (some .int)) B.pre
  have hts : ∀ w ∈ lw_all, w.before _ s = true := fun w h => hts w (List.mem_cons_of_mem _ h)
  have hown : s.vm.findClass RX1 = some m.cls := findClass_of_methodNamed B.named
  have hlocks := B.notSynchronized
  have hb0 : b ≤ s.heap.size := by rw [hP.2.2.2]; exact Nat.le_add_right _ _
  have hS : va_S (xA b hole) s.heap s.heap [] := va_S.rf
  have hl := lv_entry ([.ref (b + 0), .int p1, .int p2, .int p3]) (n := 4) (Nat.le_of_ble_eq_true rfl)
  rw [lg_entry_eq]
  generalize (lg_sl ([.ref (b + 0), .int p1, .int p2, .int p3]) ++ List.replicate (4 - (lg_sl ([.ref (b + 0), .int p1, .int p2, .int p3])).length) Slot.unset).toArray = ls at hl ⊢
  have hl : lv_has ls 4 [(0, .ref (b + 0)), (1, .int p1), (2, .int p2), (3, .int p3)] := hl
  have hle0 : kle K0 K0 := kle.rf
  have hcn : kc K0 + 0 = kc K0 := rfl
  have hsn : ks K0 + 0 = ks K0 := rfl
  have hzz := hZ
  have hyy := hY
  unfold wx1_add at h
  refine lv_aload_n hx hb dX1_add_0 rfl (lv_at hl 0 rfl) ?_
  refine lv_aload_n hx hb dX1_add_1 rfl (lv_at hl 0 rfl) ?_
  refine lv_iconst (v := 3) hx hb dX1_add_2 (by decide) ?_
  obtain ⟨hc1, hs1, h⟩ := h
  obtain ⟨K_1, eK_1⟩ : ∃ z : XK, z = knew K0 1 3 3 := ⟨_, rfl⟩
  obtain ⟨T_2, eT_2⟩ : ∃ z : XT, z = xnil T (kz K0) := ⟨_, rfl⟩
  have h := h K_1 eK_1 T_2 eT_2
  have hle1 : kle K0 K_1 := by rw [eK_1]; exact kle.new hP.2.2.1 _ _ _
  refine x_newai (N := 3) hx hb hts q170 hK hP hS (by decide) (by decide) (by show _ + 1 ≤ Z - kc K0; omega) (by show _ + _ ≤ Y - ks K0; omega) dX1_add_3 (fun H hP hS => ?_)
  rw [← eK_1, ← eT_2] at hP
  have hk_n1 : kd K_1 (kz K0) = 1 := by rw [eK_1]; exact knew_kd
  have hle0 := hle0.tr hle1
  have hcn : kc K0 + (0 + 1) = kc K_1 := by rw [eK_1]; show _ = kc K0 + 1; omega
  have hsn : ks K0 + (0 + 3) = ks K_1 := by rw [eK_1]; show _ = ks K0 + 3; omega
  have hzz : kc K_1 ≤ Z := by rw [eK_1]; exact hc1
  have hyy : ks K_1 ≤ Y := by rw [eK_1]; exact hs1
  refine lv_dup hx hb dX1_add_5 rfl ?_
  refine lv_iconst (v := 0) hx hb dX1_add_6 (by decide) ?_
  refine lv_iload_n hx hb dX1_add_7 rfl (lv_at hl 1 rfl) ?_
  obtain ⟨j_3, hj_3, ej_3, h⟩ := h
  obtain ⟨T_4, eT_4⟩ : ∃ z : XT, z = xwi T_2 (kz K0) j_3 p1 := ⟨_, rfl⟩
  have h := h T_4 eT_4
  refine x_iast hx hb hK hP hS hk_n1 ej_3 hj_3 dX1_add_8 (fun H locs hP hS => ?_)
  rw [← eT_4] at hP
  refine lv_dup hx hb dX1_add_9 rfl ?_
  refine lv_iconst (v := 1) hx hb dX1_add_10 (by decide) ?_
  refine lv_iload_n hx hb dX1_add_11 rfl (lv_at hl 2 rfl) ?_
  obtain ⟨j_5, hj_5, ej_5, h⟩ := h
  obtain ⟨T_6, eT_6⟩ : ∃ z : XT, z = xwi T_4 (kz K0) j_5 p2 := ⟨_, rfl⟩
  have h := h T_6 eT_6
  refine x_iast hx hb hK hP hS hk_n1 ej_5 hj_5 dX1_add_12 (fun H locs hP hS => ?_)
  rw [← eT_6] at hP
  refine lv_dup hx hb dX1_add_13 rfl ?_
  refine lv_iconst (v := 2) hx hb dX1_add_14 (by decide) ?_
  refine lv_iload_n hx hb dX1_add_15 rfl (lv_at hl 3 rfl) ?_
  obtain ⟨j_7, hj_7, ej_7, h⟩ := h
  obtain ⟨T_8, eT_8⟩ : ∃ z : XT, z = xwi T_6 (kz K0) j_7 p3 := ⟨_, rfl⟩
  have h := h T_8 eT_8
  refine x_iast hx hb hK hP hS hk_n1 ej_7 hj_7 dX1_add_16 (fun H locs hP hS => ?_)
  rw [← eT_8] at hP
  refine x_cS (As := [.ref (b + (kz K0))]) (rest := [.ref (b + 0), .ref (b + 0)]) ⟨hx, hb, hml, hown, hts⟩ (mx1_is l G b hole (kz K0) K_1 T_8 hk_n1 _ h) (va_cwS 1 hts (lw_S q793 q794 q118 q795) rfl rfl rfl cwx_X1_is ⟨Nat.le_of_ble_eq_true rfl, Nat.le_of_ble_eq_true rfl⟩) hK hV hb0 hP hS rfl hl.1 rfl (Nat.le_of_ble_eq_true rfl) dX1_add_17 ⟨by first | exact Nat.zero_le _ | (show _ + _ ≤ Z - kc K0; omega), by first | exact Nat.zero_le _ | (show _ + _ ≤ Y - ks K0; omega)⟩ (fun r_9 T1 K1 H locs h hle1 hc1 hs1 hP hS => ?_)
  obtain ⟨h, hTe, hKe⟩ := h
  rw [hTe, hKe] at hP
  refine x_cV (k := 0) (As := [.int r_9]) (rest := [.ref (b + 0)]) ⟨hx, hb, hml, hown, hts⟩ (mx1_why l G b hole r_9 K_1 T_8  _ h) (cwV 1 hts (lw_V q769 q771 qs24 q118 q772) rfl rfl rfl cwx_X1_why ⟨Nat.le_of_ble_eq_true rfl, Nat.le_of_ble_eq_true rfl⟩) (x_recv (CC := RX1) (ci := 0) hK hP (xs_0 hP) (by decide) (by decide) rfl (xE_8 (xs_0 hP))) hK hV hb0 hP hS rfl hl.1 rfl (Nat.le_of_ble_eq_true rfl) dX1_add_20 ⟨by first | exact Nat.zero_le _ | (show _ + _ ≤ Z - kc K0; omega), by first | exact Nat.zero_le _ | (show _ + _ ≤ Y - ks K0; omega)⟩ (fun r_12 T1 K1 H locs h hle1 hc1 hs1 hP hS => ?_)
  obtain ⟨h, hTe, hKe⟩ := h
  rw [hTe, hKe] at hP
  refine x_cV (k := 0) (As := [.int r_12]) (rest := []) ⟨hx, hb, hml, hown, hts⟩ (mx1_isRefused l G b hole r_12 K_1 T_8  _ h) (cwV 1 hts (lw_V q777 q779 qs26 q118 q780) rfl rfl rfl cwx_X1_isRefused ⟨Nat.le_of_ble_eq_true rfl, Nat.le_of_ble_eq_true rfl⟩) (x_recv (CC := RX1) (ci := 0) hK hP (xs_0 hP) (by decide) (by decide) rfl (xE_8 (xs_0 hP))) hK hV hb0 hP hS rfl hl.1 rfl (Nat.le_of_ble_eq_true rfl) dX1_add_23 ⟨by first | exact Nat.zero_le _ | (show _ + _ ≤ Z - kc K0; omega), by first | exact Nat.zero_le _ | (show _ + _ ≤ Y - ks K0; omega)⟩ (fun r_15 T1 K1 H locs h hle1 hc1 hs1 hP hS => ?_)
  obtain ⟨h, hKe⟩ := h
  rw [hKe] at hP
  generalize T1 = T_16 at h hP
  refine lv_if_eq (tgt := 33) hx hb dX1_add_26 (by decide) (fun c_34 => ?_) (fun c_34 => ?_)
  · have h := h.1 c_34
    refine lv_aload_n hx hb dX1_add_33 rfl (lv_at hl 0 rfl) ?_
    refine lv_aload_n hx hb dX1_add_34 rfl (lv_at hl 0 rfl) ?_
    refine lv_aload_n hx hb dX1_add_35 rfl (lv_at hl 0 rfl) ?_
    obtain ⟨v_18, ev_18, h⟩ := h
    refine x_get (CC := RX1) (TT := TX1) (N := 26) (ci := 0) (v := rfv b (xr T_16 0 18)) hx hb hts in_X1 hown hK hP (xs_0 hP) (by decide) (by decide) rfl (xE_8 (xs_0 hP)) 18 (by decide) q405 rfl rfl dX1_add_36 ?_
    refine x_some ev_18 ?_
    have hk_v_18 : kd K_1 v_18 = 3 := hP.ty (xs_0 hP) (by decide) ev_18
    refine lv_iload_n hx hb dX1_add_39 rfl (lv_at hl 1 rfl) ?_
    obtain ⟨j_19, hj_19, ej_19, v_20, ev_20, h⟩ := h
    refine x_aald3 hx hb hK hP hk_v_18 ej_19 hj_19 dX1_add_40 ?_
    refine x_some ev_20 ?_
    have hk_v_20 : kd K_1 v_20 = 2 := hP.ty hk_v_18 (by decide) ev_20
    refine lv_aload_n hx hb dX1_add_41 rfl (lv_at hl 0 rfl) ?_
    obtain ⟨v_21, ev_21, h⟩ := h
    refine x_get (CC := RX1) (TT := TX1) (N := 26) (ci := 0) (v := rfv b (xr T_16 0 18)) hx hb hts in_X1 hown hK hP (xs_0 hP) (by decide) (by decide) rfl (xE_8 (xs_0 hP)) 18 (by decide) q405 rfl rfl dX1_add_42 ?_
    refine x_some ev_21 ?_
    have hk_v_21 : kd K_1 v_21 = 3 := hP.ty (xs_0 hP) (by decide) ev_21
    refine lv_iload_n hx hb dX1_add_45 rfl (lv_at hl 2 rfl) ?_
    obtain ⟨j_22, hj_22, ej_22, v_23, ev_23, h⟩ := h
    refine x_aald3 hx hb hK hP hk_v_21 ej_22 hj_22 dX1_add_46 ?_
    refine x_some ev_23 ?_
    have hk_v_23 : kd K_1 v_23 = 2 := hP.ty hk_v_21 (by decide) ev_23
    refine lv_iconst (v := 1) hx hb dX1_add_47 (by decide) ?_
    refine lv_iconst (v := 0) hx hb dX1_add_48 (by decide) ?_
    obtain ⟨Z_27, Y_28, hz1, hz2, hy1, hy2, h⟩ := h
    refine x_cV (k := 0) (As := [.ref (b + v_20), .ref (b + v_23), .int 1, .int 0]) (rest := [.ref (b + 0)]) ⟨hx, hb, hml, hown, hts⟩ (mx1_sum_2 l G b hole v_20 v_23 1 0 K_1 T_16 Z_27 Y_28 hz1 hy1 hk_v_20 hk_v_23 _ h) (cwV 4 hts (lw_V q965 q967 qs42 q118 q968) rfl rfl rfl cwx_X1_sum_2 ⟨Nat.le_of_ble_eq_true rfl, Nat.le_of_ble_eq_true rfl⟩) (x_recv (CC := RX1) (ci := 0) hK hP (xs_0 hP) (by decide) (by decide) rfl (xE_8 (xs_0 hP))) hK hV hb0 hP hS rfl hl.1 rfl (Nat.le_of_ble_eq_true rfl) dX1_add_49 ⟨by first | exact Nat.zero_le _ | (show _ + _ ≤ Z - kc K0; omega), by first | exact Nat.zero_le _ | (show _ + _ ≤ Y - ks K0; omega)⟩ (fun r_24 T1 K1 H locs h hle1 hc1 hs1 hP hS => ?_)
    obtain ⟨h, hk_r_24⟩ := h
    generalize T1 = T_25 at h hP
    generalize K1 = K_26 at h hP hle1 hc1 hs1 hk_r_24
    have hle0 := hle0.tr hle1
    have hcn : kc K0 + ((0 + 1) + (Z_27 - kc K_1)) = kc K_26 := by omega
    have hsn : ks K0 + ((0 + 3) + (Y_28 - ks K_1)) = ks K_26 := by omega
    have hzz : kc K_26 ≤ Z := by omega
    have hyy : ks K_26 ≤ Y := by omega
    refine lv_iload_n hx hb dX1_add_52 rfl (lv_at hl 3 rfl) ?_
    obtain ⟨Z_32, Y_33, hz1, hz2, hy1, hy2, h⟩ := h
    refine x_cV (k := 0) (As := [rfv b r_24, .int p3]) (rest := []) ⟨hx, hb, hml, hown, hts⟩ (mx1_lays l G b hole r_24 p3 K_26 T_25 Z_32 Y_33 hz1 hy1 hk_r_24 _ h) (cwV 2 hts (lw_V q995 q997 qs43 q118 q998) rfl rfl rfl cwx_X1_lays ⟨Nat.le_of_ble_eq_true rfl, Nat.le_of_ble_eq_true rfl⟩) (x_recv (CC := RX1) (ci := 0) hK hP (xs_0 hP) (by decide) (by decide) rfl (xE_8 (xs_0 hP))) hK hV hb0 hP hS rfl hl.1 rfl (Nat.le_of_ble_eq_true rfl) dX1_add_53 ⟨by first | exact Nat.zero_le _ | (show _ + _ ≤ Z - kc K0; omega), by first | exact Nat.zero_le _ | (show _ + _ ≤ Y - ks K0; omega)⟩ (fun r_29 T1 K1 H locs h hle1 hc1 hs1 hP hS => ?_)
    generalize T1 = T_30 at h hP
    generalize K1 = K_31 at h hP hle1 hc1 hs1
    have hle0 := hle0.tr hle1
    have hcn : kc K0 + (((0 + 1) + (Z_27 - kc K_1)) + (Z_32 - kc K_26)) = kc K_31 := by omega
    have hsn : ks K0 + (((0 + 3) + (Y_28 - ks K_1)) + (Y_33 - ks K_26)) = ks K_31 := by omega
    have hzz : kc K_31 ≤ Z := by omega
    have hyy : ks K_31 ≤ Y := by omega
    refine W.widen (k := Z - kc K0) (n := Y - ks K0) (by omega) (by omega) ?_
    exact W.iret (v := r_29) hx hb hr (fun t ht hW => ⟨⟨r_29, T_30, (kset K_31 Z Y), rfl, h, hle0, (by show Z = _; omega), (by show Y = _; omega), by rw [ht]; exact hP, va_K.moved hW.alike hK⟩, hS.F ht⟩) hS.2.2 dX1_add_56
  · have h := h.2 c_34
    refine lv_iconst (v := (-1)) hx hb dX1_add_29 (by decide) ?_
    refine lv_goto (tgt := 56) hx hb dX1_add_30 (by decide) ?_
    refine W.widen (k := Z - kc K0) (n := Y - ks K0) (by omega) (by omega) ?_
    exact W.iret (v := (-1)) hx hb hr (fun t ht hW => ⟨⟨(-1), T_16, (kset K_1 Z Y), rfl, h, hle0, (by show Z = _; omega), (by show Y = _; omega), by rw [ht]; exact hP, va_K.moved hW.alike hK⟩, hS.F ht⟩) hS.2.2 dX1_add_56
theorem cwx_X1_less : yX1_less.cls = RX1 ∧ yX1_less.cls ≠ "java/lang/invoke/MethodHandle" ∧ yX1_less.cls ≠ "java/lang/invoke/VarHandle" ∧ (parseMethodDescriptor yX1_less.desc).map (fun d => d.parameters.length) = some 3 := by decide +kernel
def wx1_less (p1 : Int32) (p2 : Int32) (p3 : Int32) (K0 : XK) (T : XT) (Z Y : Nat) (post : Int32 → XT → XK → Prop) : Prop :=
  kc K0 + 1 ≤ Z ∧ ks K0 + 3 ≤ Y ∧ ∀ K_1 : XK, K_1 = knew K0 1 3 3 → ∀ T_2 : XT, T_2 = xnil T (kz K0) →
  ∃ j_3 : Nat, j_3 < kl K_1 (kz K0) ∧ 0 = nI j_3 ∧ ∀ T_4 : XT, T_4 = xwi T_2 (kz K0) j_3 p1 →
  ∃ j_5 : Nat, j_5 < kl K_1 (kz K0) ∧ 1 = nI j_5 ∧ ∀ T_6 : XT, T_6 = xwi T_4 (kz K0) j_5 p2 →
  ∃ j_7 : Nat, j_7 < kl K_1 (kz K0) ∧ 2 = nI j_7 ∧ ∀ T_8 : XT, T_8 = xwi T_6 (kz K0) j_7 p3 →
  wx1_is (kz K0) K_1 T_8 (fun r_9 =>
  wx1_why r_9 K_1 T_8 (fun r_12 =>
  wx1_isRefused r_12 K_1 T_8 (fun r_15 T_16 =>
  ((r_15 = 0 →
    ∃ v_18 : Nat, xr T_16 0 18 = some v_18 ∧
    ∃ j_19 : Nat, j_19 < kl K_1 v_18 ∧ p1 = nI j_19 ∧ ∃ v_20 : Nat, xr T_16 v_18 j_19 = some v_20 ∧
    ∃ v_21 : Nat, xr T_16 0 18 = some v_21 ∧
    ∃ j_22 : Nat, j_22 < kl K_1 v_21 ∧ p2 = nI j_22 ∧ ∃ v_23 : Nat, xr T_16 v_21 j_22 = some v_23 ∧
    ∃ Z_27 Y_28 : Nat, kc K_1 ≤ Z_27 ∧ Z_27 ≤ Z ∧ ks K_1 ≤ Y_28 ∧ Y_28 ≤ Y ∧ wx1_sum_2 v_20 v_23 ((xi T_16 0 0) - 1) 0 K_1 T_16 Z_27 Y_28 (fun r_24 T_25 K_26 =>
    ∃ Z_32 Y_33 : Nat, kc K_26 ≤ Z_32 ∧ Z_32 ≤ Z ∧ ks K_26 ≤ Y_33 ∧ Y_33 ≤ Y ∧ wx1_lays r_24 p3 K_26 T_25 Z_32 Y_33 (fun r_29 T_30 K_31 =>
    post r_29 T_30 (kset K_31 Z Y)))) ∧
   (¬ (r_15 = 0) →
    post (-1) T_16 (kset K_1 Z Y))))))
set_option maxHeartbeats 4000000 in
theorem mx1_less (l : Launch) (G : XG) (b : Nat) (hole : Nat → Prop) (p1 : Int32) (p2 : Int32) (p3 : Int32) (K0 : XK) (T : XT) (Z Y : Nat) (hZ : kc K0 ≤ Z) (hY : ks K0 ≤ Y)  (post : Int32 → XT → XK → Prop) (h : wx1_less p1 p2 p3 K0 T Z Y post) : Met l yX1_less (ws_ yX1_less cX1_less 4 (some .int)) ({ frames := 6, cells := (Z - kc K0), slots := (Y - ks K0), locals := 143 } : Room) (xPc G b hole [.ref (b + 0), .int p1, .int p2, .int p3] K0 T) (xQ G b hole K0 (Z - kc K0) (Y - ks K0) (ρ := Int32) eI (fun r T1 K1 => post r T1 K1)) (Z - kc K0) (Y - ks K0) (xA b hole) := by
  refine Met.ofW (cc := cX1_less) (maxL := 4) (ret := (some .int)) (by decide) rfl ?_
  intro p e s m args below meth c s₁ B hml hv
  obtain ⟨rfl, hP, hK, hV⟩ := hv
  have hx := B.exec
  have hb := B.bytes
  have hr := B.returns
  have hts := atoms_spec (ws := ws_ yX1_less cX1_less 4 (some .int)) B.pre
  have hts : ∀ w ∈ lw_all, w.before _ s = true := fun w h => hts w (List.mem_cons_of_mem _ h)
  have hown : s.vm.findClass RX1 = some m.cls := findClass_of_methodNamed B.named
  have hlocks := B.notSynchronized
  have hb0 : b ≤ s.heap.size := by rw [hP.2.2.2]; exact Nat.le_add_right _ _
  have hS : va_S (xA b hole) s.heap s.heap [] := va_S.rf
  have hl := lv_entry ([.ref (b + 0), .int p1, .int p2, .int p3]) (n := 4) (Nat.le_of_ble_eq_true rfl)
  rw [lg_entry_eq]
  generalize (lg_sl ([.ref (b + 0), .int p1, .int p2, .int p3]) ++ List.replicate (4 - (lg_sl ([.ref (b + 0), .int p1, .int p2, .int p3])).length) Slot.unset).toArray = ls at hl ⊢
  have hl : lv_has ls 4 [(0, .ref (b + 0)), (1, .int p1), (2, .int p2), (3, .int p3)] := hl
  have hle0 : kle K0 K0 := kle.rf
  have hcn : kc K0 + 0 = kc K0 := rfl
  have hsn : ks K0 + 0 = ks K0 := rfl
  have hzz := hZ
  have hyy := hY
  unfold wx1_less at h
  refine lv_aload_n hx hb dX1_less_0 rfl (lv_at hl 0 rfl) ?_
  refine lv_aload_n hx hb dX1_less_1 rfl (lv_at hl 0 rfl) ?_
  refine lv_iconst (v := 3) hx hb dX1_less_2 (by decide) ?_
  obtain ⟨hc1, hs1, h⟩ := h
  obtain ⟨K_1, eK_1⟩ : ∃ z : XK, z = knew K0 1 3 3 := ⟨_, rfl⟩
  obtain ⟨T_2, eT_2⟩ : ∃ z : XT, z = xnil T (kz K0) := ⟨_, rfl⟩
  have h := h K_1 eK_1 T_2 eT_2
  have hle1 : kle K0 K_1 := by rw [eK_1]; exact kle.new hP.2.2.1 _ _ _
  refine x_newai (N := 3) hx hb hts q170 hK hP hS (by decide) (by decide) (by show _ + 1 ≤ Z - kc K0; omega) (by show _ + _ ≤ Y - ks K0; omega) dX1_less_3 (fun H hP hS => ?_)
  rw [← eK_1, ← eT_2] at hP
  have hk_n1 : kd K_1 (kz K0) = 1 := by rw [eK_1]; exact knew_kd
  have hle0 := hle0.tr hle1
  have hcn : kc K0 + (0 + 1) = kc K_1 := by rw [eK_1]; show _ = kc K0 + 1; omega
  have hsn : ks K0 + (0 + 3) = ks K_1 := by rw [eK_1]; show _ = ks K0 + 3; omega
  have hzz : kc K_1 ≤ Z := by rw [eK_1]; exact hc1
  have hyy : ks K_1 ≤ Y := by rw [eK_1]; exact hs1
  refine lv_dup hx hb dX1_less_5 rfl ?_
  refine lv_iconst (v := 0) hx hb dX1_less_6 (by decide) ?_
  refine lv_iload_n hx hb dX1_less_7 rfl (lv_at hl 1 rfl) ?_
  obtain ⟨j_3, hj_3, ej_3, h⟩ := h
  obtain ⟨T_4, eT_4⟩ : ∃ z : XT, z = xwi T_2 (kz K0) j_3 p1 := ⟨_, rfl⟩
  have h := h T_4 eT_4
  refine x_iast hx hb hK hP hS hk_n1 ej_3 hj_3 dX1_less_8 (fun H locs hP hS => ?_)
  rw [← eT_4] at hP
  refine lv_dup hx hb dX1_less_9 rfl ?_
  refine lv_iconst (v := 1) hx hb dX1_less_10 (by decide) ?_
  refine lv_iload_n hx hb dX1_less_11 rfl (lv_at hl 2 rfl) ?_
  obtain ⟨j_5, hj_5, ej_5, h⟩ := h
  obtain ⟨T_6, eT_6⟩ : ∃ z : XT, z = xwi T_4 (kz K0) j_5 p2 := ⟨_, rfl⟩
  have h := h T_6 eT_6
  refine x_iast hx hb hK hP hS hk_n1 ej_5 hj_5 dX1_less_12 (fun H locs hP hS => ?_)
  rw [← eT_6] at hP
  refine lv_dup hx hb dX1_less_13 rfl ?_
  refine lv_iconst (v := 2) hx hb dX1_less_14 (by decide) ?_
  refine lv_iload_n hx hb dX1_less_15 rfl (lv_at hl 3 rfl) ?_
  obtain ⟨j_7, hj_7, ej_7, h⟩ := h
  obtain ⟨T_8, eT_8⟩ : ∃ z : XT, z = xwi T_6 (kz K0) j_7 p3 := ⟨_, rfl⟩
  have h := h T_8 eT_8
  refine x_iast hx hb hK hP hS hk_n1 ej_7 hj_7 dX1_less_16 (fun H locs hP hS => ?_)
  rw [← eT_8] at hP
  refine x_cS (As := [.ref (b + (kz K0))]) (rest := [.ref (b + 0), .ref (b + 0)]) ⟨hx, hb, hml, hown, hts⟩ (mx1_is l G b hole (kz K0) K_1 T_8 hk_n1 _ h) (va_cwS 1 hts (lw_S q793 q794 q118 q795) rfl rfl rfl cwx_X1_is ⟨Nat.le_of_ble_eq_true rfl, Nat.le_of_ble_eq_true rfl⟩) hK hV hb0 hP hS rfl hl.1 rfl (Nat.le_of_ble_eq_true rfl) dX1_less_17 ⟨by first | exact Nat.zero_le _ | (show _ + _ ≤ Z - kc K0; omega), by first | exact Nat.zero_le _ | (show _ + _ ≤ Y - ks K0; omega)⟩ (fun r_9 T1 K1 H locs h hle1 hc1 hs1 hP hS => ?_)
  obtain ⟨h, hTe, hKe⟩ := h
  rw [hTe, hKe] at hP
  refine x_cV (k := 0) (As := [.int r_9]) (rest := [.ref (b + 0)]) ⟨hx, hb, hml, hown, hts⟩ (mx1_why l G b hole r_9 K_1 T_8  _ h) (cwV 1 hts (lw_V q769 q771 qs24 q118 q772) rfl rfl rfl cwx_X1_why ⟨Nat.le_of_ble_eq_true rfl, Nat.le_of_ble_eq_true rfl⟩) (x_recv (CC := RX1) (ci := 0) hK hP (xs_0 hP) (by decide) (by decide) rfl (xE_8 (xs_0 hP))) hK hV hb0 hP hS rfl hl.1 rfl (Nat.le_of_ble_eq_true rfl) dX1_less_20 ⟨by first | exact Nat.zero_le _ | (show _ + _ ≤ Z - kc K0; omega), by first | exact Nat.zero_le _ | (show _ + _ ≤ Y - ks K0; omega)⟩ (fun r_12 T1 K1 H locs h hle1 hc1 hs1 hP hS => ?_)
  obtain ⟨h, hTe, hKe⟩ := h
  rw [hTe, hKe] at hP
  refine x_cV (k := 0) (As := [.int r_12]) (rest := []) ⟨hx, hb, hml, hown, hts⟩ (mx1_isRefused l G b hole r_12 K_1 T_8  _ h) (cwV 1 hts (lw_V q777 q779 qs26 q118 q780) rfl rfl rfl cwx_X1_isRefused ⟨Nat.le_of_ble_eq_true rfl, Nat.le_of_ble_eq_true rfl⟩) (x_recv (CC := RX1) (ci := 0) hK hP (xs_0 hP) (by decide) (by decide) rfl (xE_8 (xs_0 hP))) hK hV hb0 hP hS rfl hl.1 rfl (Nat.le_of_ble_eq_true rfl) dX1_less_23 ⟨by first | exact Nat.zero_le _ | (show _ + _ ≤ Z - kc K0; omega), by first | exact Nat.zero_le _ | (show _ + _ ≤ Y - ks K0; omega)⟩ (fun r_15 T1 K1 H locs h hle1 hc1 hs1 hP hS => ?_)
  obtain ⟨h, hKe⟩ := h
  rw [hKe] at hP
  generalize T1 = T_16 at h hP
  refine lv_if_eq (tgt := 33) hx hb dX1_less_26 (by decide) (fun c_34 => ?_) (fun c_34 => ?_)
  · have h := h.1 c_34
    refine lv_aload_n hx hb dX1_less_33 rfl (lv_at hl 0 rfl) ?_
    refine lv_aload_n hx hb dX1_less_34 rfl (lv_at hl 0 rfl) ?_
    refine lv_aload_n hx hb dX1_less_35 rfl (lv_at hl 0 rfl) ?_
    obtain ⟨v_18, ev_18, h⟩ := h
    refine x_get (CC := RX1) (TT := TX1) (N := 26) (ci := 0) (v := rfv b (xr T_16 0 18)) hx hb hts in_X1 hown hK hP (xs_0 hP) (by decide) (by decide) rfl (xE_8 (xs_0 hP)) 18 (by decide) q405 rfl rfl dX1_less_36 ?_
    refine x_some ev_18 ?_
    have hk_v_18 : kd K_1 v_18 = 3 := hP.ty (xs_0 hP) (by decide) ev_18
    refine lv_iload_n hx hb dX1_less_39 rfl (lv_at hl 1 rfl) ?_
    obtain ⟨j_19, hj_19, ej_19, v_20, ev_20, h⟩ := h
    refine x_aald3 hx hb hK hP hk_v_18 ej_19 hj_19 dX1_less_40 ?_
    refine x_some ev_20 ?_
    have hk_v_20 : kd K_1 v_20 = 2 := hP.ty hk_v_18 (by decide) ev_20
    refine lv_aload_n hx hb dX1_less_41 rfl (lv_at hl 0 rfl) ?_
    obtain ⟨v_21, ev_21, h⟩ := h
    refine x_get (CC := RX1) (TT := TX1) (N := 26) (ci := 0) (v := rfv b (xr T_16 0 18)) hx hb hts in_X1 hown hK hP (xs_0 hP) (by decide) (by decide) rfl (xE_8 (xs_0 hP)) 18 (by decide) q405 rfl rfl dX1_less_42 ?_
    refine x_some ev_21 ?_
    have hk_v_21 : kd K_1 v_21 = 3 := hP.ty (xs_0 hP) (by decide) ev_21
    refine lv_iload_n hx hb dX1_less_45 rfl (lv_at hl 2 rfl) ?_
    obtain ⟨j_22, hj_22, ej_22, v_23, ev_23, h⟩ := h
    refine x_aald3 hx hb hK hP hk_v_21 ej_22 hj_22 dX1_less_46 ?_
    refine x_some ev_23 ?_
    have hk_v_23 : kd K_1 v_23 = 2 := hP.ty hk_v_21 (by decide) ev_23
    refine lv_aload_n hx hb dX1_less_47 rfl (lv_at hl 0 rfl) ?_
    refine x_get (CC := RX1) (TT := TX1) (N := 26) (ci := 0) (v := .int (xi T_16 0 0)) hx hb hts in_X1 hown hK hP (xs_0 hP) (by decide) (by decide) rfl (xE_8 (xs_0 hP)) 0 (by decide) q384 rfl rfl dX1_less_48 ?_
    refine lv_iconst (v := 1) hx hb dX1_less_51 (by decide) ?_
    refine lv_isub hx hb dX1_less_52 ?_
    refine lv_iconst (v := 0) hx hb dX1_less_53 (by decide) ?_
    obtain ⟨Z_27, Y_28, hz1, hz2, hy1, hy2, h⟩ := h
    refine x_cV (k := 0) (As := [.ref (b + v_20), .ref (b + v_23), .int ((xi T_16 0 0) - 1), .int 0]) (rest := [.ref (b + 0)]) ⟨hx, hb, hml, hown, hts⟩ (mx1_sum_2 l G b hole v_20 v_23 ((xi T_16 0 0) - 1) 0 K_1 T_16 Z_27 Y_28 hz1 hy1 hk_v_20 hk_v_23 _ h) (cwV 4 hts (lw_V q965 q967 qs42 q118 q968) rfl rfl rfl cwx_X1_sum_2 ⟨Nat.le_of_ble_eq_true rfl, Nat.le_of_ble_eq_true rfl⟩) (x_recv (CC := RX1) (ci := 0) hK hP (xs_0 hP) (by decide) (by decide) rfl (xE_8 (xs_0 hP))) hK hV hb0 hP hS rfl hl.1 rfl (Nat.le_of_ble_eq_true rfl) dX1_less_54 ⟨by first | exact Nat.zero_le _ | (show _ + _ ≤ Z - kc K0; omega), by first | exact Nat.zero_le _ | (show _ + _ ≤ Y - ks K0; omega)⟩ (fun r_24 T1 K1 H locs h hle1 hc1 hs1 hP hS => ?_)
    obtain ⟨h, hk_r_24⟩ := h
    generalize T1 = T_25 at h hP
    generalize K1 = K_26 at h hP hle1 hc1 hs1 hk_r_24
    have hle0 := hle0.tr hle1
    have hcn : kc K0 + ((0 + 1) + (Z_27 - kc K_1)) = kc K_26 := by omega
    have hsn : ks K0 + ((0 + 3) + (Y_28 - ks K_1)) = ks K_26 := by omega
    have hzz : kc K_26 ≤ Z := by omega
    have hyy : ks K_26 ≤ Y := by omega
    refine lv_iload_n hx hb dX1_less_57 rfl (lv_at hl 3 rfl) ?_
    obtain ⟨Z_32, Y_33, hz1, hz2, hy1, hy2, h⟩ := h
    refine x_cV (k := 0) (As := [rfv b r_24, .int p3]) (rest := []) ⟨hx, hb, hml, hown, hts⟩ (mx1_lays l G b hole r_24 p3 K_26 T_25 Z_32 Y_33 hz1 hy1 hk_r_24 _ h) (cwV 2 hts (lw_V q995 q997 qs43 q118 q998) rfl rfl rfl cwx_X1_lays ⟨Nat.le_of_ble_eq_true rfl, Nat.le_of_ble_eq_true rfl⟩) (x_recv (CC := RX1) (ci := 0) hK hP (xs_0 hP) (by decide) (by decide) rfl (xE_8 (xs_0 hP))) hK hV hb0 hP hS rfl hl.1 rfl (Nat.le_of_ble_eq_true rfl) dX1_less_58 ⟨by first | exact Nat.zero_le _ | (show _ + _ ≤ Z - kc K0; omega), by first | exact Nat.zero_le _ | (show _ + _ ≤ Y - ks K0; omega)⟩ (fun r_29 T1 K1 H locs h hle1 hc1 hs1 hP hS => ?_)
    generalize T1 = T_30 at h hP
    generalize K1 = K_31 at h hP hle1 hc1 hs1
    have hle0 := hle0.tr hle1
    have hcn : kc K0 + (((0 + 1) + (Z_27 - kc K_1)) + (Z_32 - kc K_26)) = kc K_31 := by omega
    have hsn : ks K0 + (((0 + 3) + (Y_28 - ks K_1)) + (Y_33 - ks K_26)) = ks K_31 := by omega
    have hzz : kc K_31 ≤ Z := by omega
    have hyy : ks K_31 ≤ Y := by omega
    refine W.widen (k := Z - kc K0) (n := Y - ks K0) (by omega) (by omega) ?_
    exact W.iret (v := r_29) hx hb hr (fun t ht hW => ⟨⟨r_29, T_30, (kset K_31 Z Y), rfl, h, hle0, (by show Z = _; omega), (by show Y = _; omega), by rw [ht]; exact hP, va_K.moved hW.alike hK⟩, hS.F ht⟩) hS.2.2 dX1_less_61
  · have h := h.2 c_34
    refine lv_iconst (v := (-1)) hx hb dX1_less_29 (by decide) ?_
    refine lv_goto (tgt := 61) hx hb dX1_less_30 (by decide) ?_
    refine W.widen (k := Z - kc K0) (n := Y - ks K0) (by omega) (by omega) ?_
    exact W.iret (v := (-1)) hx hb hr (fun t ht hW => ⟨⟨(-1), T_16, (kset K_1 Z Y), rfl, h, hle0, (by show Z = _; omega), (by show Y = _; omega), by rw [ht]; exact hP, va_K.moved hW.alike hK⟩, hS.F ht⟩) hS.2.2 dX1_less_61
theorem cwx_X8_init_2 : yX8_init_2.cls ≠ "java/lang/invoke/MethodHandle" ∧ yX8_init_2.cls ≠ "java/lang/invoke/VarHandle" ∧ (parseMethodDescriptor yX8_init_2.desc).map (fun d => d.parameters.length) = some 1 := by decide +kernel
def wx8_init_2 (p0 : Nat) (p1 : Int32) (K0 : XK) (T : XT) (Z Y : Nat) (post : XT → XK → Prop) : Prop :=
  ∀ T_1 : XT, T_1 = xwi T p0 2 0 →
  ∃ n_2 : Nat, n_2 < 2 ^ 27 ∧ (p1 + 1) = nI n_2 ∧ kc K0 + 1 ≤ Z ∧ ks K0 + n_2 ≤ Y ∧ ∀ K_3 : XK, K_3 = knew K0 1 n_2 n_2 → ∀ T_4 : XT, T_4 = xnil T_1 (kz K0) →
  ∀ T_5 : XT, T_5 = xwr T_4 p0 0 (some (kz K0)) →
  ∃ n_6 : Nat, n_6 < 2 ^ 27 ∧ (p1 + 1) = nI n_6 ∧ kc K_3 + 1 ≤ Z ∧ ks K_3 + n_6 ≤ Y ∧ ∀ K_7 : XK, K_7 = knew K_3 1 n_6 n_6 → ∀ T_8 : XT, T_8 = xnil T_5 (kz K_3) →
  ∀ T_9 : XT, T_9 = xwr T_8 p0 1 (some (kz K_3)) →
  post T_9 (kset K_7 Z Y)
set_option maxHeartbeats 4000000 in
theorem mx8_init_2 (l : Launch) (G : XG) (b : Nat) (hole : Nat → Prop) (p0 : Nat) (p1 : Int32) (K0 : XK) (T : XT) (Z Y : Nat) (hZ : kc K0 ≤ Z) (hY : ks K0 ≤ Y) (hk_p0 : kd K0 p0 = 13) (post : XT → XK → Prop) (h : wx8_init_2 p0 p1 K0 T Z Y post) : Met l yX8_init_2 (ws_ yX8_init_2 cX8_init_2 2 none) ({ frames := 1, cells := (Z - kc K0), slots := (Y - ks K0), locals := 60 } : Room) (xPc G b hole [.ref (b + p0), .int p1] K0 T) (xQ G b hole K0 (Z - kc K0) (Y - ks K0) (ρ := Unit) eV (fun r T1 K1 => post T1 K1)) (Z - kc K0) (Y - ks K0) (xA b hole) := by
  refine Met.ofW (cc := cX8_init_2) (maxL := 2) (ret := none) (by decide) rfl ?_
  intro p e s m args below meth c s₁ B hml hv
  obtain ⟨rfl, hP, hK, hV⟩ := hv
  have hx := B.exec
  have hb := B.bytes
  have hr := B.returns
  have hts := atoms_spec (ws := ws_ yX8_init_2 cX8_init_2 2 none) B.pre
  have hts : ∀ w ∈ lw_all, w.before _ s = true := fun w h => hts w (List.mem_cons_of_mem _ h)
  have hown : s.vm.findClass RX8 = some m.cls := findClass_of_methodNamed B.named
  have hlocks := B.notSynchronized
  have hin : meth.name = "<init>" := (name_of_methodNamed B.named B.method).1
  have hb0 : b ≤ s.heap.size := by rw [hP.2.2.2]; exact Nat.le_add_right _ _
  have hS : va_S (xA b hole) s.heap s.heap [] := va_S.rf
  have hl := lv_entry ([.ref (b + p0), .int p1]) (n := 2) (Nat.le_of_ble_eq_true rfl)
  rw [lg_entry_eq]
  generalize (lg_sl ([.ref (b + p0), .int p1]) ++ List.replicate (2 - (lg_sl ([.ref (b + p0), .int p1])).length) Slot.unset).toArray = ls at hl ⊢
  have hl : lv_has ls 2 [(0, .ref (b + p0)), (1, .int p1)] := hl
  have hle0 : kle K0 K0 := kle.rf
  have hcn : kc K0 + 0 = kc K0 := rfl
  have hsn : ks K0 + 0 = ks K0 := rfl
  have hzz := hZ
  have hyy := hY
  unfold wx8_init_2 at h
  refine lv_aload_n hx hb dX8_init_2_0 rfl (lv_at hl 0 rfl) ?_
  refine W.objInit hx hb hown (hts _ q1027) (hts _ q145) (hts _ q146) rfl (by rw [hml]; exact hl.1) rfl dX8_init_2_1 (Nat.le_of_ble_eq_true rfl) (Nat.le_of_ble_eq_true rfl) ?_
  refine W.eq (g2 := F0 m 4 ls []) rfl ?_
  refine lv_aload_n hx hb dX8_init_2_4 rfl (lv_at hl 0 rfl) ?_
  refine lv_iconst (v := 0) hx hb dX8_init_2_5 (by decide) ?_
  obtain ⟨T_1, eT_1⟩ : ∃ z : XT, z = xwi T p0 2 0 := ⟨_, rfl⟩
  have h := h T_1 eT_1
  refine x_put (CC := RX8) (TT := TX8) (N := 3) (ci := 6) (T1 := T_1) (v := .int 0) (ty := .int) (fsf := fun T => fs13 (gem G) b T p0) hx hb hts in_X8 tyX8 tyX8_ok nmX8 hown hK hP hS hk_p0 (by decide) (by decide) rfl (fun _ => xE_13 hk_p0) rfl 2 (by decide) q1030 rfl (Or.inl rfl) rfl rfl rfl (by rw [eT_1]; exact fw13_2 _ b T p0 0) (by rw [eT_1]; exact fun q hq => xwi_i hq) (by rw [eT_1]; exact fun _ _ => rfl) (by rw [eT_1]; exact xwi_ty hP (by rw [hk_p0]; decide)) dX8_init_2_6 (fun H locs hP hS => ?_)
  refine lv_aload_n hx hb dX8_init_2_9 rfl (lv_at hl 0 rfl) ?_
  refine lv_iload_n hx hb dX8_init_2_10 rfl (lv_at hl 1 rfl) ?_
  refine lv_iconst (v := 1) hx hb dX8_init_2_11 (by decide) ?_
  refine lv_iadd hx hb dX8_init_2_12 ?_
  obtain ⟨n_2, hn_2, en_2, h⟩ := h
  obtain ⟨hc1, hs1, h⟩ := h
  obtain ⟨K_3, eK_3⟩ : ∃ z : XK, z = knew K0 1 n_2 n_2 := ⟨_, rfl⟩
  obtain ⟨T_4, eT_4⟩ : ∃ z : XT, z = xnil T_1 (kz K0) := ⟨_, rfl⟩
  have h := h K_3 eK_3 T_4 eT_4
  have hle1 : kle K0 K_3 := by rw [eK_3]; exact kle.new hP.2.2.1 _ _ _
  refine x_newai (N := n_2) hx hb hts q170 hK hP hS en_2 hn_2 (by show _ + 1 ≤ Z - kc K0; omega) (by show _ + _ ≤ Y - ks K0; omega) dX8_init_2_13 (fun H hP hS => ?_)
  rw [← eK_3, ← eT_4] at hP
  have hk_p0 : kd K_3 p0 = 13 := hle1.kd hk_p0
  have hk_n3 : kd K_3 (kz K0) = 1 := by rw [eK_3]; exact knew_kd
  have hle0 := hle0.tr hle1
  have hcn : kc K0 + (0 + 1) = kc K_3 := by rw [eK_3]; show _ = kc K0 + 1; omega
  have hsn : ks K0 + (0 + n_2) = ks K_3 := by rw [eK_3]; show _ = ks K0 + n_2; omega
  have hzz : kc K_3 ≤ Z := by rw [eK_3]; exact hc1
  have hyy : ks K_3 ≤ Y := by rw [eK_3]; exact hs1
  obtain ⟨T_5, eT_5⟩ : ∃ z : XT, z = xwr T_4 p0 0 (some (kz K0)) := ⟨_, rfl⟩
  have h := h T_5 eT_5
  refine x_put (CC := RX8) (TT := TX8) (N := 3) (ci := 6) (T1 := T_5) (v := .ref (b + (kz K0))) (ty := _) (fsf := fun T => fs13 (gem G) b T p0) hx hb hts in_X8 tyX8 tyX8_ok nmX8 hown hK hP hS hk_p0 (by decide) (by decide) rfl (fun _ => xE_13 hk_p0) rfl 0 (by decide) q1028 rfl (Or.inr ⟨rfl, hin, rfl⟩) rfl rfl rfl (by rw [eT_5]; exact fw13_0 _ b T_4 p0 (some (kz K0))) (by rw [eT_5]; exact fun _ _ => rfl) (by rw [eT_5]; exact fun q hq => xwr_r hq) (by rw [eT_5]; exact xwr_ty hP (by rw [hk_p0]; decide) (fun p e9 => by cases e9; rw [hk_n3, hk_p0]; exact ⟨rfl, by decide⟩)) dX8_init_2_15 (fun H locs hP hS => ?_)
  refine lv_aload_n hx hb dX8_init_2_18 rfl (lv_at hl 0 rfl) ?_
  refine lv_iload_n hx hb dX8_init_2_19 rfl (lv_at hl 1 rfl) ?_
  refine lv_iconst (v := 1) hx hb dX8_init_2_20 (by decide) ?_
  refine lv_iadd hx hb dX8_init_2_21 ?_
  obtain ⟨n_6, hn_6, en_6, h⟩ := h
  obtain ⟨hc1, hs1, h⟩ := h
  obtain ⟨K_7, eK_7⟩ : ∃ z : XK, z = knew K_3 1 n_6 n_6 := ⟨_, rfl⟩
  obtain ⟨T_8, eT_8⟩ : ∃ z : XT, z = xnil T_5 (kz K_3) := ⟨_, rfl⟩
  have h := h K_7 eK_7 T_8 eT_8
  have hle1 : kle K_3 K_7 := by rw [eK_7]; exact kle.new hP.2.2.1 _ _ _
  refine x_newai (N := n_6) hx hb hts q170 hK hP hS en_6 hn_6 (by show _ + 1 ≤ Z - kc K0; omega) (by show _ + _ ≤ Y - ks K0; omega) dX8_init_2_22 (fun H hP hS => ?_)
  rw [← eK_7, ← eT_8] at hP
  have hk_p0 : kd K_7 p0 = 13 := hle1.kd hk_p0
  have hk_n7 : kd K_7 (kz K_3) = 1 := by rw [eK_7]; exact knew_kd
  have hle0 := hle0.tr hle1
  have hcn : kc K0 + ((0 + 1) + 1) = kc K_7 := by rw [eK_7]; show _ = kc K_3 + 1; omega
  have hsn : ks K0 + ((0 + n_2) + n_6) = ks K_7 := by rw [eK_7]; show _ = ks K_3 + n_6; omega
  have hzz : kc K_7 ≤ Z := by rw [eK_7]; exact hc1
  have hyy : ks K_7 ≤ Y := by rw [eK_7]; exact hs1
  obtain ⟨T_9, eT_9⟩ : ∃ z : XT, z = xwr T_8 p0 1 (some (kz K_3)) := ⟨_, rfl⟩
  have h := h T_9 eT_9
  refine x_put (CC := RX8) (TT := TX8) (N := 3) (ci := 6) (T1 := T_9) (v := .ref (b + (kz K_3))) (ty := _) (fsf := fun T => fs13 (gem G) b T p0) hx hb hts in_X8 tyX8 tyX8_ok nmX8 hown hK hP hS hk_p0 (by decide) (by decide) rfl (fun _ => xE_13 hk_p0) rfl 1 (by decide) q1029 rfl (Or.inr ⟨rfl, hin, rfl⟩) rfl rfl rfl (by rw [eT_9]; exact fw13_1 _ b T_8 p0 (some (kz K_3))) (by rw [eT_9]; exact fun _ _ => rfl) (by rw [eT_9]; exact fun q hq => xwr_r hq) (by rw [eT_9]; exact xwr_ty hP (by rw [hk_p0]; decide) (fun p e9 => by cases e9; rw [hk_n7, hk_p0]; exact ⟨rfl, by decide⟩)) dX8_init_2_24 (fun H locs hP hS => ?_)
  refine W.widen (k := Z - kc K0) (n := Y - ks K0) (by omega) (by omega) ?_
  exact W.vret hx hb hr (fun t ht hW => ⟨⟨(), T_9, (kset K_7 Z Y), rfl, h, hle0, (by show Z = _; omega), (by show Y = _; omega), by rw [ht]; exact hP, va_K.moved hW.alike hK⟩, hS.F ht⟩) hS.2.2 dX8_init_2_27
theorem cwx_X8_init : yX8_init.cls ≠ "java/lang/invoke/MethodHandle" ∧ yX8_init.cls ≠ "java/lang/invoke/VarHandle" ∧ (parseMethodDescriptor yX8_init.desc).map (fun d => d.parameters.length) = some 0 := by decide +kernel
def wx8_init (p0 : Nat) (K0 : XK) (T : XT) (Z Y : Nat) (post : XT → XK → Prop) : Prop :=
  ∃ Z_4 Y_5 : Nat, kc K0 ≤ Z_4 ∧ Z_4 ≤ Z ∧ ks K0 ≤ Y_5 ∧ Y_5 ≤ Y ∧ wx8_init_2 p0 60 K0 T Z_4 Y_5 (fun T_2 K_3 =>
  post T_2 (kset K_3 Z Y))
set_option maxHeartbeats 4000000 in
theorem mx8_init (l : Launch) (G : XG) (b : Nat) (hole : Nat → Prop) (p0 : Nat) (K0 : XK) (T : XT) (Z Y : Nat) (hZ : kc K0 ≤ Z) (hY : ks K0 ≤ Y) (hk_p0 : kd K0 p0 = 13) (post : XT → XK → Prop) (h : wx8_init p0 K0 T Z Y post) : Met l yX8_init (ws_ yX8_init cX8_init 1 none) ({ frames := 2, cells := (Z - kc K0), slots := (Y - ks K0), locals := 81 } : Room) (xPc G b hole [.ref (b + p0)] K0 T) (xQ G b hole K0 (Z - kc K0) (Y - ks K0) (ρ := Unit) eV (fun r T1 K1 => post T1 K1)) (Z - kc K0) (Y - ks K0) (xA b hole) := by
  refine Met.ofW (cc := cX8_init) (maxL := 1) (ret := none) (by decide) rfl ?_
  intro p e s m args below meth c s₁ B hml hv
  obtain ⟨rfl, hP, hK, hV⟩ := hv
  have hx := B.exec
  have hb := B.bytes
  have hr := B.returns
  have hts := atoms_spec (ws := ws_ yX8_init cX8_init 1 none) B.pre
  have hts : ∀ w ∈ lw_all, w.before _ s = true := fun w h => hts w (List.mem_cons_of_mem _ h)
  have hown : s.vm.findClass RX8 = some m.cls := findClass_of_methodNamed B.named
  have hlocks := B.notSynchronized
  have hin : meth.name = "<init>" := (name_of_methodNamed B.named B.method).1
  have hb0 : b ≤ s.heap.size := by rw [hP.2.2.2]; exact Nat.le_add_right _ _
  have hS : va_S (xA b hole) s.heap s.heap [] := va_S.rf
  have hl := lv_entry ([.ref (b + p0)]) (n := 1) (Nat.le_of_ble_eq_true rfl)
  rw [lg_entry_eq]
  generalize (lg_sl ([.ref (b + p0)]) ++ List.replicate (1 - (lg_sl ([.ref (b + p0)])).length) Slot.unset).toArray = ls at hl ⊢
  have hl : lv_has ls 1 [(0, .ref (b + p0))] := hl
  have hle0 : kle K0 K0 := kle.rf
  have hcn : kc K0 + 0 = kc K0 := rfl
  have hsn : ks K0 + 0 = ks K0 := rfl
  have hzz := hZ
  have hyy := hY
  unfold wx8_init at h
  refine lv_aload_n hx hb dX8_init_0 rfl (lv_at hl 0 rfl) ?_
  refine lv_bipush (v := 60) hx hb dX8_init_1 (by decide) ?_
  obtain ⟨Z_4, Y_5, hz1, hz2, hy1, hy2, h⟩ := h
  refine x_cI (k := p0) (As := [.int 60]) (rest := []) ⟨hx, hb, hml, hown, hts⟩ (mx8_init_2 l G b hole p0 60 K0 T Z_4 Y_5 hz1 hy1 hk_p0 _ h) (cwI 1 hts (lw_meth q1026) rfl rfl rfl (hts _ q137) (hts _ q1024) (hts _ q1025) rfl cwx_X8_init_2 ⟨Nat.le_of_ble_eq_true rfl, Nat.le_of_ble_eq_true rfl⟩) hK hV hb0 hP hS rfl hl.1 rfl (Nat.le_of_ble_eq_true rfl) dX8_init_3 ⟨by first | exact Nat.zero_le _ | (show _ + _ ≤ Z - kc K0; omega), by first | exact Nat.zero_le _ | (show _ + _ ≤ Y - ks K0; omega)⟩ (fun r_1 T1 K1 H locs h hle1 hc1 hs1 hP hS => ?_)
  generalize T1 = T_2 at h hP
  generalize K1 = K_3 at h hP hle1 hc1 hs1
  have hk_p0 : kd K_3 p0 = 13 := hle1.kd hk_p0
  have hle0 := hle0.tr hle1
  have hcn : kc K0 + (0 + (Z_4 - kc K0)) = kc K_3 := by omega
  have hsn : ks K0 + (0 + (Y_5 - ks K0)) = ks K_3 := by omega
  have hzz : kc K_3 ≤ Z := by omega
  have hyy : ks K_3 ≤ Y := by omega
  refine W.widen (k := Z - kc K0) (n := Y - ks K0) (by omega) (by omega) ?_
  exact W.vret hx hb hr (fun t ht hW => ⟨⟨(), T_2, (kset K_3 Z Y), rfl, h, hle0, (by show Z = _; omega), (by show Y = _; omega), by rw [ht]; exact hP, va_K.moved hW.alike hK⟩, hS.F ht⟩) hS.2.2 dX8_init_6
theorem cwx_X8_puts : yX8_puts.cls = RX8 ∧ yX8_puts.cls ≠ "java/lang/invoke/MethodHandle" ∧ yX8_puts.cls ≠ "java/lang/invoke/VarHandle" ∧ (parseMethodDescriptor yX8_puts.desc).map (fun d => d.parameters.length) = some 3 := by decide +kernel
def wx8_puts (p0 : Nat) (p1 : Int32) (p2 : Int32) (p3 : Int32) (K : XK) (T : XT) (post : XT → Prop) : Prop :=
  ∃ v_1 : Nat, xr T p0 0 = some v_1 ∧
  ∃ j_2 : Nat, j_2 < kl K v_1 ∧ p1 = nI j_2 ∧ ∀ T_3 : XT, T_3 = xwi T v_1 j_2 p2 →
  ∃ v_4 : Nat, xr T_3 p0 1 = some v_4 ∧
  ∃ j_5 : Nat, j_5 < kl K v_4 ∧ p1 = nI j_5 ∧ ∀ T_6 : XT, T_6 = xwi T_3 v_4 j_5 p3 →
  post T_6
set_option maxHeartbeats 4000000 in
theorem mx8_puts (l : Launch) (G : XG) (b : Nat) (hole : Nat → Prop) (p0 : Nat) (p1 : Int32) (p2 : Int32) (p3 : Int32) (K : XK) (T : XT) (hk_p0 : kd K p0 = 13) (post : XT → Prop) (h : wx8_puts p0 p1 p2 p3 K T post) : Met l yX8_puts (ws_ yX8_puts cX8_puts 4 none) ({ frames := 0, cells := 0, slots := 0, locals := 0 } : Room) (xPc G b hole [.ref (b + p0), .int p1, .int p2, .int p3] K T) (xQ G b hole K 0 0 (ρ := Unit) eV (fun r T1 K1 => post T1 ∧ K1 = K)) 0 0 (xA b hole) := by
  refine Met.ofW (cc := cX8_puts) (maxL := 4) (ret := none) (by decide) rfl ?_
  intro p e s m args below meth c s₁ B hml hv
  obtain ⟨rfl, hP, hK, hV⟩ := hv
  have hx := B.exec
  have hb := B.bytes
  have hr := B.returns
  have hts := atoms_spec (ws := ws_ yX8_puts cX8_puts 4 none) B.pre
  have hts : ∀ w ∈ lw_all, w.before _ s = true := fun w h => hts w (List.mem_cons_of_mem _ h)
  have hown : s.vm.findClass RX8 = some m.cls := findClass_of_methodNamed B.named
  have hlocks := B.notSynchronized
  have hb0 : b ≤ s.heap.size := by rw [hP.2.2.2]; exact Nat.le_add_right _ _
  have hS : va_S (xA b hole) s.heap s.heap [] := va_S.rf
  have hl := lv_entry ([.ref (b + p0), .int p1, .int p2, .int p3]) (n := 4) (Nat.le_of_ble_eq_true rfl)
  rw [lg_entry_eq]
  generalize (lg_sl ([.ref (b + p0), .int p1, .int p2, .int p3]) ++ List.replicate (4 - (lg_sl ([.ref (b + p0), .int p1, .int p2, .int p3])).length) Slot.unset).toArray = ls at hl ⊢
  have hl : lv_has ls 4 [(0, .ref (b + p0)), (1, .int p1), (2, .int p2), (3, .int p3)] := hl
  unfold wx8_puts at h
  refine lv_aload_n hx hb dX8_puts_0 rfl (lv_at hl 0 rfl) ?_
  obtain ⟨v_1, ev_1, h⟩ := h
  refine x_get (CC := RX8) (TT := TX8) (N := 3) (ci := 6) (v := rfv b (xr T p0 0)) hx hb hts in_X8 hown hK hP hk_p0 (by decide) (by decide) rfl (xE_13 hk_p0) 0 (by decide) q1028 rfl rfl dX8_puts_1 ?_
  refine x_some ev_1 ?_
  have hk_v_1 : kd K v_1 = 1 := hP.ty hk_p0 (by decide) ev_1
  refine lv_iload_n hx hb dX8_puts_4 rfl (lv_at hl 1 rfl) ?_
  refine lv_iload_n hx hb dX8_puts_5 rfl (lv_at hl 2 rfl) ?_
  obtain ⟨j_2, hj_2, ej_2, h⟩ := h
  obtain ⟨T_3, eT_3⟩ : ∃ z : XT, z = xwi T v_1 j_2 p2 := ⟨_, rfl⟩
  have h := h T_3 eT_3
  refine x_iast hx hb hK hP hS hk_v_1 ej_2 hj_2 dX8_puts_6 (fun H locs hP hS => ?_)
  rw [← eT_3] at hP
  refine lv_aload_n hx hb dX8_puts_7 rfl (lv_at hl 0 rfl) ?_
  obtain ⟨v_4, ev_4, h⟩ := h
  refine x_get (CC := RX8) (TT := TX8) (N := 3) (ci := 6) (v := rfv b (xr T_3 p0 1)) hx hb hts in_X8 hown hK hP hk_p0 (by decide) (by decide) rfl (xE_13 hk_p0) 1 (by decide) q1029 rfl rfl dX8_puts_8 ?_
  refine x_some ev_4 ?_
  have hk_v_4 : kd K v_4 = 1 := hP.ty hk_p0 (by decide) ev_4
  refine lv_iload_n hx hb dX8_puts_11 rfl (lv_at hl 1 rfl) ?_
  refine lv_iload_n hx hb dX8_puts_12 rfl (lv_at hl 3 rfl) ?_
  obtain ⟨j_5, hj_5, ej_5, h⟩ := h
  obtain ⟨T_6, eT_6⟩ : ∃ z : XT, z = xwi T_3 v_4 j_5 p3 := ⟨_, rfl⟩
  have h := h T_6 eT_6
  refine x_iast hx hb hK hP hS hk_v_4 ej_5 hj_5 dX8_puts_13 (fun H locs hP hS => ?_)
  rw [← eT_6] at hP
  exact W.vret hx hb hr (fun t ht hW => ⟨⟨(), T_6, K, rfl, ⟨h, rfl⟩, kle.rf, rfl, rfl, by rw [ht]; exact hP, va_K.moved hW.alike hK⟩, hS.F ht⟩) hS.2.2 dX8_puts_14
theorem cwx_X8_add : yX8_add.cls = RX8 ∧ yX8_add.cls ≠ "java/lang/invoke/MethodHandle" ∧ yX8_add.cls ≠ "java/lang/invoke/VarHandle" ∧ (parseMethodDescriptor yX8_add.desc).map (fun d => d.parameters.length) = some 2 := by decide +kernel
def wx8_add_j60 (p0 : Nat) (p1 : Int32) (p2 : Int32) (post : XT → Prop) (x3 : Int32) (K : XK) (T : XT) : Prop :=
    wx8_puts p0 x3 p1 p2 K T (fun T_2 =>
    post T_2)
def wx8_add_b15 (p0 : Nat) (p1 : Int32) (p2 : Int32) (post : XT → Prop) (R15 : Int32 → XT → Prop)  (x3 : Int32) (K : XK) (T : XT) : Prop :=
      ((x3 ≤ 1 →
        wx8_add_j60 p0 p1 p2 post x3 K T) ∧
       (¬ (x3 ≤ 1) →
        ∃ v_4 : Nat, xr T p0 1 = some v_4 ∧
        ∃ j_5 : Nat, j_5 < kl K v_4 ∧ (x3 / 2) = nI j_5 ∧
        ((p2 ≤ (xi T v_4 j_5) →
          wx8_add_j60 p0 p1 p2 post x3 K T) ∧
         (¬ (p2 ≤ (xi T v_4 j_5)) →
          ∃ v_6 : Nat, xr T p0 0 = some v_6 ∧
          ∃ j_7 : Nat, j_7 < kl K v_6 ∧ (x3 / 2) = nI j_7 ∧
          ∃ v_8 : Nat, xr T p0 1 = some v_8 ∧
          ∃ j_9 : Nat, j_9 < kl K v_8 ∧ (x3 / 2) = nI j_9 ∧
          wx8_puts p0 x3 (xi T v_6 j_7) (xi T v_8 j_9) K T (fun T_11 =>
          ∀ x3_13 : Int32, x3_13 = (x3 / 2) →
          R15 x3_13 T_11)))))
def wx8_add_l15 (p0 : Nat) (p1 : Int32) (p2 : Int32) (post : XT → Prop)  (x3 : Int32) (K : XK) (T : XT) : Prop := wLoop (fun (R : ((Int32) × (XT)) → Prop) (v : (Int32) × (XT)) => wx8_add_b15 p0 p1 p2 post (fun x3 T => R (x3, T))  v.1 K v.2) (x3, T)
def wx8_add (p0 : Nat) (p1 : Int32) (p2 : Int32) (K : XK) (T : XT) (post : XT → Prop) : Prop :=
  ∀ T_16 : XT, T_16 = xwi T p0 2 ((xi T p0 2) + 1) →
  wx8_add_l15 p0 p1 p2 post (xi T_16 p0 2) K T_16
set_option maxHeartbeats 4000000 in
theorem mx8_add (l : Launch) (G : XG) (b : Nat) (hole : Nat → Prop) (p0 : Nat) (p1 : Int32) (p2 : Int32) (K : XK) (T : XT) (hk_p0 : kd K p0 = 13) (post : XT → Prop) (h : wx8_add p0 p1 p2 K T post) : Met l yX8_add (ws_ yX8_add cX8_add 4 none) ({ frames := 1, cells := 0, slots := 0, locals := 23 } : Room) (xPc G b hole [.ref (b + p0), .int p1, .int p2] K T) (xQ G b hole K 0 0 (ρ := Unit) eV (fun r T1 K1 => post T1 ∧ K1 = K)) 0 0 (xA b hole) := by
  refine Met.ofW (cc := cX8_add) (maxL := 4) (ret := none) (by decide) rfl ?_
  intro p e s m args below meth c s₁ B hml hv
  obtain ⟨rfl, hP, hK, hV⟩ := hv
  have hx := B.exec
  have hb := B.bytes
  have hr := B.returns
  have hts := atoms_spec (ws := ws_ yX8_add cX8_add 4 none) B.pre
  have hts : ∀ w ∈ lw_all, w.before _ s = true := fun w h => hts w (List.mem_cons_of_mem _ h)
  have hown : s.vm.findClass RX8 = some m.cls := findClass_of_methodNamed B.named
  have hlocks := B.notSynchronized
  have hb0 : b ≤ s.heap.size := by rw [hP.2.2.2]; exact Nat.le_add_right _ _
  have hS : va_S (xA b hole) s.heap s.heap [] := va_S.rf
  have hl := lv_entry ([.ref (b + p0), .int p1, .int p2]) (n := 4) (Nat.le_of_ble_eq_true rfl)
  rw [lg_entry_eq]
  generalize (lg_sl ([.ref (b + p0), .int p1, .int p2]) ++ List.replicate (4 - (lg_sl ([.ref (b + p0), .int p1, .int p2])).length) Slot.unset).toArray = ls at hl ⊢
  have hl : lv_has ls 4 [(0, .ref (b + p0)), (1, .int p1), (2, .int p2)] := hl
  have J60 : ∀ (x3 : Int32) (T : XT) (H : Heap) (locs : List Loc) (ls : Array Slot), wx8_add_j60 p0 p1 p2 post x3 K T → xW G b hole K T H → va_S (xA b hole) s.heap H locs → lv_has ls 4 [(0, .ref (b + p0)), (1, .int p1), (2, .int p2), (3, .int x3)] → W p l e (headSpec (ws_ yX8_add cX8_add 4 none) ({ frames := 1, cells := 0, slots := 0, locals := 23 } : Room)).room s m ([.ref (b + p0), .int p1, .int p2] : List Value).toArray below meth c H locs 0 0 (MQ below (xQ G b hole K 0 0 (ρ := Unit) eV (fun r T1 K1 => post T1 ∧ K1 = K)) ([.ref (b + p0), .int p1, .int p2] : List Value).toArray s 0 0 (xA b hole)) (F0 m 60 ls []) := by
    intro x3 T H locs ls h hP hS hl
    unfold wx8_add_j60 at h
    refine lv_aload_n hx hb dX8_add_60 rfl (lv_at hl 0 rfl) ?_
    refine lv_iload_n hx hb dX8_add_61 rfl (lv_at hl 3 rfl) ?_
    refine lv_iload_n hx hb dX8_add_62 rfl (lv_at hl 1 rfl) ?_
    refine lv_iload_n hx hb dX8_add_63 rfl (lv_at hl 2 rfl) ?_
    refine x_cV (k := p0) (As := [.int x3, .int p1, .int p2]) (rest := []) ⟨hx, hb, hml, hown, hts⟩ (mx8_puts l G b hole p0 x3 p1 p2 K T hk_p0 _ h) (cwV 3 hts (lw_V q1043 q1045 qs46 q137 q1046) rfl rfl rfl cwx_X8_puts ⟨Nat.le_of_ble_eq_true rfl, Nat.le_of_ble_eq_true rfl⟩) (x_recv (CC := RX8) (ci := 6) hK hP hk_p0 (by decide) (by decide) rfl (xE_13 hk_p0)) hK hV hb0 hP hS rfl hl.1 rfl (Nat.le_of_ble_eq_true rfl) dX8_add_64 ⟨by first | exact Nat.zero_le _ | (show _ + _ ≤ Z - kc K0; omega), by first | exact Nat.zero_le _ | (show _ + _ ≤ Y - ks K0; omega)⟩ (fun r_1 T1 K1 H locs h hle1 hc1 hs1 hP hS => ?_)
    obtain ⟨h, hKe⟩ := h
    rw [hKe] at hP
    generalize T1 = T_2 at h hP
    exact W.vret hx hb hr (fun t ht hW => ⟨⟨(), T_2, K, rfl, ⟨h, rfl⟩, kle.rf, rfl, rfl, by rw [ht]; exact hP, va_K.moved hW.alike hK⟩, hS.F ht⟩) hS.2.2 dX8_add_67
  have L15 : ∀ (x3 : Int32) (T : XT) (H : Heap) (locs : List Loc) (ls : Array Slot), wx8_add_l15 p0 p1 p2 post  x3 K T → xW G b hole K T H → va_S (xA b hole) s.heap H locs → lv_has ls 4 [(0, .ref (b + p0)), (1, .int p1), (2, .int p2), (3, .int x3)] → W p l e (headSpec (ws_ yX8_add cX8_add 4 none) ({ frames := 1, cells := 0, slots := 0, locals := 23 } : Room)).room s m ([.ref (b + p0), .int p1, .int p2] : List Value).toArray below meth c H locs 0 0 (MQ below (xQ G b hole K 0 0 (ρ := Unit) eV (fun r T1 K1 => post T1 ∧ K1 = K)) ([.ref (b + p0), .int p1, .int p2] : List Value).toArray s 0 0 (xA b hole)) (F0 m 15 ls []) := by
    intro x3 T H locs ls h hP hS hl
    obtain ⟨I15, n15, hI, hstep15⟩ := h
    induction n15 using Nat.strongRecOn generalizing x3 T H locs ls with
    | ind n15 ih15 =>
      have h : wx8_add_b15 p0 p1 p2 post (fun x3 T => ∃ mm, mm < n15 ∧ I15 mm (x3, T))  x3 K T := hstep15 n15 _ hI
      clear hI
      unfold wx8_add_b15 at h
      refine lv_iload_n hx hb dX8_add_15 rfl (lv_at hl 3 rfl) ?_
      refine lv_iconst (v := 1) hx hb dX8_add_16 (by decide) ?_
      refine lv_icmp_le (tgt := 60) hx hb dX8_add_17 (by decide) (fun c_15 => ?_) (fun c_15 => ?_)
      · have h := h.1 c_15
        exact J60 _ _ _ _ _ h  hP hS (lv_sub hl [0, 1, 2, 3] rfl)
      · have h := h.2 c_15
        refine lv_aload_n hx hb dX8_add_20 rfl (lv_at hl 0 rfl) ?_
        obtain ⟨v_4, ev_4, h⟩ := h
        refine x_get (CC := RX8) (TT := TX8) (N := 3) (ci := 6) (v := rfv b (xr T p0 1)) hx hb hts in_X8 hown hK hP hk_p0 (by decide) (by decide) rfl (xE_13 hk_p0) 1 (by decide) q1029 rfl rfl dX8_add_21 ?_
        refine x_some ev_4 ?_
        have hk_v_4 : kd K v_4 = 1 := hP.ty hk_p0 (by decide) ev_4
        refine lv_iload_n hx hb dX8_add_24 rfl (lv_at hl 3 rfl) ?_
        refine lv_iconst (v := 2) hx hb dX8_add_25 (by decide) ?_
        refine lv_idiv hx hb dX8_add_26 (by decide) ?_
        obtain ⟨j_5, hj_5, ej_5, h⟩ := h
        refine x_iald hx hb hK hP hk_v_4 ej_5 hj_5 dX8_add_27 ?_
        refine lv_iload_n hx hb dX8_add_28 rfl (lv_at hl 2 rfl) ?_
        refine lv_icmp_ge (tgt := 60) hx hb dX8_add_29 (by decide) (fun c_14 => ?_) (fun c_14 => ?_)
        · have h := h.1 c_14
          exact J60 _ _ _ _ _ h  hP hS (lv_sub hl [0, 1, 2, 3] rfl)
        · have h := h.2 c_14
          refine lv_aload_n hx hb dX8_add_32 rfl (lv_at hl 0 rfl) ?_
          refine lv_iload_n hx hb dX8_add_33 rfl (lv_at hl 3 rfl) ?_
          refine lv_aload_n hx hb dX8_add_34 rfl (lv_at hl 0 rfl) ?_
          obtain ⟨v_6, ev_6, h⟩ := h
          refine x_get (CC := RX8) (TT := TX8) (N := 3) (ci := 6) (v := rfv b (xr T p0 0)) hx hb hts in_X8 hown hK hP hk_p0 (by decide) (by decide) rfl (xE_13 hk_p0) 0 (by decide) q1028 rfl rfl dX8_add_35 ?_
          refine x_some ev_6 ?_
          have hk_v_6 : kd K v_6 = 1 := hP.ty hk_p0 (by decide) ev_6
          refine lv_iload_n hx hb dX8_add_38 rfl (lv_at hl 3 rfl) ?_
          refine lv_iconst (v := 2) hx hb dX8_add_39 (by decide) ?_
          refine lv_idiv hx hb dX8_add_40 (by decide) ?_
          obtain ⟨j_7, hj_7, ej_7, h⟩ := h
          refine x_iald hx hb hK hP hk_v_6 ej_7 hj_7 dX8_add_41 ?_
          refine lv_aload_n hx hb dX8_add_42 rfl (lv_at hl 0 rfl) ?_
          obtain ⟨v_8, ev_8, h⟩ := h
          refine x_get (CC := RX8) (TT := TX8) (N := 3) (ci := 6) (v := rfv b (xr T p0 1)) hx hb hts in_X8 hown hK hP hk_p0 (by decide) (by decide) rfl (xE_13 hk_p0) 1 (by decide) q1029 rfl rfl dX8_add_43 ?_
          refine x_some ev_8 ?_
          have hk_v_8 : kd K v_8 = 1 := hP.ty hk_p0 (by decide) ev_8
          refine lv_iload_n hx hb dX8_add_46 rfl (lv_at hl 3 rfl) ?_
          refine lv_iconst (v := 2) hx hb dX8_add_47 (by decide) ?_
          refine lv_idiv hx hb dX8_add_48 (by decide) ?_
          obtain ⟨j_9, hj_9, ej_9, h⟩ := h
          refine x_iald hx hb hK hP hk_v_8 ej_9 hj_9 dX8_add_49 ?_
          refine x_cV (k := p0) (As := [.int x3, .int (xi T v_6 j_7), .int (xi T v_8 j_9)]) (rest := []) ⟨hx, hb, hml, hown, hts⟩ (mx8_puts l G b hole p0 x3 (xi T v_6 j_7) (xi T v_8 j_9) K T hk_p0 _ h) (cwV 3 hts (lw_V q1043 q1045 qs46 q137 q1046) rfl rfl rfl cwx_X8_puts ⟨Nat.le_of_ble_eq_true rfl, Nat.le_of_ble_eq_true rfl⟩) (x_recv (CC := RX8) (ci := 6) hK hP hk_p0 (by decide) (by decide) rfl (xE_13 hk_p0)) hK hV hb0 hP hS rfl hl.1 rfl (Nat.le_of_ble_eq_true rfl) dX8_add_50 ⟨by first | exact Nat.zero_le _ | (show _ + _ ≤ Z - kc K0; omega), by first | exact Nat.zero_le _ | (show _ + _ ≤ Y - ks K0; omega)⟩ (fun r_10 T1 K1 H locs h hle1 hc1 hs1 hP hS => ?_)
          obtain ⟨h, hKe⟩ := h
          rw [hKe] at hP
          generalize T1 = T_11 at h hP
          refine lv_iload_n hx hb dX8_add_53 rfl (lv_at hl 3 rfl) ?_
          refine lv_iconst (v := 2) hx hb dX8_add_54 (by decide) ?_
          refine lv_idiv hx hb dX8_add_55 (by decide) ?_
          refine lv_topi (fun x3_13 ex3_13 => ?_)
          have h := h x3_13 ex3_13
          refine lv_istore_n (lv' := [(3, .int x3_13), (0, .ref (b + p0)), (1, .int p1), (2, .int p2)]) hx hb dX8_add_56 rfl hl (by decide) rfl (fun ls hl => ?_)
          refine lv_goto (tgt := 15) hx hb dX8_add_57 (by decide) ?_
          obtain ⟨mm, hmm, h⟩ := h
          exact ih15 mm hmm _ _ _ _ _  hP hS (lv_sub hl [1, 2, 3, 0] rfl) h
  unfold wx8_add at h
  refine lv_aload_n hx hb dX8_add_0 rfl (lv_at hl 0 rfl) ?_
  refine lv_dup hx hb dX8_add_1 rfl ?_
  refine x_get (CC := RX8) (TT := TX8) (N := 3) (ci := 6) (v := .int (xi T p0 2)) hx hb hts in_X8 hown hK hP hk_p0 (by decide) (by decide) rfl (xE_13 hk_p0) 2 (by decide) q1030 rfl rfl dX8_add_2 ?_
  refine lv_iconst (v := 1) hx hb dX8_add_5 (by decide) ?_
  refine lv_iadd hx hb dX8_add_6 ?_
  obtain ⟨T_16, eT_16⟩ : ∃ z : XT, z = xwi T p0 2 ((xi T p0 2) + 1) := ⟨_, rfl⟩
  have h := h T_16 eT_16
  refine x_put (CC := RX8) (TT := TX8) (N := 3) (ci := 6) (T1 := T_16) (v := .int ((xi T p0 2) + 1)) (ty := .int) (fsf := fun T => fs13 (gem G) b T p0) hx hb hts in_X8 tyX8 tyX8_ok nmX8 hown hK hP hS hk_p0 (by decide) (by decide) rfl (fun _ => xE_13 hk_p0) rfl 2 (by decide) q1030 rfl (Or.inl rfl) rfl rfl rfl (by rw [eT_16]; exact fw13_2 _ b T p0 ((xi T p0 2) + 1)) (by rw [eT_16]; exact fun q hq => xwi_i hq) (by rw [eT_16]; exact fun _ _ => rfl) (by rw [eT_16]; exact xwi_ty hP (by rw [hk_p0]; decide)) dX8_add_7 (fun H locs hP hS => ?_)
  refine lv_aload_n hx hb dX8_add_10 rfl (lv_at hl 0 rfl) ?_
  refine x_get (CC := RX8) (TT := TX8) (N := 3) (ci := 6) (v := .int (xi T_16 p0 2)) hx hb hts in_X8 hown hK hP hk_p0 (by decide) (by decide) rfl (xE_13 hk_p0) 2 (by decide) q1030 rfl rfl dX8_add_11 ?_
  refine lv_istore_n (lv' := [(3, .int (xi T_16 p0 2)), (0, .ref (b + p0)), (1, .int p1), (2, .int p2)]) hx hb dX8_add_14 rfl hl (by decide) rfl (fun ls hl => ?_)
  exact L15 _ _ _ _ _ h  hP hS (lv_sub hl [1, 2, 3, 0] rfl)
theorem cwx_X8_top : yX8_top.cls = RX8 ∧ yX8_top.cls ≠ "java/lang/invoke/MethodHandle" ∧ yX8_top.cls ≠ "java/lang/invoke/VarHandle" ∧ (parseMethodDescriptor yX8_top.desc).map (fun d => d.parameters.length) = some 0 := by decide +kernel
def wx8_top (p0 : Nat) (K : XK) (T : XT) (post : Int32 → Prop) : Prop :=
  ∃ v_1 : Nat, xr T p0 1 = some v_1 ∧
  ∃ j_2 : Nat, j_2 < kl K v_1 ∧ 1 = nI j_2 ∧
  post (xi T v_1 j_2)
set_option maxHeartbeats 4000000 in
theorem mx8_top (l : Launch) (G : XG) (b : Nat) (hole : Nat → Prop) (p0 : Nat) (K : XK) (T : XT) (hk_p0 : kd K p0 = 13) (post : Int32 → Prop) (h : wx8_top p0 K T post) : Met l yX8_top (ws_ yX8_top cX8_top 1 (some .int)) ({ frames := 0, cells := 0, slots := 0, locals := 0 } : Room) (xPc G b hole [.ref (b + p0)] K T) (xQ G b hole K 0 0 (ρ := Int32) eI (fun r T1 K1 => post r ∧ T1 = T ∧ K1 = K)) 0 0 (xA b hole) := by
  refine Met.ofW (cc := cX8_top) (maxL := 1) (ret := (some .int)) (by decide) rfl ?_
  intro p e s m args below meth c s₁ B hml hv
  obtain ⟨rfl, hP, hK, hV⟩ := hv
  have hx := B.exec
  have hb := B.bytes
  have hr := B.returns
  have hts := atoms_spec (ws := ws_ yX8_top cX8_top 1 (some .int)) B.pre
  have hts : ∀ w ∈ lw_all, w.before _ s = true := fun w h => hts w (List.mem_cons_of_mem _ h)
  have hown : s.vm.findClass RX8 = some m.cls := findClass_of_methodNamed B.named
  have hlocks := B.notSynchronized
  have hb0 : b ≤ s.heap.size := by rw [hP.2.2.2]; exact Nat.le_add_right _ _
  have hS : va_S (xA b hole) s.heap s.heap [] := va_S.rf
  have hl := lv_entry ([.ref (b + p0)]) (n := 1) (Nat.le_of_ble_eq_true rfl)
  rw [lg_entry_eq]
  generalize (lg_sl ([.ref (b + p0)]) ++ List.replicate (1 - (lg_sl ([.ref (b + p0)])).length) Slot.unset).toArray = ls at hl ⊢
  have hl : lv_has ls 1 [(0, .ref (b + p0))] := hl
  unfold wx8_top at h
  refine lv_aload_n hx hb dX8_top_0 rfl (lv_at hl 0 rfl) ?_
  obtain ⟨v_1, ev_1, h⟩ := h
  refine x_get (CC := RX8) (TT := TX8) (N := 3) (ci := 6) (v := rfv b (xr T p0 1)) hx hb hts in_X8 hown hK hP hk_p0 (by decide) (by decide) rfl (xE_13 hk_p0) 1 (by decide) q1029 rfl rfl dX8_top_1 ?_
  refine x_some ev_1 ?_
  have hk_v_1 : kd K v_1 = 1 := hP.ty hk_p0 (by decide) ev_1
  refine lv_iconst (v := 1) hx hb dX8_top_4 (by decide) ?_
  obtain ⟨j_2, hj_2, ej_2, h⟩ := h
  refine x_iald hx hb hK hP hk_v_1 ej_2 hj_2 dX8_top_5 ?_
  exact W.iret (v := (xi T v_1 j_2)) hx hb hr (fun t ht hW => ⟨⟨(xi T v_1 j_2), T, K, rfl, ⟨h, rfl, rfl⟩, kle.rf, rfl, rfl, by rw [ht]; exact hP, va_K.moved hW.alike hK⟩, hS.F ht⟩) hS.2.2 dX8_top_6
theorem cwx_X8_take : yX8_take.cls = RX8 ∧ yX8_take.cls ≠ "java/lang/invoke/MethodHandle" ∧ yX8_take.cls ≠ "java/lang/invoke/VarHandle" ∧ (parseMethodDescriptor yX8_take.desc).map (fun d => d.parameters.length) = some 0 := by decide +kernel
def wx8_take_j141 (p0 : Nat) (post : Int32 → XT → Prop) (x1 : Int32) (x2 : Int32) (x3 : Int32) (x4 : Int32) (K : XK) (T : XT) : Prop :=
    wx8_puts p0 x4 x2 x3 K T (fun T_2 =>
    post x1 T_2)
def wx8_take_j100 (p0 : Nat) (post : Int32 → XT → Prop) (R40 : Int32 → XT → Prop) (x1 : Int32) (x2 : Int32) (x3 : Int32) (x4 : Int32) (x5 : Int32) (K : XK) (T : XT) : Prop :=
        ∃ v_4 : Nat, xr T p0 1 = some v_4 ∧
        ∃ j_5 : Nat, j_5 < kl K v_4 ∧ x5 = nI j_5 ∧
        ((x3 < (xi T v_4 j_5) →
          ∃ v_6 : Nat, xr T p0 0 = some v_6 ∧
          ∃ j_7 : Nat, j_7 < kl K v_6 ∧ x5 = nI j_7 ∧
          ∃ v_8 : Nat, xr T p0 1 = some v_8 ∧
          ∃ j_9 : Nat, j_9 < kl K v_8 ∧ x5 = nI j_9 ∧
          wx8_puts p0 x4 (xi T v_6 j_7) (xi T v_8 j_9) K T (fun T_11 =>
          R40 x5 T_11)) ∧
         (¬ (x3 < (xi T v_4 j_5)) →
          wx8_take_j141 p0 post x1 x2 x3 x4 K T))
def wx8_take_j94 (p0 : Nat) (post : Int32 → XT → Prop) (R40 : Int32 → XT → Prop) (x1 : Int32) (x2 : Int32) (x3 : Int32) (x4 : Int32) (K : XK) (T : XT) : Prop :=
        ∀ x5_14 : Int32, x5_14 = (2 * x4) →
        wx8_take_j100 p0 post R40 x1 x2 x3 x4 x5_14 K T
def wx8_take_b40 (p0 : Nat) (post : Int32 → XT → Prop) (R40 : Int32 → XT → Prop) (x1 : Int32) (x2 : Int32) (x3 : Int32) (x4 : Int32) (K : XK) (T : XT) : Prop :=
      (((xi T p0 2) < (2 * x4) →
        wx8_take_j141 p0 post x1 x2 x3 x4 K T) ∧
       (¬ ((xi T p0 2) < (2 * x4)) →
        (((xi T p0 2) ≤ (2 * x4) →
          wx8_take_j94 p0 post R40 x1 x2 x3 x4 K T) ∧
         (¬ ((xi T p0 2) ≤ (2 * x4)) →
          ∃ v_15 : Nat, xr T p0 1 = some v_15 ∧
          ∃ j_16 : Nat, j_16 < kl K v_15 ∧ ((2 * x4) + 1) = nI j_16 ∧
          ∃ v_17 : Nat, xr T p0 1 = some v_17 ∧
          ∃ j_18 : Nat, j_18 < kl K v_17 ∧ (2 * x4) = nI j_18 ∧
          (((xi T v_15 j_16) ≤ (xi T v_17 j_18) →
            wx8_take_j94 p0 post R40 x1 x2 x3 x4 K T) ∧
           (¬ ((xi T v_15 j_16) ≤ (xi T v_17 j_18)) →
            ∀ x5_19 : Int32, x5_19 = ((2 * x4) + 1) →
            wx8_take_j100 p0 post R40 x1 x2 x3 x4 x5_19 K T))))))
def wx8_take_l40 (p0 : Nat) (post : Int32 → XT → Prop) (x1 : Int32) (x2 : Int32) (x3 : Int32) (x4 : Int32) (K : XK) (T : XT) : Prop := wLoop (fun (R : ((Int32) × (XT)) → Prop) (v : (Int32) × (XT)) => wx8_take_b40 p0 post (fun x4 T => R (x4, T)) x1 x2 x3 v.1 K v.2) (x4, T)
def wx8_take (p0 : Nat) (K : XK) (T : XT) (post : Int32 → XT → Prop) : Prop :=
  ∃ v_23 : Nat, xr T p0 0 = some v_23 ∧
  ∃ j_24 : Nat, j_24 < kl K v_23 ∧ 1 = nI j_24 ∧
  ∃ v_25 : Nat, xr T p0 0 = some v_25 ∧
  ∃ j_26 : Nat, j_26 < kl K v_25 ∧ (xi T p0 2) = nI j_26 ∧
  ∃ v_27 : Nat, xr T p0 1 = some v_27 ∧
  ∃ j_28 : Nat, j_28 < kl K v_27 ∧ (xi T p0 2) = nI j_28 ∧
  ∀ T_29 : XT, T_29 = xwi T p0 2 ((xi T p0 2) - 1) →
  wx8_take_l40 p0 post (xi T v_23 j_24) (xi T v_25 j_26) (xi T v_27 j_28) 1 K T_29
set_option maxHeartbeats 4000000 in
theorem mx8_take (l : Launch) (G : XG) (b : Nat) (hole : Nat → Prop) (p0 : Nat) (K : XK) (T : XT) (hk_p0 : kd K p0 = 13) (post : Int32 → XT → Prop) (h : wx8_take p0 K T post) : Met l yX8_take (ws_ yX8_take cX8_take 6 (some .int)) ({ frames := 1, cells := 0, slots := 0, locals := 23 } : Room) (xPc G b hole [.ref (b + p0)] K T) (xQ G b hole K 0 0 (ρ := Int32) eI (fun r T1 K1 => post r T1 ∧ K1 = K)) 0 0 (xA b hole) := by
  refine Met.ofW (cc := cX8_take) (maxL := 6) (ret := (some .int)) (by decide) rfl ?_
  intro p e s m args below meth c s₁ B hml hv
  obtain ⟨rfl, hP, hK, hV⟩ := hv
  have hx := B.exec
  have hb := B.bytes
  have hr := B.returns
  have hts := atoms_spec (ws := ws_ yX8_take cX8_take 6 (some .int)) B.pre
  have hts : ∀ w ∈ lw_all, w.before _ s = true := fun w h => hts w (List.mem_cons_of_mem _ h)
  have hown : s.vm.findClass RX8 = some m.cls := findClass_of_methodNamed B.named
  have hlocks := B.notSynchronized
  have hb0 : b ≤ s.heap.size := by rw [hP.2.2.2]; exact Nat.le_add_right _ _
  have hS : va_S (xA b hole) s.heap s.heap [] := va_S.rf
  have hl := lv_entry ([.ref (b + p0)]) (n := 6) (Nat.le_of_ble_eq_true rfl)
  rw [lg_entry_eq]
  generalize (lg_sl ([.ref (b + p0)]) ++ List.replicate (6 - (lg_sl ([.ref (b + p0)])).length) Slot.unset).toArray = ls at hl ⊢
  have hl : lv_has ls 6 [(0, .ref (b + p0))] := hl
  have J141 : ∀ (x1 : Int32) (x2 : Int32) (x3 : Int32) (x4 : Int32) (T : XT) (H : Heap) (locs : List Loc) (ls : Array Slot), wx8_take_j141 p0 post x1 x2 x3 x4 K T → xW G b hole K T H → va_S (xA b hole) s.heap H locs → lv_has ls 6 [(0, .ref (b + p0)), (1, .int x1), (2, .int x2), (3, .int x3), (4, .int x4)] → W p l e (headSpec (ws_ yX8_take cX8_take 6 (some .int)) ({ frames := 1, cells := 0, slots := 0, locals := 23 } : Room)).room s m ([.ref (b + p0)] : List Value).toArray below meth c H locs 0 0 (MQ below (xQ G b hole K 0 0 (ρ := Int32) eI (fun r T1 K1 => post r T1 ∧ K1 = K)) ([.ref (b + p0)] : List Value).toArray s 0 0 (xA b hole)) (F0 m 141 ls []) := by
    intro x1 x2 x3 x4 T H locs ls h hP hS hl
    unfold wx8_take_j141 at h
    refine lv_aload_n hx hb dX8_take_141 rfl (lv_at hl 0 rfl) ?_
    refine lv_iload hx hb dX8_take_142 (lv_at hl 4 rfl) ?_
    refine lv_iload_n hx hb dX8_take_144 rfl (lv_at hl 2 rfl) ?_
    refine lv_iload_n hx hb dX8_take_145 rfl (lv_at hl 3 rfl) ?_
    refine x_cV (k := p0) (As := [.int x4, .int x2, .int x3]) (rest := []) ⟨hx, hb, hml, hown, hts⟩ (mx8_puts l G b hole p0 x4 x2 x3 K T hk_p0 _ h) (cwV 3 hts (lw_V q1043 q1045 qs46 q137 q1046) rfl rfl rfl cwx_X8_puts ⟨Nat.le_of_ble_eq_true rfl, Nat.le_of_ble_eq_true rfl⟩) (x_recv (CC := RX8) (ci := 6) hK hP hk_p0 (by decide) (by decide) rfl (xE_13 hk_p0)) hK hV hb0 hP hS rfl hl.1 rfl (Nat.le_of_ble_eq_true rfl) dX8_take_146 ⟨by first | exact Nat.zero_le _ | (show _ + _ ≤ Z - kc K0; omega), by first | exact Nat.zero_le _ | (show _ + _ ≤ Y - ks K0; omega)⟩ (fun r_1 T1 K1 H locs h hle1 hc1 hs1 hP hS => ?_)
    obtain ⟨h, hKe⟩ := h
    rw [hKe] at hP
    generalize T1 = T_2 at h hP
    refine lv_iload_n hx hb dX8_take_149 rfl (lv_at hl 1 rfl) ?_
    exact W.iret (v := x1) hx hb hr (fun t ht hW => ⟨⟨x1, T_2, K, rfl, ⟨h, rfl⟩, kle.rf, rfl, rfl, by rw [ht]; exact hP, va_K.moved hW.alike hK⟩, hS.F ht⟩) hS.2.2 dX8_take_150
  have L40 : ∀ (x1 : Int32) (x2 : Int32) (x3 : Int32) (x4 : Int32) (T : XT) (H : Heap) (locs : List Loc) (ls : Array Slot), wx8_take_l40 p0 post x1 x2 x3 x4 K T → xW G b hole K T H → va_S (xA b hole) s.heap H locs → lv_has ls 6 [(0, .ref (b + p0)), (1, .int x1), (2, .int x2), (3, .int x3), (4, .int x4)] → W p l e (headSpec (ws_ yX8_take cX8_take 6 (some .int)) ({ frames := 1, cells := 0, slots := 0, locals := 23 } : Room)).room s m ([.ref (b + p0)] : List Value).toArray below meth c H locs 0 0 (MQ below (xQ G b hole K 0 0 (ρ := Int32) eI (fun r T1 K1 => post r T1 ∧ K1 = K)) ([.ref (b + p0)] : List Value).toArray s 0 0 (xA b hole)) (F0 m 40 ls []) := by
    intro x1 x2 x3 x4 T H locs ls h hP hS hl
    obtain ⟨I40, n40, hI, hstep40⟩ := h
    induction n40 using Nat.strongRecOn generalizing x4 T H locs ls with
    | ind n40 ih40 =>
      have h : wx8_take_b40 p0 post (fun x4 T => ∃ mm, mm < n40 ∧ I40 mm (x4, T)) x1 x2 x3 x4 K T := hstep40 n40 _ hI
      clear hI
      have J100 : ∀ (x4 : Int32) (x5 : Int32) (T : XT) (H : Heap) (locs : List Loc) (ls : Array Slot), wx8_take_j100 p0 post (fun x4 T => ∃ mm, mm < n40 ∧ I40 mm (x4, T)) x1 x2 x3 x4 x5 K T → xW G b hole K T H → va_S (xA b hole) s.heap H locs → lv_has ls 6 [(0, .ref (b + p0)), (1, .int x1), (2, .int x2), (3, .int x3), (4, .int x4), (5, .int x5)] → W p l e (headSpec (ws_ yX8_take cX8_take 6 (some .int)) ({ frames := 1, cells := 0, slots := 0, locals := 23 } : Room)).room s m ([.ref (b + p0)] : List Value).toArray below meth c H locs 0 0 (MQ below (xQ G b hole K 0 0 (ρ := Int32) eI (fun r T1 K1 => post r T1 ∧ K1 = K)) ([.ref (b + p0)] : List Value).toArray s 0 0 (xA b hole)) (F0 m 100 ls []) := by
        intro x4 x5 T H locs ls h hP hS hl
        unfold wx8_take_j100 at h
        refine lv_aload_n hx hb dX8_take_100 rfl (lv_at hl 0 rfl) ?_
        obtain ⟨v_4, ev_4, h⟩ := h
        refine x_get (CC := RX8) (TT := TX8) (N := 3) (ci := 6) (v := rfv b (xr T p0 1)) hx hb hts in_X8 hown hK hP hk_p0 (by decide) (by decide) rfl (xE_13 hk_p0) 1 (by decide) q1029 rfl rfl dX8_take_101 ?_
        refine x_some ev_4 ?_
        have hk_v_4 : kd K v_4 = 1 := hP.ty hk_p0 (by decide) ev_4
        refine lv_iload hx hb dX8_take_104 (lv_at hl 5 rfl) ?_
        obtain ⟨j_5, hj_5, ej_5, h⟩ := h
        refine x_iald hx hb hK hP hk_v_4 ej_5 hj_5 dX8_take_106 ?_
        refine lv_iload_n hx hb dX8_take_107 rfl (lv_at hl 3 rfl) ?_
        refine lv_icmp_gt (tgt := 114) hx hb dX8_take_108 (by decide) (fun c_13 => ?_) (fun c_13 => ?_)
        · have h := h.1 c_13
          refine lv_aload_n hx hb dX8_take_114 rfl (lv_at hl 0 rfl) ?_
          refine lv_iload hx hb dX8_take_115 (lv_at hl 4 rfl) ?_
          refine lv_aload_n hx hb dX8_take_117 rfl (lv_at hl 0 rfl) ?_
          obtain ⟨v_6, ev_6, h⟩ := h
          refine x_get (CC := RX8) (TT := TX8) (N := 3) (ci := 6) (v := rfv b (xr T p0 0)) hx hb hts in_X8 hown hK hP hk_p0 (by decide) (by decide) rfl (xE_13 hk_p0) 0 (by decide) q1028 rfl rfl dX8_take_118 ?_
          refine x_some ev_6 ?_
          have hk_v_6 : kd K v_6 = 1 := hP.ty hk_p0 (by decide) ev_6
          refine lv_iload hx hb dX8_take_121 (lv_at hl 5 rfl) ?_
          obtain ⟨j_7, hj_7, ej_7, h⟩ := h
          refine x_iald hx hb hK hP hk_v_6 ej_7 hj_7 dX8_take_123 ?_
          refine lv_aload_n hx hb dX8_take_124 rfl (lv_at hl 0 rfl) ?_
          obtain ⟨v_8, ev_8, h⟩ := h
          refine x_get (CC := RX8) (TT := TX8) (N := 3) (ci := 6) (v := rfv b (xr T p0 1)) hx hb hts in_X8 hown hK hP hk_p0 (by decide) (by decide) rfl (xE_13 hk_p0) 1 (by decide) q1029 rfl rfl dX8_take_125 ?_
          refine x_some ev_8 ?_
          have hk_v_8 : kd K v_8 = 1 := hP.ty hk_p0 (by decide) ev_8
          refine lv_iload hx hb dX8_take_128 (lv_at hl 5 rfl) ?_
          obtain ⟨j_9, hj_9, ej_9, h⟩ := h
          refine x_iald hx hb hK hP hk_v_8 ej_9 hj_9 dX8_take_130 ?_
          refine x_cV (k := p0) (As := [.int x4, .int (xi T v_6 j_7), .int (xi T v_8 j_9)]) (rest := []) ⟨hx, hb, hml, hown, hts⟩ (mx8_puts l G b hole p0 x4 (xi T v_6 j_7) (xi T v_8 j_9) K T hk_p0 _ h) (cwV 3 hts (lw_V q1043 q1045 qs46 q137 q1046) rfl rfl rfl cwx_X8_puts ⟨Nat.le_of_ble_eq_true rfl, Nat.le_of_ble_eq_true rfl⟩) (x_recv (CC := RX8) (ci := 6) hK hP hk_p0 (by decide) (by decide) rfl (xE_13 hk_p0)) hK hV hb0 hP hS rfl hl.1 rfl (Nat.le_of_ble_eq_true rfl) dX8_take_131 ⟨by first | exact Nat.zero_le _ | (show _ + _ ≤ Z - kc K0; omega), by first | exact Nat.zero_le _ | (show _ + _ ≤ Y - ks K0; omega)⟩ (fun r_10 T1 K1 H locs h hle1 hc1 hs1 hP hS => ?_)
          obtain ⟨h, hKe⟩ := h
          rw [hKe] at hP
          generalize T1 = T_11 at h hP
          refine lv_iload hx hb dX8_take_134 (lv_at hl 5 rfl) ?_
          refine lv_istore (lv' := [(4, .int x5), (0, .ref (b + p0)), (1, .int x1), (2, .int x2), (3, .int x3), (5, .int x5)]) hx hb dX8_take_136 hl (by decide) rfl (fun ls hl => ?_)
          refine lv_goto (tgt := 40) hx hb dX8_take_138 (by decide) ?_
          obtain ⟨mm, hmm, h⟩ := h
          exact ih40 mm hmm _ _ _ _ _  hP hS (lv_sub hl [1, 2, 3, 4, 0] rfl) h
        · have h := h.2 c_13
          refine lv_goto (tgt := 141) hx hb dX8_take_111 (by decide) ?_
          exact J141 _ _ _ _ _ _ _ _ h  hP hS (lv_sub hl [0, 1, 2, 3, 4] rfl)
      have J94 : ∀ (x4 : Int32) (T : XT) (H : Heap) (locs : List Loc) (ls : Array Slot), wx8_take_j94 p0 post (fun x4 T => ∃ mm, mm < n40 ∧ I40 mm (x4, T)) x1 x2 x3 x4 K T → xW G b hole K T H → va_S (xA b hole) s.heap H locs → lv_has ls 6 [(0, .ref (b + p0)), (1, .int x1), (2, .int x2), (3, .int x3), (4, .int x4)] → W p l e (headSpec (ws_ yX8_take cX8_take 6 (some .int)) ({ frames := 1, cells := 0, slots := 0, locals := 23 } : Room)).room s m ([.ref (b + p0)] : List Value).toArray below meth c H locs 0 0 (MQ below (xQ G b hole K 0 0 (ρ := Int32) eI (fun r T1 K1 => post r T1 ∧ K1 = K)) ([.ref (b + p0)] : List Value).toArray s 0 0 (xA b hole)) (F0 m 94 ls []) := by
        intro x4 T H locs ls h hP hS hl
        unfold wx8_take_j94 at h
        refine lv_iconst (v := 2) hx hb dX8_take_94 (by decide) ?_
        refine lv_iload hx hb dX8_take_95 (lv_at hl 4 rfl) ?_
        refine lv_imul hx hb dX8_take_97 ?_
        refine lv_topi (fun x5_14 ex5_14 => ?_)
        have h := h x5_14 ex5_14
        refine lv_istore (lv' := [(5, .int x5_14), (0, .ref (b + p0)), (1, .int x1), (2, .int x2), (3, .int x3), (4, .int x4)]) hx hb dX8_take_98 hl (by decide) rfl (fun ls hl => ?_)
        exact J100 _ _ _ _ _ _ h  hP hS (lv_sub hl [1, 2, 3, 4, 5, 0] rfl)
      unfold wx8_take_b40 at h
      refine lv_iconst (v := 2) hx hb dX8_take_40 (by decide) ?_
      refine lv_iload hx hb dX8_take_41 (lv_at hl 4 rfl) ?_
      refine lv_imul hx hb dX8_take_43 ?_
      refine lv_aload_n hx hb dX8_take_44 rfl (lv_at hl 0 rfl) ?_
      refine x_get (CC := RX8) (TT := TX8) (N := 3) (ci := 6) (v := .int (xi T p0 2)) hx hb hts in_X8 hown hK hP hk_p0 (by decide) (by decide) rfl (xE_13 hk_p0) 2 (by decide) q1030 rfl rfl dX8_take_45 ?_
      refine lv_icmp_gt (tgt := 141) hx hb dX8_take_48 (by decide) (fun c_22 => ?_) (fun c_22 => ?_)
      · have h := h.1 c_22
        exact J141 _ _ _ _ _ _ _ _ h  hP hS (lv_sub hl [0, 1, 2, 3, 4] rfl)
      · have h := h.2 c_22
        refine lv_iconst (v := 2) hx hb dX8_take_51 (by decide) ?_
        refine lv_iload hx hb dX8_take_52 (lv_at hl 4 rfl) ?_
        refine lv_imul hx hb dX8_take_54 ?_
        refine lv_aload_n hx hb dX8_take_55 rfl (lv_at hl 0 rfl) ?_
        refine x_get (CC := RX8) (TT := TX8) (N := 3) (ci := 6) (v := .int (xi T p0 2)) hx hb hts in_X8 hown hK hP hk_p0 (by decide) (by decide) rfl (xE_13 hk_p0) 2 (by decide) q1030 rfl rfl dX8_take_56 ?_
        refine lv_icmp_ge (tgt := 94) hx hb dX8_take_59 (by decide) (fun c_21 => ?_) (fun c_21 => ?_)
        · have h := h.1 c_21
          exact J94 _ _ _ _ _ h  hP hS (lv_sub hl [0, 1, 2, 3, 4] rfl)
        · have h := h.2 c_21
          refine lv_aload_n hx hb dX8_take_62 rfl (lv_at hl 0 rfl) ?_
          obtain ⟨v_15, ev_15, h⟩ := h
          refine x_get (CC := RX8) (TT := TX8) (N := 3) (ci := 6) (v := rfv b (xr T p0 1)) hx hb hts in_X8 hown hK hP hk_p0 (by decide) (by decide) rfl (xE_13 hk_p0) 1 (by decide) q1029 rfl rfl dX8_take_63 ?_
          refine x_some ev_15 ?_
          have hk_v_15 : kd K v_15 = 1 := hP.ty hk_p0 (by decide) ev_15
          refine lv_iconst (v := 2) hx hb dX8_take_66 (by decide) ?_
          refine lv_iload hx hb dX8_take_67 (lv_at hl 4 rfl) ?_
          refine lv_imul hx hb dX8_take_69 ?_
          refine lv_iconst (v := 1) hx hb dX8_take_70 (by decide) ?_
          refine lv_iadd hx hb dX8_take_71 ?_
          obtain ⟨j_16, hj_16, ej_16, h⟩ := h
          refine x_iald hx hb hK hP hk_v_15 ej_16 hj_16 dX8_take_72 ?_
          refine lv_aload_n hx hb dX8_take_73 rfl (lv_at hl 0 rfl) ?_
          obtain ⟨v_17, ev_17, h⟩ := h
          refine x_get (CC := RX8) (TT := TX8) (N := 3) (ci := 6) (v := rfv b (xr T p0 1)) hx hb hts in_X8 hown hK hP hk_p0 (by decide) (by decide) rfl (xE_13 hk_p0) 1 (by decide) q1029 rfl rfl dX8_take_74 ?_
          refine x_some ev_17 ?_
          have hk_v_17 : kd K v_17 = 1 := hP.ty hk_p0 (by decide) ev_17
          refine lv_iconst (v := 2) hx hb dX8_take_77 (by decide) ?_
          refine lv_iload hx hb dX8_take_78 (lv_at hl 4 rfl) ?_
          refine lv_imul hx hb dX8_take_80 ?_
          obtain ⟨j_18, hj_18, ej_18, h⟩ := h
          refine x_iald hx hb hK hP hk_v_17 ej_18 hj_18 dX8_take_81 ?_
          refine lv_icmp_le (tgt := 94) hx hb dX8_take_82 (by decide) (fun c_20 => ?_) (fun c_20 => ?_)
          · have h := h.1 c_20
            exact J94 _ _ _ _ _ h  hP hS (lv_sub hl [0, 1, 2, 3, 4] rfl)
          · have h := h.2 c_20
            refine lv_iconst (v := 2) hx hb dX8_take_85 (by decide) ?_
            refine lv_iload hx hb dX8_take_86 (lv_at hl 4 rfl) ?_
            refine lv_imul hx hb dX8_take_88 ?_
            refine lv_iconst (v := 1) hx hb dX8_take_89 (by decide) ?_
            refine lv_iadd hx hb dX8_take_90 ?_
            refine lv_goto (tgt := 98) hx hb dX8_take_91 (by decide) ?_
            refine lv_topi (fun x5_19 ex5_19 => ?_)
            have h := h x5_19 ex5_19
            refine lv_istore (lv' := [(5, .int x5_19), (0, .ref (b + p0)), (1, .int x1), (2, .int x2), (3, .int x3), (4, .int x4)]) hx hb dX8_take_98 hl (by decide) rfl (fun ls hl => ?_)
            exact J100 _ _ _ _ _ _ h  hP hS (lv_sub hl [1, 2, 3, 4, 5, 0] rfl)
  unfold wx8_take at h
  refine lv_aload_n hx hb dX8_take_0 rfl (lv_at hl 0 rfl) ?_
  obtain ⟨v_23, ev_23, h⟩ := h
  refine x_get (CC := RX8) (TT := TX8) (N := 3) (ci := 6) (v := rfv b (xr T p0 0)) hx hb hts in_X8 hown hK hP hk_p0 (by decide) (by decide) rfl (xE_13 hk_p0) 0 (by decide) q1028 rfl rfl dX8_take_1 ?_
  refine x_some ev_23 ?_
  have hk_v_23 : kd K v_23 = 1 := hP.ty hk_p0 (by decide) ev_23
  refine lv_iconst (v := 1) hx hb dX8_take_4 (by decide) ?_
  obtain ⟨j_24, hj_24, ej_24, h⟩ := h
  refine x_iald hx hb hK hP hk_v_23 ej_24 hj_24 dX8_take_5 ?_
  refine lv_istore_n (lv' := [(1, .int (xi T v_23 j_24)), (0, .ref (b + p0))]) hx hb dX8_take_6 rfl hl (by decide) rfl (fun ls hl => ?_)
  refine lv_aload_n hx hb dX8_take_7 rfl (lv_at hl 1 rfl) ?_
  obtain ⟨v_25, ev_25, h⟩ := h
  refine x_get (CC := RX8) (TT := TX8) (N := 3) (ci := 6) (v := rfv b (xr T p0 0)) hx hb hts in_X8 hown hK hP hk_p0 (by decide) (by decide) rfl (xE_13 hk_p0) 0 (by decide) q1028 rfl rfl dX8_take_8 ?_
  refine x_some ev_25 ?_
  have hk_v_25 : kd K v_25 = 1 := hP.ty hk_p0 (by decide) ev_25
  refine lv_aload_n hx hb dX8_take_11 rfl (lv_at hl 1 rfl) ?_
  refine x_get (CC := RX8) (TT := TX8) (N := 3) (ci := 6) (v := .int (xi T p0 2)) hx hb hts in_X8 hown hK hP hk_p0 (by decide) (by decide) rfl (xE_13 hk_p0) 2 (by decide) q1030 rfl rfl dX8_take_12 ?_
  obtain ⟨j_26, hj_26, ej_26, h⟩ := h
  refine x_iald hx hb hK hP hk_v_25 ej_26 hj_26 dX8_take_15 ?_
  refine lv_istore_n (lv' := [(2, .int (xi T v_25 j_26)), (1, .int (xi T v_23 j_24)), (0, .ref (b + p0))]) hx hb dX8_take_16 rfl hl (by decide) rfl (fun ls hl => ?_)
  refine lv_aload_n hx hb dX8_take_17 rfl (lv_at hl 2 rfl) ?_
  obtain ⟨v_27, ev_27, h⟩ := h
  refine x_get (CC := RX8) (TT := TX8) (N := 3) (ci := 6) (v := rfv b (xr T p0 1)) hx hb hts in_X8 hown hK hP hk_p0 (by decide) (by decide) rfl (xE_13 hk_p0) 1 (by decide) q1029 rfl rfl dX8_take_18 ?_
  refine x_some ev_27 ?_
  have hk_v_27 : kd K v_27 = 1 := hP.ty hk_p0 (by decide) ev_27
  refine lv_aload_n hx hb dX8_take_21 rfl (lv_at hl 2 rfl) ?_
  refine x_get (CC := RX8) (TT := TX8) (N := 3) (ci := 6) (v := .int (xi T p0 2)) hx hb hts in_X8 hown hK hP hk_p0 (by decide) (by decide) rfl (xE_13 hk_p0) 2 (by decide) q1030 rfl rfl dX8_take_22 ?_
  obtain ⟨j_28, hj_28, ej_28, h⟩ := h
  refine x_iald hx hb hK hP hk_v_27 ej_28 hj_28 dX8_take_25 ?_
  refine lv_istore_n (lv' := [(3, .int (xi T v_27 j_28)), (2, .int (xi T v_25 j_26)), (1, .int (xi T v_23 j_24)), (0, .ref (b + p0))]) hx hb dX8_take_26 rfl hl (by decide) rfl (fun ls hl => ?_)
  refine lv_iconst (v := 1) hx hb dX8_take_27 (by decide) ?_
  refine lv_istore (lv' := [(4, .int 1), (3, .int (xi T v_27 j_28)), (2, .int (xi T v_25 j_26)), (1, .int (xi T v_23 j_24)), (0, .ref (b + p0))]) hx hb dX8_take_28 hl (by decide) rfl (fun ls hl => ?_)
  refine lv_aload_n hx hb dX8_take_30 rfl (lv_at hl 4 rfl) ?_
  refine lv_dup hx hb dX8_take_31 rfl ?_
  refine x_get (CC := RX8) (TT := TX8) (N := 3) (ci := 6) (v := .int (xi T p0 2)) hx hb hts in_X8 hown hK hP hk_p0 (by decide) (by decide) rfl (xE_13 hk_p0) 2 (by decide) q1030 rfl rfl dX8_take_32 ?_
  refine lv_iconst (v := 1) hx hb dX8_take_35 (by decide) ?_
  refine lv_isub hx hb dX8_take_36 ?_
  obtain ⟨T_29, eT_29⟩ : ∃ z : XT, z = xwi T p0 2 ((xi T p0 2) - 1) := ⟨_, rfl⟩
  have h := h T_29 eT_29
  refine x_put (CC := RX8) (TT := TX8) (N := 3) (ci := 6) (T1 := T_29) (v := .int ((xi T p0 2) - 1)) (ty := .int) (fsf := fun T => fs13 (gem G) b T p0) hx hb hts in_X8 tyX8 tyX8_ok nmX8 hown hK hP hS hk_p0 (by decide) (by decide) rfl (fun _ => xE_13 hk_p0) rfl 2 (by decide) q1030 rfl (Or.inl rfl) rfl rfl rfl (by rw [eT_29]; exact fw13_2 _ b T p0 ((xi T p0 2) - 1)) (by rw [eT_29]; exact fun q hq => xwi_i hq) (by rw [eT_29]; exact fun _ _ => rfl) (by rw [eT_29]; exact xwi_ty hP (by rw [hk_p0]; decide)) dX8_take_37 (fun H locs hP hS => ?_)
  exact L40 _ _ _ _ _ _ _ _ h  hP hS (lv_sub hl [4, 3, 2, 1, 0] rfl)
theorem cwx_X1_times_2 : yX1_times_2.cls = RX1 ∧ yX1_times_2.cls ≠ "java/lang/invoke/MethodHandle" ∧ yX1_times_2.cls ≠ "java/lang/invoke/VarHandle" ∧ (parseMethodDescriptor yX1_times_2.desc).map (fun d => d.parameters.length) = some 2 := by decide +kernel
def wx1_times_2_j270 (p1 : Nat) (p2 : Nat) (Z Y : Nat) (post : Option Nat → XT → XK → Prop) (R123 : XT → Prop) (x3 : Nat) (x4 : Nat) (x6 : Int32) (x7 : Int32) (K : XK) (T : XT) : Prop :=
        wx2_add 3 x6 x7 K T (fun T_2 =>
        R123 T_2)
def wx1_times_2_b142 (p1 : Nat) (p2 : Nat) (Z Y : Nat) (post : Option Nat → XT → XK → Prop) (R123 : XT → Prop) (R142 : Int32 → Int32 → XT → Prop) (x3 : Nat) (x4 : Nat) (x5 : Int32) (x6 : Int32) (x7 : Int32) (K : XK) (T : XT) : Prop :=
          (((xi T x3 2) ≤ 0 →
            wx1_times_2_j270 p1 p2 Z Y post R123 x3 x4 x6 x7 K T) ∧
           (¬ ((xi T x3 2) ≤ 0) →
            wx8_top x3 K T (fun r_4 =>
            ((¬ r_4 = x5 →
              wx1_times_2_j270 p1 p2 Z Y post R123 x3 x4 x6 x7 K T) ∧
             (r_4 = x5 →
              wx8_take x3 K T (fun r_7 T_8 =>
              ∃ j_10 : Nat, j_10 < kl K x4 ∧ r_7 = nI j_10 ∧
              ∃ v_11 : Nat, xr T_8 p1 0 = some v_11 ∧
              ∃ j_12 : Nat, j_12 < kl K v_11 ∧ r_7 = nI j_12 ∧
              ∃ v_13 : Nat, xr T_8 p2 0 = some v_13 ∧
              ∃ j_14 : Nat, j_14 < kl K v_13 ∧ (xi T_8 x4 j_10) = nI j_14 ∧
              ∀ x6_15 : Int32, x6_15 = ((xi T_8 v_11 j_12) + (xi T_8 v_13 j_14)) →
              ∃ v_16 : Nat, xr T_8 p1 1 = some v_16 ∧
              ∃ j_17 : Nat, j_17 < kl K v_16 ∧ r_7 = nI j_17 ∧
              ∃ v_18 : Nat, xr T_8 p2 1 = some v_18 ∧
              ∃ j_19 : Nat, j_19 < kl K v_18 ∧ (xi T_8 x4 j_10) = nI j_19 ∧
              ¬ (xi T_8 0 0) = 0 ∧
              ∀ x7_20 : Int32, x7_20 = (jrem (x7 + ((xi T_8 v_16 j_17) * (xi T_8 v_18 j_19))) (xi T_8 0 0)) →
              ∃ j_21 : Nat, j_21 < kl K x4 ∧ r_7 = nI j_21 ∧
              ∃ j_22 : Nat, j_22 < kl K x4 ∧ r_7 = nI j_22 ∧ ∀ T_23 : XT, T_23 = xwi T_8 x4 j_22 ((xi T_8 x4 j_21) + 1) →
              ∃ j_24 : Nat, j_24 < kl K x4 ∧ r_7 = nI j_24 ∧
              (((xi T_23 p2 2) ≤ (xi T_23 x4 j_24) →
                R142 x6_15 x7_20 T_23) ∧
               (¬ ((xi T_23 p2 2) ≤ (xi T_23 x4 j_24)) →
                ∃ v_25 : Nat, xr T_23 0 4 = some v_25 ∧
                ∃ v_26 : Nat, xr T_23 p1 0 = some v_26 ∧
                ∃ j_27 : Nat, j_27 < kl K v_26 ∧ r_7 = nI j_27 ∧
                ∃ v_28 : Nat, xr T_23 p2 0 = some v_28 ∧
                ∃ j_29 : Nat, j_29 < kl K x4 ∧ r_7 = nI j_29 ∧
                ∃ j_30 : Nat, j_30 < kl K v_28 ∧ (xi T_23 x4 j_29) = nI j_30 ∧
                wx_key v_25 ((xi T_23 v_26 j_27) + (xi T_23 v_28 j_30)) K T_23 (fun r_31 =>
                wx8_add x3 r_7 r_31 K T_23 (fun T_33 =>
                R142 x6_15 x7_20 T_33))))))))))
def wx1_times_2_l142 (p1 : Nat) (p2 : Nat) (Z Y : Nat) (post : Option Nat → XT → XK → Prop) (R123 : XT → Prop) (x3 : Nat) (x4 : Nat) (x5 : Int32) (x6 : Int32) (x7 : Int32) (K : XK) (T : XT) : Prop := wLoop (fun (R : ((Int32) × (Int32) × (XT)) → Prop) (v : (Int32) × (Int32) × (XT)) => wx1_times_2_b142 p1 p2 Z Y post R123 (fun x6 x7 T => R (x6, x7, T)) x3 x4 x5 v.1 v.2.1 K v.2.2) (x6, x7, T)
def wx1_times_2_b123 (p1 : Nat) (p2 : Nat) (Z Y : Nat) (post : Option Nat → XT → XK → Prop) (R123 : XT → Prop) (x3 : Nat) (x4 : Nat)  (K : XK) (T : XT) : Prop :=
      (((xi T x3 2) ≤ 0 →
        ∃ Z_41 Y_42 : Nat, kc K ≤ Z_41 ∧ Z_41 ≤ Z ∧ ks K ≤ Y_42 ∧ Y_42 ≤ Y ∧ wx2_poly 3 K T Z_41 Y_42 (fun r_38 T_39 K_40 =>
        post (some r_38) T_39 (kset K_40 Z Y))) ∧
       (¬ ((xi T x3 2) ≤ 0) →
        wx8_top x3 K T (fun r_43 =>
        wx1_times_2_l142 p1 p2 Z Y post R123 x3 x4 r_43 0 0 K T)))
def wx1_times_2_l123 (p1 : Nat) (p2 : Nat) (Z Y : Nat) (post : Option Nat → XT → XK → Prop) (x3 : Nat) (x4 : Nat)  (K : XK) (T : XT) : Prop := wLoop (fun (R : ((XT)) → Prop) (v : (XT)) => wx1_times_2_b123 p1 p2 Z Y post (fun T => R T) x3 x4  K v) T
def wx1_times_2_b72 (p1 : Nat) (p2 : Nat) (Z Y : Nat) (post : Option Nat → XT → XK → Prop) (R72 : Int32 → XT → Prop) (x3 : Nat) (x4 : Nat) (x5 : Int32) (K : XK) (T : XT) : Prop :=
      (((xi T p1 2) ≤ x5 →
        wx1_times_2_l123 p1 p2 Z Y post x3 x4 K T) ∧
       (¬ ((xi T p1 2) ≤ x5) →
        wx6_isZero p2 K T (fun r_47 =>
        ((¬ r_47 = 0 →
          wx1_times_2_l123 p1 p2 Z Y post x3 x4 K T) ∧
         (r_47 = 0 →
          ∃ v_50 : Nat, xr T 0 4 = some v_50 ∧
          ∃ v_51 : Nat, xr T p1 0 = some v_51 ∧
          ∃ j_52 : Nat, j_52 < kl K v_51 ∧ x5 = nI j_52 ∧
          ∃ v_53 : Nat, xr T p2 0 = some v_53 ∧
          ∃ j_54 : Nat, j_54 < kl K v_53 ∧ 0 = nI j_54 ∧
          wx_key v_50 ((xi T v_51 j_52) + (xi T v_53 j_54)) K T (fun r_55 =>
          wx8_add x3 x5 r_55 K T (fun T_57 =>
          ∀ x5_59 : Int32, x5_59 = x5 + 1 →
          R72 x5_59 T_57)))))))
def wx1_times_2_l72 (p1 : Nat) (p2 : Nat) (Z Y : Nat) (post : Option Nat → XT → XK → Prop) (x3 : Nat) (x4 : Nat) (x5 : Int32) (K : XK) (T : XT) : Prop := wLoop (fun (R : ((Int32) × (XT)) → Prop) (v : (Int32) × (XT)) => wx1_times_2_b72 p1 p2 Z Y post (fun x5 T => R (x5, T)) x3 x4 v.1 K v.2) (x5, T)
def wx1_times_2_j39 (p1 : Nat) (p2 : Nat) (Z Y : Nat) (post : Option Nat → XT → XK → Prop) (R2 : Int32 → Prop) (x3 : Int32) (K : XK) (T : XT) : Prop :=
        ∀ x3_62 : Int32, x3_62 = x3 + 1 →
        R2 x3_62
def wx1_times_2_b2 (p1 : Nat) (p2 : Nat) (Z Y : Nat) (post : Option Nat → XT → XK → Prop) (R2 : Int32 → Prop)  (x3 : Int32) (K : XK) (T : XT) : Prop :=
      ((3 ≤ x3 →
        wx2_begins 3 K T (fun r_63 T_64 =>
        kc K + 1 ≤ Z ∧ ks K + 3 ≤ Y ∧ ∀ K_66 : XK, K_66 = knew K 13 0 3 → ∀ T_67 : XT, T_67 = xnil T_64 (kz K) →
        ∃ Z_71 Y_72 : Nat, kc K_66 ≤ Z_71 ∧ Z_71 ≤ Z ∧ ks K_66 ≤ Y_72 ∧ Y_72 ≤ Y ∧ wx8_init (kz K) K_66 T_67 Z_71 Y_72 (fun T_69 K_70 =>
        ∃ n_73 : Nat, n_73 < 2 ^ 27 ∧ (xi T_69 p1 2) = nI n_73 ∧ kc K_70 + 1 ≤ Z ∧ ks K_70 + n_73 ≤ Y ∧ ∀ K_74 : XK, K_74 = knew K_70 1 n_73 n_73 → ∀ T_75 : XT, T_75 = xnil T_69 (kz K_70) →
        wx1_times_2_l72 p1 p2 Z Y post (kz K) (kz K_70) 0 K_74 T_75))) ∧
       (¬ (3 ≤ x3) →
        wx6_isZero p1 K T (fun r_76 =>
        ((¬ r_76 = 0 →
          wx1_times_2_j39 p1 p2 Z Y post R2 x3 K T) ∧
         (r_76 = 0 →
          wx6_isZero p2 K T (fun r_79 =>
          ((¬ r_79 = 0 →
            wx1_times_2_j39 p1 p2 Z Y post R2 x3 K T) ∧
           (r_79 = 0 →
            wx6_most p1 x3 K T (fun r_82 =>
            wx6_most p2 x3 K T (fun r_85 =>
            (((r_82 + r_85) ≤ 15 →
              wx1_times_2_j39 p1 p2 Z Y post R2 x3 K T) ∧
             (¬ ((r_82 + r_85) ≤ 15) →
              post none T (kset K Z Y)))))))))))))
def wx1_times_2_l2 (p1 : Nat) (p2 : Nat) (Z Y : Nat) (post : Option Nat → XT → XK → Prop)  (x3 : Int32) (K : XK) (T : XT) : Prop := wLoop (fun (R : ((Int32)) → Prop) (v : (Int32)) => wx1_times_2_b2 p1 p2 Z Y post (fun x3 => R x3)  v K T) x3
def wx1_times_2 (p1 : Nat) (p2 : Nat) (K0 : XK) (T : XT) (Z Y : Nat) (post : Option Nat → XT → XK → Prop) : Prop :=
  wx1_times_2_l2 p1 p2 Z Y post 0 K0 T
set_option maxHeartbeats 4000000 in
theorem mx1_times_2 (l : Launch) (G : XG) (b : Nat) (hole : Nat → Prop) (p1 : Nat) (p2 : Nat) (K0 : XK) (T : XT) (Z Y : Nat) (hZ : kc K0 ≤ Z) (hY : ks K0 ≤ Y) (hk_p1 : kd K0 p1 = 2) (hk_p2 : kd K0 p2 = 2) (post : Option Nat → XT → XK → Prop) (h : wx1_times_2 p1 p2 K0 T Z Y post) : Met l yX1_times_2 (ws_ yX1_times_2 cX1_times_2 10 (some (.object "TermDesk$Poly"))) ({ frames := 4, cells := (Z - kc K0), slots := (Y - ks K0), locals := 103 } : Room) (xPc G b hole [.ref (b + 0), .ref (b + p1), .ref (b + p2)] K0 T) (xQ G b hole K0 (Z - kc K0) (Y - ks K0) (ρ := Option Nat) (eQ b) (fun r T1 K1 => post r T1 K1 ∧ (∀ v, r = some v → kd K1 v = 2))) (Z - kc K0) (Y - ks K0) (xA b hole) := by
  refine Met.ofW (cc := cX1_times_2) (maxL := 10) (ret := (some (.object "TermDesk$Poly"))) (by decide) rfl ?_
  intro p e s m args below meth c s₁ B hml hv
  obtain ⟨rfl, hP, hK, hV⟩ := hv
  have hx := B.exec
  have hb := B.bytes
  have hr := B.returns
  have hts := atoms_spec (ws := ws_ yX1_times_2 cX1_times_2 10 (some (.object "TermDesk$Poly"))) B.pre
  have hts : ∀ w ∈ lw_all, w.before _ s = true := fun w h => hts w (List.mem_cons_of_mem _ h)
  have hown : s.vm.findClass RX1 = some m.cls := findClass_of_methodNamed B.named
  have hlocks := B.notSynchronized
  have hb0 : b ≤ s.heap.size := by rw [hP.2.2.2]; exact Nat.le_add_right _ _
  have hS : va_S (xA b hole) s.heap s.heap [] := va_S.rf
  have hl := lv_entry ([.ref (b + 0), .ref (b + p1), .ref (b + p2)]) (n := 10) (Nat.le_of_ble_eq_true rfl)
  rw [lg_entry_eq]
  generalize (lg_sl ([.ref (b + 0), .ref (b + p1), .ref (b + p2)]) ++ List.replicate (10 - (lg_sl ([.ref (b + 0), .ref (b + p1), .ref (b + p2)])).length) Slot.unset).toArray = ls at hl ⊢
  have hl : lv_has ls 10 [(0, .ref (b + 0)), (1, .ref (b + p1)), (2, .ref (b + p2))] := hl
  have hle0 : kle K0 K0 := kle.rf
  have L123 : ∀ (x3 : Nat) (x4 : Nat) (T : XT) (K : XK) (cn sn : Nat) (H : Heap) (locs : List Loc) (ls : Array Slot), wx1_times_2_l123 p1 p2 Z Y post x3 x4  K T → kle K0 K → kc K0 + cn = kc K → ks K0 + sn = ks K → kc K ≤ Z → ks K ≤ Y → (kd K x3 = 13) → (kd K x4 = 1) → (kd K p1 = 2) → (kd K p2 = 2) → xW G b hole K T H → va_S (xA b hole) s.heap H locs → lv_has ls 10 [(0, .ref (b + 0)), (1, .ref (b + p1)), (2, .ref (b + p2)), (3, .ref (b + x3)), (4, .ref (b + x4))] → W p l e (headSpec (ws_ yX1_times_2 cX1_times_2 10 (some (.object "TermDesk$Poly"))) ({ frames := 4, cells := (Z - kc K0), slots := (Y - ks K0), locals := 103 } : Room)).room s m ([.ref (b + 0), .ref (b + p1), .ref (b + p2)] : List Value).toArray below meth c H locs cn sn (MQ below (xQ G b hole K0 (Z - kc K0) (Y - ks K0) (ρ := Option Nat) (eQ b) (fun r T1 K1 => post r T1 K1 ∧ (∀ v, r = some v → kd K1 v = 2))) ([.ref (b + 0), .ref (b + p1), .ref (b + p2)] : List Value).toArray s (Z - kc K0) (Y - ks K0) (xA b hole)) (F0 m 123 ls []) := by
    intro x3 x4 T K cn sn H locs ls h hle0 hcn hsn hzz hyy hk_x3 hk_x4 hk_p1 hk_p2 hP hS hl
    obtain ⟨I123, n123, hI, hstep123⟩ := h
    induction n123 using Nat.strongRecOn generalizing T H locs ls with
    | ind n123 ih123 =>
      have h : wx1_times_2_b123 p1 p2 Z Y post (fun T => ∃ mm, mm < n123 ∧ I123 mm T) x3 x4  K T := hstep123 n123 _ hI
      clear hI
      have J270 : ∀ (x6 : Int32) (x7 : Int32) (T : XT) (H : Heap) (locs : List Loc) (ls : Array Slot), wx1_times_2_j270 p1 p2 Z Y post (fun T => ∃ mm, mm < n123 ∧ I123 mm T) x3 x4 x6 x7 K T → xW G b hole K T H → va_S (xA b hole) s.heap H locs → lv_has ls 10 [(0, .ref (b + 0)), (1, .ref (b + p1)), (2, .ref (b + p2)), (3, .ref (b + x3)), (4, .ref (b + x4)), (6, .int x6), (7, .int x7)] → W p l e (headSpec (ws_ yX1_times_2 cX1_times_2 10 (some (.object "TermDesk$Poly"))) ({ frames := 4, cells := (Z - kc K0), slots := (Y - ks K0), locals := 103 } : Room)).room s m ([.ref (b + 0), .ref (b + p1), .ref (b + p2)] : List Value).toArray below meth c H locs cn sn (MQ below (xQ G b hole K0 (Z - kc K0) (Y - ks K0) (ρ := Option Nat) (eQ b) (fun r T1 K1 => post r T1 K1 ∧ (∀ v, r = some v → kd K1 v = 2))) ([.ref (b + 0), .ref (b + p1), .ref (b + p2)] : List Value).toArray s (Z - kc K0) (Y - ks K0) (xA b hole)) (F0 m 270 ls []) := by
        intro x6 x7 T H locs ls h hP hS hl
        unfold wx1_times_2_j270 at h
        refine lv_aload_n hx hb dX1_times_2_270 rfl (lv_at hl 0 rfl) ?_
        refine x_get (CC := RX1) (TT := TX1) (N := 26) (ci := 0) (v := .ref (b + 3)) hx hb hts in_X1 hown hK hP (xs_0 hP) (by decide) (by decide) rfl (xE_8 (xs_0 hP)) 7 (by decide) q392 rfl rfl dX1_times_2_271 ?_
        refine lv_iload hx hb dX1_times_2_274 (lv_at hl 5 rfl) ?_
        refine lv_iload hx hb dX1_times_2_276 (lv_at hl 6 rfl) ?_
        refine x_cV (k := 3) (As := [.int x6, .int x7]) (rest := []) ⟨hx, hb, hml, hown, hts⟩ (mx2_add l G b hole 3 x6 x7 K T (xs_3 hP) _ h) (cwV 2 hts (lw_V q938 q909 q910 q119 q911) rfl rfl rfl cwx_X2_add ⟨Nat.le_of_ble_eq_true rfl, Nat.le_of_ble_eq_true rfl⟩) (x_recv (CC := RX2) (ci := 1) hK hP (xs_3 hP) (by decide) (by decide) rfl (xE_9 (xs_3 hP))) hK hV hb0 hP hS rfl hl.1 rfl (Nat.le_of_ble_eq_true rfl) dX1_times_2_278 ⟨by first | exact Nat.zero_le _ | (show _ + _ ≤ Z - kc K0; omega), by first | exact Nat.zero_le _ | (show _ + _ ≤ Y - ks K0; omega)⟩ (fun r_1 T1 K1 H locs h hle1 hc1 hs1 hP hS => ?_)
        obtain ⟨h, hKe⟩ := h
        rw [hKe] at hP
        generalize T1 = T_2 at h hP
        refine lv_goto (tgt := 123) hx hb dX1_times_2_281 (by decide) ?_
        obtain ⟨mm, hmm, h⟩ := h
        exact ih123 mm hmm _ _ _ _  hP hS (lv_sub hl [0, 1, 2, 3, 4] rfl) h
      have L142 : ∀ (x5 : Int32) (x6 : Int32) (x7 : Int32) (T : XT) (H : Heap) (locs : List Loc) (ls : Array Slot), wx1_times_2_l142 p1 p2 Z Y post (fun T => ∃ mm, mm < n123 ∧ I123 mm T) x3 x4 x5 x6 x7 K T → xW G b hole K T H → va_S (xA b hole) s.heap H locs → lv_has ls 10 [(0, .ref (b + 0)), (1, .ref (b + p1)), (2, .ref (b + p2)), (3, .ref (b + x3)), (4, .ref (b + x4)), (5, .int x5), (6, .int x6), (7, .int x7)] → W p l e (headSpec (ws_ yX1_times_2 cX1_times_2 10 (some (.object "TermDesk$Poly"))) ({ frames := 4, cells := (Z - kc K0), slots := (Y - ks K0), locals := 103 } : Room)).room s m ([.ref (b + 0), .ref (b + p1), .ref (b + p2)] : List Value).toArray below meth c H locs cn sn (MQ below (xQ G b hole K0 (Z - kc K0) (Y - ks K0) (ρ := Option Nat) (eQ b) (fun r T1 K1 => post r T1 K1 ∧ (∀ v, r = some v → kd K1 v = 2))) ([.ref (b + 0), .ref (b + p1), .ref (b + p2)] : List Value).toArray s (Z - kc K0) (Y - ks K0) (xA b hole)) (F0 m 142 ls []) := by
        intro x5 x6 x7 T H locs ls h hP hS hl
        obtain ⟨I142, n142, hI, hstep142⟩ := h
        induction n142 using Nat.strongRecOn generalizing x6 x7 T H locs ls with
        | ind n142 ih142 =>
          have h : wx1_times_2_b142 p1 p2 Z Y post (fun T => ∃ mm, mm < n123 ∧ I123 mm T) (fun x6 x7 T => ∃ mm, mm < n142 ∧ I142 mm (x6, x7, T)) x3 x4 x5 x6 x7 K T := hstep142 n142 _ hI
          clear hI
          unfold wx1_times_2_b142 at h
          refine lv_aload_n hx hb dX1_times_2_142 rfl (lv_at hl 3 rfl) ?_
          refine x_getN (CC := RX8) (TT := TX8) (N := 3) (ci := 6) (v := .int (xi T x3 2)) hx hb hts in_X8 hown hK hV.1 hP hk_x3 (by decide) (by decide) rfl (xE_13 hk_x3) 2 (by decide) q1031 rfl rfl dX1_times_2_143 ?_
          refine lv_if_le (tgt := 270) hx hb dX1_times_2_146 (by decide) (fun c_37 => ?_) (fun c_37 => ?_)
          · have h := h.1 c_37
            exact J270 _ _ _ _ _ _ h  hP hS (lv_sub hl [0, 1, 2, 3, 4, 6, 7] rfl)
          · have h := h.2 c_37
            refine lv_aload_n hx hb dX1_times_2_149 rfl (lv_at hl 3 rfl) ?_
            refine x_cV (k := x3) (As := []) (rest := []) ⟨hx, hb, hml, hown, hts⟩ (mx8_top l G b hole x3 K T hk_x3 _ h) (cwV 0 hts (lw_V q1047 q1048 q1049 q137 q1050) rfl rfl rfl cwx_X8_top ⟨Nat.le_of_ble_eq_true rfl, Nat.le_of_ble_eq_true rfl⟩) (x_recv (CC := RX8) (ci := 6) hK hP hk_x3 (by decide) (by decide) rfl (xE_13 hk_x3)) hK hV hb0 hP hS rfl hl.1 rfl (Nat.le_of_ble_eq_true rfl) dX1_times_2_150 ⟨by first | exact Nat.zero_le _ | (show _ + _ ≤ Z - kc K0; omega), by first | exact Nat.zero_le _ | (show _ + _ ≤ Y - ks K0; omega)⟩ (fun r_4 T1 K1 H locs h hle1 hc1 hs1 hP hS => ?_)
            obtain ⟨h, hTe, hKe⟩ := h
            rw [hTe, hKe] at hP
            refine lv_iload hx hb dX1_times_2_153 (lv_at hl 5 rfl) ?_
            refine lv_icmp_ne (tgt := 270) hx hb dX1_times_2_155 (by decide) (fun c_36 => ?_) (fun c_36 => ?_)
            · have h := h.1 c_36
              exact J270 _ _ _ _ _ _ h  hP hS (lv_sub hl [0, 1, 2, 3, 4, 6, 7] rfl)
            · have h := h.2 c_36
              refine lv_aload_n hx hb dX1_times_2_158 rfl (lv_at hl 3 rfl) ?_
              refine x_cV (k := x3) (As := []) (rest := []) ⟨hx, hb, hml, hown, hts⟩ (mx8_take l G b hole x3 K T hk_x3 _ h) (cwV 0 hts (lw_V q1051 q1052 q1053 q137 q1054) rfl rfl rfl cwx_X8_take ⟨Nat.le_of_ble_eq_true rfl, Nat.le_of_ble_eq_true rfl⟩) (x_recv (CC := RX8) (ci := 6) hK hP hk_x3 (by decide) (by decide) rfl (xE_13 hk_x3)) hK hV hb0 hP hS rfl hl.1 rfl (Nat.le_of_ble_eq_true rfl) dX1_times_2_159 ⟨by first | exact Nat.zero_le _ | (show _ + _ ≤ Z - kc K0; omega), by first | exact Nat.zero_le _ | (show _ + _ ≤ Y - ks K0; omega)⟩ (fun r_7 T1 K1 H locs h hle1 hc1 hs1 hP hS => ?_)
              obtain ⟨h, hKe⟩ := h
              rw [hKe] at hP
              generalize T1 = T_8 at h hP
              refine lv_istore (lv' := [(8, .int r_7), (0, .ref (b + 0)), (1, .ref (b + p1)), (2, .ref (b + p2)), (3, .ref (b + x3)), (4, .ref (b + x4)), (5, .int x5), (6, .int x6), (7, .int x7)]) hx hb dX1_times_2_162 hl (by decide) rfl (fun ls hl => ?_)
              refine lv_aload hx hb dX1_times_2_164 (lv_at hl 5 rfl) ?_
              refine lv_iload hx hb dX1_times_2_166 (lv_at hl 0 rfl) ?_
              obtain ⟨j_10, hj_10, ej_10, h⟩ := h
              refine x_iald hx hb hK hP hk_x4 ej_10 hj_10 dX1_times_2_168 ?_
              refine lv_istore (lv' := [(9, .int (xi T_8 x4 j_10)), (8, .int r_7), (0, .ref (b + 0)), (1, .ref (b + p1)), (2, .ref (b + p2)), (3, .ref (b + x3)), (4, .ref (b + x4)), (5, .int x5), (6, .int x6), (7, .int x7)]) hx hb dX1_times_2_169 hl (by decide) rfl (fun ls hl => ?_)
              refine lv_aload_n hx hb dX1_times_2_171 rfl (lv_at hl 3 rfl) ?_
              obtain ⟨v_11, ev_11, h⟩ := h
              refine x_get (CC := RX6) (TT := TX6) (N := 3) (ci := 5) (v := rfv b (xr T_8 p1 0)) hx hb hts in_X6 hown hK hP hk_p1 (by decide) (by decide) rfl (xE_2 hk_p1) 0 (by decide) q366 rfl rfl dX1_times_2_172 ?_
              refine x_some ev_11 ?_
              have hk_v_11 : kd K v_11 = 1 := hP.ty hk_p1 (by decide) ev_11
              refine lv_iload hx hb dX1_times_2_175 (lv_at hl 1 rfl) ?_
              obtain ⟨j_12, hj_12, ej_12, h⟩ := h
              refine x_iald hx hb hK hP hk_v_11 ej_12 hj_12 dX1_times_2_177 ?_
              refine lv_aload_n hx hb dX1_times_2_178 rfl (lv_at hl 4 rfl) ?_
              obtain ⟨v_13, ev_13, h⟩ := h
              refine x_get (CC := RX6) (TT := TX6) (N := 3) (ci := 5) (v := rfv b (xr T_8 p2 0)) hx hb hts in_X6 hown hK hP hk_p2 (by decide) (by decide) rfl (xE_2 hk_p2) 0 (by decide) q366 rfl rfl dX1_times_2_179 ?_
              refine x_some ev_13 ?_
              have hk_v_13 : kd K v_13 = 1 := hP.ty hk_p2 (by decide) ev_13
              refine lv_iload hx hb dX1_times_2_182 (lv_at hl 0 rfl) ?_
              obtain ⟨j_14, hj_14, ej_14, h⟩ := h
              refine x_iald hx hb hK hP hk_v_13 ej_14 hj_14 dX1_times_2_184 ?_
              refine lv_iadd hx hb dX1_times_2_185 ?_
              refine lv_topi (fun x6_15 ex6_15 => ?_)
              have h := h x6_15 ex6_15
              refine lv_istore (lv' := [(6, .int x6_15), (9, .int (xi T_8 x4 j_10)), (8, .int r_7), (0, .ref (b + 0)), (1, .ref (b + p1)), (2, .ref (b + p2)), (3, .ref (b + x3)), (4, .ref (b + x4)), (5, .int x5), (7, .int x7)]) hx hb dX1_times_2_186 hl (by decide) rfl (fun ls hl => ?_)
              refine lv_iload hx hb dX1_times_2_188 (lv_at hl 9 rfl) ?_
              refine lv_aload_n hx hb dX1_times_2_190 rfl (lv_at hl 4 rfl) ?_
              obtain ⟨v_16, ev_16, h⟩ := h
              refine x_get (CC := RX6) (TT := TX6) (N := 3) (ci := 5) (v := rfv b (xr T_8 p1 1)) hx hb hts in_X6 hown hK hP hk_p1 (by decide) (by decide) rfl (xE_2 hk_p1) 1 (by decide) q369 rfl rfl dX1_times_2_191 ?_
              refine x_some ev_16 ?_
              have hk_v_16 : kd K v_16 = 1 := hP.ty hk_p1 (by decide) ev_16
              refine lv_iload hx hb dX1_times_2_194 (lv_at hl 2 rfl) ?_
              obtain ⟨j_17, hj_17, ej_17, h⟩ := h
              refine x_iald hx hb hK hP hk_v_16 ej_17 hj_17 dX1_times_2_196 ?_
              refine lv_aload_n hx hb dX1_times_2_197 rfl (lv_at hl 5 rfl) ?_
              obtain ⟨v_18, ev_18, h⟩ := h
              refine x_get (CC := RX6) (TT := TX6) (N := 3) (ci := 5) (v := rfv b (xr T_8 p2 1)) hx hb hts in_X6 hown hK hP hk_p2 (by decide) (by decide) rfl (xE_2 hk_p2) 1 (by decide) q369 rfl rfl dX1_times_2_198 ?_
              refine x_some ev_18 ?_
              have hk_v_18 : kd K v_18 = 1 := hP.ty hk_p2 (by decide) ev_18
              refine lv_iload hx hb dX1_times_2_201 (lv_at hl 1 rfl) ?_
              obtain ⟨j_19, hj_19, ej_19, h⟩ := h
              refine x_iald hx hb hK hP hk_v_18 ej_19 hj_19 dX1_times_2_203 ?_
              refine lv_imul hx hb dX1_times_2_204 ?_
              refine lv_iadd hx hb dX1_times_2_205 ?_
              refine lv_aload_n hx hb dX1_times_2_206 rfl (lv_at hl 3 rfl) ?_
              refine x_get (CC := RX1) (TT := TX1) (N := 26) (ci := 0) (v := .int (xi T_8 0 0)) hx hb hts in_X1 hown hK hP (xs_0 hP) (by decide) (by decide) rfl (xE_8 (xs_0 hP)) 0 (by decide) q384 rfl rfl dX1_times_2_207 ?_
              obtain ⟨hne, h⟩ := h
              refine m_irem hx hb dX1_times_2_210 hne ?_
              refine lv_topi (fun x7_20 ex7_20 => ?_)
              have h := h x7_20 ex7_20
              refine lv_istore (lv' := [(7, .int x7_20), (6, .int x6_15), (9, .int (xi T_8 x4 j_10)), (8, .int r_7), (0, .ref (b + 0)), (1, .ref (b + p1)), (2, .ref (b + p2)), (3, .ref (b + x3)), (4, .ref (b + x4)), (5, .int x5)]) hx hb dX1_times_2_211 hl (by decide) rfl (fun ls hl => ?_)
              refine lv_aload hx hb dX1_times_2_213 (lv_at hl 8 rfl) ?_
              refine lv_iload hx hb dX1_times_2_215 (lv_at hl 3 rfl) ?_
              refine lv_dup2_11 hx hb dX1_times_2_217 rfl rfl ?_
              obtain ⟨j_21, hj_21, ej_21, h⟩ := h
              refine x_iald hx hb hK hP hk_x4 ej_21 hj_21 dX1_times_2_218 ?_
              refine lv_iconst (v := 1) hx hb dX1_times_2_219 (by decide) ?_
              refine lv_iadd hx hb dX1_times_2_220 ?_
              obtain ⟨j_22, hj_22, ej_22, h⟩ := h
              obtain ⟨T_23, eT_23⟩ : ∃ z : XT, z = xwi T_8 x4 j_22 ((xi T_8 x4 j_21) + 1) := ⟨_, rfl⟩
              have h := h T_23 eT_23
              refine x_iast hx hb hK hP hS hk_x4 ej_22 hj_22 dX1_times_2_221 (fun H locs hP hS => ?_)
              rw [← eT_23] at hP
              refine lv_aload hx hb dX1_times_2_222 (lv_at hl 8 rfl) ?_
              refine lv_iload hx hb dX1_times_2_224 (lv_at hl 3 rfl) ?_
              obtain ⟨j_24, hj_24, ej_24, h⟩ := h
              refine x_iald hx hb hK hP hk_x4 ej_24 hj_24 dX1_times_2_226 ?_
              refine lv_aload_n hx hb dX1_times_2_227 rfl (lv_at hl 6 rfl) ?_
              refine x_get (CC := RX6) (TT := TX6) (N := 3) (ci := 5) (v := .int (xi T_23 p2 2)) hx hb hts in_X6 hown hK hP hk_p2 (by decide) (by decide) rfl (xE_2 hk_p2) 2 (by decide) q372 rfl rfl dX1_times_2_228 ?_
              refine lv_icmp_ge (tgt := 267) hx hb dX1_times_2_231 (by decide) (fun c_35 => ?_) (fun c_35 => ?_)
              · have h := h.1 c_35
                refine lv_goto (tgt := 142) hx hb dX1_times_2_267 (by decide) ?_
                obtain ⟨mm, hmm, h⟩ := h
                exact ih142 mm hmm _ _ _ _ _ _  hP hS (lv_sub hl [4, 5, 6, 7, 8, 9, 1, 0] rfl) h
              · have h := h.2 c_35
                refine lv_aload_n hx hb dX1_times_2_234 rfl (lv_at hl 7 rfl) ?_
                refine lv_iload hx hb dX1_times_2_235 (lv_at hl 3 rfl) ?_
                refine lv_aload_n hx hb dX1_times_2_237 rfl (lv_at hl 4 rfl) ?_
                obtain ⟨v_25, ev_25, h⟩ := h
                refine x_get (CC := RX1) (TT := TX1) (N := 26) (ci := 0) (v := rfv b (xr T_23 0 4)) hx hb hts in_X1 hown hK hP (xs_0 hP) (by decide) (by decide) rfl (xE_8 (xs_0 hP)) 4 (by decide) q388 rfl rfl dX1_times_2_238 ?_
                refine x_some ev_25 ?_
                have hk_v_25 : kd K v_25 = 16 := hP.ty (xs_0 hP) (by decide) ev_25
                refine lv_aload_n hx hb dX1_times_2_241 rfl (lv_at hl 5 rfl) ?_
                obtain ⟨v_26, ev_26, h⟩ := h
                refine x_get (CC := RX6) (TT := TX6) (N := 3) (ci := 5) (v := rfv b (xr T_23 p1 0)) hx hb hts in_X6 hown hK hP hk_p1 (by decide) (by decide) rfl (xE_2 hk_p1) 0 (by decide) q366 rfl rfl dX1_times_2_242 ?_
                refine x_some ev_26 ?_
                have hk_v_26 : kd K v_26 = 1 := hP.ty hk_p1 (by decide) ev_26
                refine lv_iload hx hb dX1_times_2_245 (lv_at hl 3 rfl) ?_
                obtain ⟨j_27, hj_27, ej_27, h⟩ := h
                refine x_iald hx hb hK hP hk_v_26 ej_27 hj_27 dX1_times_2_247 ?_
                refine lv_aload_n hx hb dX1_times_2_248 rfl (lv_at hl 6 rfl) ?_
                obtain ⟨v_28, ev_28, h⟩ := h
                refine x_get (CC := RX6) (TT := TX6) (N := 3) (ci := 5) (v := rfv b (xr T_23 p2 0)) hx hb hts in_X6 hown hK hP hk_p2 (by decide) (by decide) rfl (xE_2 hk_p2) 0 (by decide) q366 rfl rfl dX1_times_2_249 ?_
                refine x_some ev_28 ?_
                have hk_v_28 : kd K v_28 = 1 := hP.ty hk_p2 (by decide) ev_28
                refine lv_aload hx hb dX1_times_2_252 (lv_at hl 8 rfl) ?_
                refine lv_iload hx hb dX1_times_2_254 (lv_at hl 3 rfl) ?_
                obtain ⟨j_29, hj_29, ej_29, h⟩ := h
                refine x_iald hx hb hK hP hk_x4 ej_29 hj_29 dX1_times_2_256 ?_
                obtain ⟨j_30, hj_30, ej_30, h⟩ := h
                refine x_iald hx hb hK hP hk_v_28 ej_30 hj_30 dX1_times_2_257 ?_
                refine lv_iadd hx hb dX1_times_2_258 ?_
                refine x_keyA (q := v_25) (rest := [.int r_7, .ref (b + x3)]) hx hb (hml.trans hl.1.symm) hts hown q753 hK hV hb0 hP hS hk_v_25 h (Nat.le_of_ble_eq_true rfl) (Nat.le_of_ble_eq_true rfl) (by first | exact Nat.zero_le _ | (show _ ≤ Z - kc K0; omega)) (by first | exact Nat.zero_le _ | (show _ ≤ Y - ks K0; omega)) dX1_times_2_259 (fun r_31 H locs h hP hS => ?_)
                refine x_cV (k := x3) (As := [.int r_7, .int r_31]) (rest := []) ⟨hx, hb, hml, hown, hts⟩ (mx8_add l G b hole x3 r_7 r_31 K T_23 hk_x3 _ h) (cwV 2 hts (lw_V q1039 q1040 q1041 q137 q1042) rfl rfl rfl cwx_X8_add ⟨Nat.le_of_ble_eq_true rfl, Nat.le_of_ble_eq_true rfl⟩) (x_recv (CC := RX8) (ci := 6) hK hP hk_x3 (by decide) (by decide) rfl (xE_13 hk_x3)) hK hV hb0 hP hS rfl hl.1 rfl (Nat.le_of_ble_eq_true rfl) dX1_times_2_264 ⟨by first | exact Nat.zero_le _ | (show _ + _ ≤ Z - kc K0; omega), by first | exact Nat.zero_le _ | (show _ + _ ≤ Y - ks K0; omega)⟩ (fun r_32 T1 K1 H locs h hle1 hc1 hs1 hP hS => ?_)
                obtain ⟨h, hKe⟩ := h
                rw [hKe] at hP
                generalize T1 = T_33 at h hP
                refine lv_goto (tgt := 142) hx hb dX1_times_2_267 (by decide) ?_
                obtain ⟨mm, hmm, h⟩ := h
                exact ih142 mm hmm _ _ _ _ _ _  hP hS (lv_sub hl [4, 5, 6, 7, 8, 9, 1, 0] rfl) h
      unfold wx1_times_2_b123 at h
      refine lv_aload_n hx hb dX1_times_2_123 rfl (lv_at hl 3 rfl) ?_
      refine x_getN (CC := RX8) (TT := TX8) (N := 3) (ci := 6) (v := .int (xi T x3 2)) hx hb hts in_X8 hown hK hV.1 hP hk_x3 (by decide) (by decide) rfl (xE_13 hk_x3) 2 (by decide) q1031 rfl rfl dX1_times_2_124 ?_
      refine lv_if_le (tgt := 284) hx hb dX1_times_2_127 (by decide) (fun c_46 => ?_) (fun c_46 => ?_)
      · have h := h.1 c_46
        refine lv_aload_n hx hb dX1_times_2_284 rfl (lv_at hl 0 rfl) ?_
        refine x_get (CC := RX1) (TT := TX1) (N := 26) (ci := 0) (v := .ref (b + 3)) hx hb hts in_X1 hown hK hP (xs_0 hP) (by decide) (by decide) rfl (xE_8 (xs_0 hP)) 7 (by decide) q392 rfl rfl dX1_times_2_285 ?_
        obtain ⟨Z_41, Y_42, hz1, hz2, hy1, hy2, h⟩ := h
        refine x_cV (k := 3) (As := []) (rest := []) ⟨hx, hb, hml, hown, hts⟩ (mx2_poly l G b hole 3 K T Z_41 Y_42 hz1 hy1 (xs_3 hP) _ h) (cwV 0 hts (lw_V q971 q972 q973 q119 q974) rfl rfl rfl cwx_X2_poly ⟨Nat.le_of_ble_eq_true rfl, Nat.le_of_ble_eq_true rfl⟩) (x_recv (CC := RX2) (ci := 1) hK hP (xs_3 hP) (by decide) (by decide) rfl (xE_9 (xs_3 hP))) hK hV hb0 hP hS rfl hl.1 rfl (Nat.le_of_ble_eq_true rfl) dX1_times_2_288 ⟨by first | exact Nat.zero_le _ | (show _ + _ ≤ Z - kc K0; omega), by first | exact Nat.zero_le _ | (show _ + _ ≤ Y - ks K0; omega)⟩ (fun r_38 T1 K1 H locs h hle1 hc1 hs1 hP hS => ?_)
        obtain ⟨h, hk_r_38⟩ := h
        generalize T1 = T_39 at h hP
        generalize K1 = K_40 at h hP hle1 hc1 hs1 hk_r_38
        have hk_p1 : kd K_40 p1 = 2 := hle1.kd hk_p1
        have hk_p2 : kd K_40 p2 = 2 := hle1.kd hk_p2
        have hk_x3 : kd K_40 x3 = 13 := hle1.kd hk_x3
        have hk_x4 : kd K_40 x4 = 1 := hle1.kd hk_x4
        have hle0 := hle0.tr hle1
        have hcn : kc K0 + (cn + (Z_41 - kc K)) = kc K_40 := by omega
        have hsn : ks K0 + (sn + (Y_42 - ks K)) = ks K_40 := by omega
        have hzz : kc K_40 ≤ Z := by omega
        have hyy : ks K_40 ≤ Y := by omega
        refine W.widen (k := Z - kc K0) (n := Y - ks K0) (by omega) (by omega) ?_
        exact W.aret (v := .ref (b + r_38)) hx hb hr (Or.inl ⟨_, rfl⟩) (Or.inr ⟨_, rfl⟩) (fun t ht hW => ⟨⟨(some r_38), T_39, (kset K_40 Z Y), rfl, ⟨h, (fun _ e9 => by cases e9; exact hk_r_38)⟩, hle0, (by show Z = _; omega), (by show Y = _; omega), by rw [ht]; exact hP, va_K.moved hW.alike hK⟩, hS.F ht⟩) hS.2.2 dX1_times_2_291
      · have h := h.2 c_46
        refine lv_aload_n hx hb dX1_times_2_130 rfl (lv_at hl 3 rfl) ?_
        refine x_cV (k := x3) (As := []) (rest := []) ⟨hx, hb, hml, hown, hts⟩ (mx8_top l G b hole x3 K T hk_x3 _ h) (cwV 0 hts (lw_V q1047 q1048 q1049 q137 q1050) rfl rfl rfl cwx_X8_top ⟨Nat.le_of_ble_eq_true rfl, Nat.le_of_ble_eq_true rfl⟩) (x_recv (CC := RX8) (ci := 6) hK hP hk_x3 (by decide) (by decide) rfl (xE_13 hk_x3)) hK hV hb0 hP hS rfl hl.1 rfl (Nat.le_of_ble_eq_true rfl) dX1_times_2_131 ⟨by first | exact Nat.zero_le _ | (show _ + _ ≤ Z - kc K0; omega), by first | exact Nat.zero_le _ | (show _ + _ ≤ Y - ks K0; omega)⟩ (fun r_43 T1 K1 H locs h hle1 hc1 hs1 hP hS => ?_)
        obtain ⟨h, hTe, hKe⟩ := h
        rw [hTe, hKe] at hP
        refine lv_istore (lv' := [(5, .int r_43), (0, .ref (b + 0)), (1, .ref (b + p1)), (2, .ref (b + p2)), (3, .ref (b + x3)), (4, .ref (b + x4))]) hx hb dX1_times_2_134 hl (by decide) rfl (fun ls hl => ?_)
        refine lv_iconst (v := 0) hx hb dX1_times_2_136 (by decide) ?_
        refine lv_istore (lv' := [(6, .int 0), (5, .int r_43), (0, .ref (b + 0)), (1, .ref (b + p1)), (2, .ref (b + p2)), (3, .ref (b + x3)), (4, .ref (b + x4))]) hx hb dX1_times_2_137 hl (by decide) rfl (fun ls hl => ?_)
        refine lv_iconst (v := 0) hx hb dX1_times_2_139 (by decide) ?_
        refine lv_istore (lv' := [(7, .int 0), (6, .int 0), (5, .int r_43), (0, .ref (b + 0)), (1, .ref (b + p1)), (2, .ref (b + p2)), (3, .ref (b + x3)), (4, .ref (b + x4))]) hx hb dX1_times_2_140 hl (by decide) rfl (fun ls hl => ?_)
        exact L142 _ _ _ _ _ _ _ h  hP hS (lv_sub hl [3, 4, 5, 6, 7, 2, 1, 0] rfl)
  have L72 : ∀ (x3 : Nat) (x4 : Nat) (x5 : Int32) (T : XT) (K : XK) (cn sn : Nat) (H : Heap) (locs : List Loc) (ls : Array Slot), wx1_times_2_l72 p1 p2 Z Y post x3 x4 x5 K T → kle K0 K → kc K0 + cn = kc K → ks K0 + sn = ks K → kc K ≤ Z → ks K ≤ Y → (kd K x3 = 13) → (kd K x4 = 1) → (kd K p1 = 2) → (kd K p2 = 2) → xW G b hole K T H → va_S (xA b hole) s.heap H locs → lv_has ls 10 [(0, .ref (b + 0)), (1, .ref (b + p1)), (2, .ref (b + p2)), (3, .ref (b + x3)), (4, .ref (b + x4)), (5, .int x5)] → W p l e (headSpec (ws_ yX1_times_2 cX1_times_2 10 (some (.object "TermDesk$Poly"))) ({ frames := 4, cells := (Z - kc K0), slots := (Y - ks K0), locals := 103 } : Room)).room s m ([.ref (b + 0), .ref (b + p1), .ref (b + p2)] : List Value).toArray below meth c H locs cn sn (MQ below (xQ G b hole K0 (Z - kc K0) (Y - ks K0) (ρ := Option Nat) (eQ b) (fun r T1 K1 => post r T1 K1 ∧ (∀ v, r = some v → kd K1 v = 2))) ([.ref (b + 0), .ref (b + p1), .ref (b + p2)] : List Value).toArray s (Z - kc K0) (Y - ks K0) (xA b hole)) (F0 m 72 ls []) := by
    intro x3 x4 x5 T K cn sn H locs ls h hle0 hcn hsn hzz hyy hk_x3 hk_x4 hk_p1 hk_p2 hP hS hl
    obtain ⟨I72, n72, hI, hstep72⟩ := h
    induction n72 using Nat.strongRecOn generalizing x5 T H locs ls with
    | ind n72 ih72 =>
      have h : wx1_times_2_b72 p1 p2 Z Y post (fun x5 T => ∃ mm, mm < n72 ∧ I72 mm (x5, T)) x3 x4 x5 K T := hstep72 n72 _ hI
      clear hI
      unfold wx1_times_2_b72 at h
      refine lv_iload hx hb dX1_times_2_72 (lv_at hl 5 rfl) ?_
      refine lv_aload_n hx hb dX1_times_2_74 rfl (lv_at hl 1 rfl) ?_
      refine x_get (CC := RX6) (TT := TX6) (N := 3) (ci := 5) (v := .int (xi T p1 2)) hx hb hts in_X6 hown hK hP hk_p1 (by decide) (by decide) rfl (xE_2 hk_p1) 2 (by decide) q372 rfl rfl dX1_times_2_75 ?_
      refine lv_icmp_ge (tgt := 123) hx hb dX1_times_2_78 (by decide) (fun c_61 => ?_) (fun c_61 => ?_)
      · have h := h.1 c_61
        exact L123 _ _ _ _ _ _ _ _ _ h hle0 hcn hsn hzz hyy hk_x3 hk_x4 hk_p1 hk_p2 hP hS (lv_sub hl [0, 1, 2, 3, 4] rfl)
      · have h := h.2 c_61
        refine lv_aload_n hx hb dX1_times_2_81 rfl (lv_at hl 2 rfl) ?_
        refine x_cV (k := p2) (As := []) (rest := []) ⟨hx, hb, hml, hown, hts⟩ (mx6_isZero l G b hole p2 K T hk_p2 _ h) (cwV 0 hts (lw_V q785 q786 q787 q126 q788) rfl rfl rfl cwx_X6_isZero ⟨Nat.le_of_ble_eq_true rfl, Nat.le_of_ble_eq_true rfl⟩) (x_recv (CC := RX6) (ci := 5) hK hP hk_p2 (by decide) (by decide) rfl (xE_2 hk_p2)) hK hV hb0 hP hS rfl hl.1 rfl (Nat.le_of_ble_eq_true rfl) dX1_times_2_82 ⟨by first | exact Nat.zero_le _ | (show _ + _ ≤ Z - kc K0; omega), by first | exact Nat.zero_le _ | (show _ + _ ≤ Y - ks K0; omega)⟩ (fun r_47 T1 K1 H locs h hle1 hc1 hs1 hP hS => ?_)
        obtain ⟨h, hTe, hKe⟩ := h
        rw [hTe, hKe] at hP
        refine lv_if_ne (tgt := 123) hx hb dX1_times_2_85 (by decide) (fun c_60 => ?_) (fun c_60 => ?_)
        · have h := h.1 c_60
          exact L123 _ _ _ _ _ _ _ _ _ h hle0 hcn hsn hzz hyy hk_x3 hk_x4 hk_p1 hk_p2 hP hS (lv_sub hl [0, 1, 2, 3, 4] rfl)
        · have h := h.2 c_60
          refine lv_aload_n hx hb dX1_times_2_88 rfl (lv_at hl 3 rfl) ?_
          refine lv_iload hx hb dX1_times_2_89 (lv_at hl 5 rfl) ?_
          refine lv_aload_n hx hb dX1_times_2_91 rfl (lv_at hl 0 rfl) ?_
          obtain ⟨v_50, ev_50, h⟩ := h
          refine x_get (CC := RX1) (TT := TX1) (N := 26) (ci := 0) (v := rfv b (xr T 0 4)) hx hb hts in_X1 hown hK hP (xs_0 hP) (by decide) (by decide) rfl (xE_8 (xs_0 hP)) 4 (by decide) q388 rfl rfl dX1_times_2_92 ?_
          refine x_some ev_50 ?_
          have hk_v_50 : kd K v_50 = 16 := hP.ty (xs_0 hP) (by decide) ev_50
          refine lv_aload_n hx hb dX1_times_2_95 rfl (lv_at hl 1 rfl) ?_
          obtain ⟨v_51, ev_51, h⟩ := h
          refine x_get (CC := RX6) (TT := TX6) (N := 3) (ci := 5) (v := rfv b (xr T p1 0)) hx hb hts in_X6 hown hK hP hk_p1 (by decide) (by decide) rfl (xE_2 hk_p1) 0 (by decide) q366 rfl rfl dX1_times_2_96 ?_
          refine x_some ev_51 ?_
          have hk_v_51 : kd K v_51 = 1 := hP.ty hk_p1 (by decide) ev_51
          refine lv_iload hx hb dX1_times_2_99 (lv_at hl 5 rfl) ?_
          obtain ⟨j_52, hj_52, ej_52, h⟩ := h
          refine x_iald hx hb hK hP hk_v_51 ej_52 hj_52 dX1_times_2_101 ?_
          refine lv_aload_n hx hb dX1_times_2_102 rfl (lv_at hl 2 rfl) ?_
          obtain ⟨v_53, ev_53, h⟩ := h
          refine x_get (CC := RX6) (TT := TX6) (N := 3) (ci := 5) (v := rfv b (xr T p2 0)) hx hb hts in_X6 hown hK hP hk_p2 (by decide) (by decide) rfl (xE_2 hk_p2) 0 (by decide) q366 rfl rfl dX1_times_2_103 ?_
          refine x_some ev_53 ?_
          have hk_v_53 : kd K v_53 = 1 := hP.ty hk_p2 (by decide) ev_53
          refine lv_iconst (v := 0) hx hb dX1_times_2_106 (by decide) ?_
          obtain ⟨j_54, hj_54, ej_54, h⟩ := h
          refine x_iald hx hb hK hP hk_v_53 ej_54 hj_54 dX1_times_2_107 ?_
          refine lv_iadd hx hb dX1_times_2_108 ?_
          refine x_keyA (q := v_50) (rest := [.int x5, .ref (b + x3)]) hx hb (hml.trans hl.1.symm) hts hown q753 hK hV hb0 hP hS hk_v_50 h (Nat.le_of_ble_eq_true rfl) (Nat.le_of_ble_eq_true rfl) (by first | exact Nat.zero_le _ | (show _ ≤ Z - kc K0; omega)) (by first | exact Nat.zero_le _ | (show _ ≤ Y - ks K0; omega)) dX1_times_2_109 (fun r_55 H locs h hP hS => ?_)
          refine x_cV (k := x3) (As := [.int x5, .int r_55]) (rest := []) ⟨hx, hb, hml, hown, hts⟩ (mx8_add l G b hole x3 x5 r_55 K T hk_x3 _ h) (cwV 2 hts (lw_V q1039 q1040 q1041 q137 q1042) rfl rfl rfl cwx_X8_add ⟨Nat.le_of_ble_eq_true rfl, Nat.le_of_ble_eq_true rfl⟩) (x_recv (CC := RX8) (ci := 6) hK hP hk_x3 (by decide) (by decide) rfl (xE_13 hk_x3)) hK hV hb0 hP hS rfl hl.1 rfl (Nat.le_of_ble_eq_true rfl) dX1_times_2_114 ⟨by first | exact Nat.zero_le _ | (show _ + _ ≤ Z - kc K0; omega), by first | exact Nat.zero_le _ | (show _ + _ ≤ Y - ks K0; omega)⟩ (fun r_56 T1 K1 H locs h hle1 hc1 hs1 hP hS => ?_)
          obtain ⟨h, hKe⟩ := h
          rw [hKe] at hP
          generalize T1 = T_57 at h hP
          obtain ⟨x5_59, ex5_59⟩ : ∃ y : Int32, y = x5 + 1 := ⟨_, rfl⟩
          have h := h x5_59 ex5_59
          refine lv_iinc (v := x5_59) (lv' := [(5, .int x5_59), (0, .ref (b + 0)), (1, .ref (b + p1)), (2, .ref (b + p2)), (3, .ref (b + x3)), (4, .ref (b + x4))]) hx hb dX1_times_2_117 hl (k := 5) rfl (by rw [ex5_59]; rfl) (by decide) rfl (fun ls hl => ?_)
          refine lv_goto (tgt := 72) hx hb dX1_times_2_120 (by decide) ?_
          obtain ⟨mm, hmm, h⟩ := h
          exact ih72 mm hmm _ _ _ _ _  hP hS (lv_sub hl [1, 2, 3, 4, 5, 0] rfl) h
  have L2 : ∀ (x3 : Int32) (T : XT) (K : XK) (cn sn : Nat) (H : Heap) (locs : List Loc) (ls : Array Slot), wx1_times_2_l2 p1 p2 Z Y post  x3 K T → kle K0 K → kc K0 + cn = kc K → ks K0 + sn = ks K → kc K ≤ Z → ks K ≤ Y → (kd K p1 = 2) → (kd K p2 = 2) → xW G b hole K T H → va_S (xA b hole) s.heap H locs → lv_has ls 10 [(0, .ref (b + 0)), (1, .ref (b + p1)), (2, .ref (b + p2)), (3, .int x3)] → W p l e (headSpec (ws_ yX1_times_2 cX1_times_2 10 (some (.object "TermDesk$Poly"))) ({ frames := 4, cells := (Z - kc K0), slots := (Y - ks K0), locals := 103 } : Room)).room s m ([.ref (b + 0), .ref (b + p1), .ref (b + p2)] : List Value).toArray below meth c H locs cn sn (MQ below (xQ G b hole K0 (Z - kc K0) (Y - ks K0) (ρ := Option Nat) (eQ b) (fun r T1 K1 => post r T1 K1 ∧ (∀ v, r = some v → kd K1 v = 2))) ([.ref (b + 0), .ref (b + p1), .ref (b + p2)] : List Value).toArray s (Z - kc K0) (Y - ks K0) (xA b hole)) (F0 m 2 ls []) := by
    intro x3 T K cn sn H locs ls h hle0 hcn hsn hzz hyy hk_p1 hk_p2 hP hS hl
    obtain ⟨I2, n2, hI, hstep2⟩ := h
    induction n2 using Nat.strongRecOn generalizing x3 H locs ls with
    | ind n2 ih2 =>
      have h : wx1_times_2_b2 p1 p2 Z Y post (fun x3 => ∃ mm, mm < n2 ∧ I2 mm x3)  x3 K T := hstep2 n2 _ hI
      clear hI
      have J39 : ∀ (x3 : Int32) (H : Heap) (locs : List Loc) (ls : Array Slot), wx1_times_2_j39 p1 p2 Z Y post (fun x3 => ∃ mm, mm < n2 ∧ I2 mm x3) x3 K T → xW G b hole K T H → va_S (xA b hole) s.heap H locs → lv_has ls 10 [(0, .ref (b + 0)), (1, .ref (b + p1)), (2, .ref (b + p2)), (3, .int x3)] → W p l e (headSpec (ws_ yX1_times_2 cX1_times_2 10 (some (.object "TermDesk$Poly"))) ({ frames := 4, cells := (Z - kc K0), slots := (Y - ks K0), locals := 103 } : Room)).room s m ([.ref (b + 0), .ref (b + p1), .ref (b + p2)] : List Value).toArray below meth c H locs cn sn (MQ below (xQ G b hole K0 (Z - kc K0) (Y - ks K0) (ρ := Option Nat) (eQ b) (fun r T1 K1 => post r T1 K1 ∧ (∀ v, r = some v → kd K1 v = 2))) ([.ref (b + 0), .ref (b + p1), .ref (b + p2)] : List Value).toArray s (Z - kc K0) (Y - ks K0) (xA b hole)) (F0 m 39 ls []) := by
        intro x3 H locs ls h hP hS hl
        unfold wx1_times_2_j39 at h
        obtain ⟨x3_62, ex3_62⟩ : ∃ y : Int32, y = x3 + 1 := ⟨_, rfl⟩
        have h := h x3_62 ex3_62
        refine lv_iinc (v := x3_62) (lv' := [(3, .int x3_62), (0, .ref (b + 0)), (1, .ref (b + p1)), (2, .ref (b + p2))]) hx hb dX1_times_2_39 hl (k := 3) rfl (by rw [ex3_62]; rfl) (by decide) rfl (fun ls hl => ?_)
        refine lv_goto (tgt := 2) hx hb dX1_times_2_42 (by decide) ?_
        obtain ⟨mm, hmm, h⟩ := h
        exact ih2 mm hmm _ _ _ _  hP hS (lv_sub hl [1, 2, 3, 0] rfl) h
      unfold wx1_times_2_b2 at h
      refine lv_iload_n hx hb dX1_times_2_2 rfl (lv_at hl 3 rfl) ?_
      refine lv_iconst (v := 3) hx hb dX1_times_2_3 (by decide) ?_
      refine lv_icmp_ge (tgt := 45) hx hb dX1_times_2_4 (by decide) (fun c_91 => ?_) (fun c_91 => ?_)
      · have h := h.1 c_91
        refine lv_aload_n hx hb dX1_times_2_45 rfl (lv_at hl 0 rfl) ?_
        refine x_get (CC := RX1) (TT := TX1) (N := 26) (ci := 0) (v := .ref (b + 3)) hx hb hts in_X1 hown hK hP (xs_0 hP) (by decide) (by decide) rfl (xE_8 (xs_0 hP)) 7 (by decide) q392 rfl rfl dX1_times_2_46 ?_
        refine x_cV (k := 3) (As := []) (rest := []) ⟨hx, hb, hml, hown, hts⟩ (mx2_begins l G b hole 3 K T (xs_3 hP) _ h) (cwV 0 hts (lw_V q937 q905 q906 q119 q907) rfl rfl rfl cwx_X2_begins ⟨Nat.le_of_ble_eq_true rfl, Nat.le_of_ble_eq_true rfl⟩) (x_recv (CC := RX2) (ci := 1) hK hP (xs_3 hP) (by decide) (by decide) rfl (xE_9 (xs_3 hP))) hK hV hb0 hP hS rfl hl.1 rfl (Nat.le_of_ble_eq_true rfl) dX1_times_2_49 ⟨by first | exact Nat.zero_le _ | (show _ + _ ≤ Z - kc K0; omega), by first | exact Nat.zero_le _ | (show _ + _ ≤ Y - ks K0; omega)⟩ (fun r_63 T1 K1 H locs h hle1 hc1 hs1 hP hS => ?_)
        obtain ⟨h, hk_r_63, hKe⟩ := h
        rw [hKe] at hP
        generalize T1 = T_64 at h hP
        rw [hKe] at hk_r_63
        refine lv_pop hx hb dX1_times_2_52 rfl ?_
        obtain ⟨hc1, hs1, h⟩ := h
        obtain ⟨K_66, eK_66⟩ : ∃ z : XK, z = knew K 13 0 3 := ⟨_, rfl⟩
        obtain ⟨T_67, eT_67⟩ : ∃ z : XT, z = xnil T_64 (kz K) := ⟨_, rfl⟩
        have h := h K_66 eK_66 T_67 eT_67
        have hle1 : kle K K_66 := by rw [eK_66]; exact kle.new hP.2.2.1 _ _ _
        refine x_new (CC := RX8) (TT := TX8) (N := 3) (ci := 6) (kn := 13) (fs := [.null, .null, .int 0]) hx hb hts in_X8 tyX8 tyX8_ok hown q1019 q1020 q137 hK hP hS rfl (by decide) (by decide) (fun K1 h9 => by rw [xE_13 h9]; simp [fs13, xnil, xi, xr, va_up_self, rfv, va_rf]) (fun j hj => by rcases (show j = 0 ∨ j = 1 ∨ j = 2 by omega) with rfl | rfl | rfl <;> rfl) (by show _ + 1 ≤ Z - kc K0; omega) (by show _ + _ ≤ Y - ks K0; omega) dX1_times_2_53 (fun H hP hS => ?_)
        rw [← eK_66, ← eT_67] at hP
        have hk_p1 : kd K_66 p1 = 2 := hle1.kd hk_p1
        have hk_p2 : kd K_66 p2 = 2 := hle1.kd hk_p2
        have hk_n66 : kd K_66 (kz K) = 13 := by rw [eK_66]; exact knew_kd
        have hle0 := hle0.tr hle1
        have hcn : kc K0 + (cn + 1) = kc K_66 := by rw [eK_66]; show _ = kc K + 1; omega
        have hsn : ks K0 + (sn + 3) = ks K_66 := by rw [eK_66]; show _ = ks K + 3; omega
        have hzz : kc K_66 ≤ Z := by rw [eK_66]; exact hc1
        have hyy : ks K_66 ≤ Y := by rw [eK_66]; exact hs1
        refine lv_dup hx hb dX1_times_2_56 rfl ?_
        obtain ⟨Z_71, Y_72, hz1, hz2, hy1, hy2, h⟩ := h
        refine x_cI (k := (kz K)) (As := []) (rest := [.ref (b + (kz K))]) ⟨hx, hb, hml, hown, hts⟩ (mx8_init l G b hole (kz K) K_66 T_67 Z_71 Y_72 hz1 hy1 hk_n66 _ h) (cwI 0 hts (lw_meth q1023) rfl rfl rfl (hts _ q137) (hts _ q1021) (hts _ q1022) rfl cwx_X8_init ⟨Nat.le_of_ble_eq_true rfl, Nat.le_of_ble_eq_true rfl⟩) hK hV hb0 hP hS rfl hl.1 rfl (Nat.le_of_ble_eq_true rfl) dX1_times_2_57 ⟨by first | exact Nat.zero_le _ | (show _ + _ ≤ Z - kc K0; omega), by first | exact Nat.zero_le _ | (show _ + _ ≤ Y - ks K0; omega)⟩ (fun r_68 T1 K1 H locs h hle1 hc1 hs1 hP hS => ?_)
        generalize T1 = T_69 at h hP
        generalize K1 = K_70 at h hP hle1 hc1 hs1
        have hk_p1 : kd K_70 p1 = 2 := hle1.kd hk_p1
        have hk_p2 : kd K_70 p2 = 2 := hle1.kd hk_p2
        have hk_n66 : kd K_70 (kz K) = 13 := hle1.kd hk_n66
        have hle0 := hle0.tr hle1
        have hcn : kc K0 + ((cn + 1) + (Z_71 - kc K_66)) = kc K_70 := by omega
        have hsn : ks K0 + ((sn + 3) + (Y_72 - ks K_66)) = ks K_70 := by omega
        have hzz : kc K_70 ≤ Z := by omega
        have hyy : ks K_70 ≤ Y := by omega
        refine lv_astore_n (lv' := [(3, .ref (b + (kz K))), (0, .ref (b + 0)), (1, .ref (b + p1)), (2, .ref (b + p2))]) hx hb dX1_times_2_60 rfl hl (by decide) rfl (fun ls hl => ?_)
        refine lv_aload_n hx hb dX1_times_2_61 rfl (lv_at hl 2 rfl) ?_
        refine x_get (CC := RX6) (TT := TX6) (N := 3) (ci := 5) (v := .int (xi T_69 p1 2)) hx hb hts in_X6 hown hK hP hk_p1 (by decide) (by decide) rfl (xE_2 hk_p1) 2 (by decide) q372 rfl rfl dX1_times_2_62 ?_
        obtain ⟨n_73, hn_73, en_73, h⟩ := h
        obtain ⟨hc1, hs1, h⟩ := h
        obtain ⟨K_74, eK_74⟩ : ∃ z : XK, z = knew K_70 1 n_73 n_73 := ⟨_, rfl⟩
        obtain ⟨T_75, eT_75⟩ : ∃ z : XT, z = xnil T_69 (kz K_70) := ⟨_, rfl⟩
        have h := h K_74 eK_74 T_75 eT_75
        have hle1 : kle K_70 K_74 := by rw [eK_74]; exact kle.new hP.2.2.1 _ _ _
        refine x_newai (N := n_73) hx hb hts q170 hK hP hS en_73 hn_73 (by show _ + 1 ≤ Z - kc K0; omega) (by show _ + _ ≤ Y - ks K0; omega) dX1_times_2_65 (fun H hP hS => ?_)
        rw [← eK_74, ← eT_75] at hP
        have hk_n66 : kd K_74 (kz K) = 13 := hle1.kd hk_n66
        have hk_p1 : kd K_74 p1 = 2 := hle1.kd hk_p1
        have hk_p2 : kd K_74 p2 = 2 := hle1.kd hk_p2
        have hk_n74 : kd K_74 (kz K_70) = 1 := by rw [eK_74]; exact knew_kd
        have hle0 := hle0.tr hle1
        have hcn : kc K0 + (((cn + 1) + (Z_71 - kc K_66)) + 1) = kc K_74 := by rw [eK_74]; show _ = kc K_70 + 1; omega
        have hsn : ks K0 + (((sn + 3) + (Y_72 - ks K_66)) + n_73) = ks K_74 := by rw [eK_74]; show _ = ks K_70 + n_73; omega
        have hzz : kc K_74 ≤ Z := by rw [eK_74]; exact hc1
        have hyy : ks K_74 ≤ Y := by rw [eK_74]; exact hs1
        refine lv_astore (lv' := [(4, .ref (b + (kz K_70))), (3, .ref (b + (kz K))), (0, .ref (b + 0)), (1, .ref (b + p1)), (2, .ref (b + p2))]) hx hb dX1_times_2_67 hl (by decide) rfl (fun ls hl => ?_)
        refine lv_iconst (v := 0) hx hb dX1_times_2_69 (by decide) ?_
        refine lv_istore (lv' := [(5, .int 0), (4, .ref (b + (kz K_70))), (3, .ref (b + (kz K))), (0, .ref (b + 0)), (1, .ref (b + p1)), (2, .ref (b + p2))]) hx hb dX1_times_2_70 hl (by decide) rfl (fun ls hl => ?_)
        exact L72 _ _ _ _ _ _ _ _ _ _ h hle0 hcn hsn hzz hyy hk_n66 hk_n74 hk_p1 hk_p2 hP hS (lv_sub hl [3, 4, 5, 2, 1, 0] rfl)
      · have h := h.2 c_91
        refine lv_aload_n hx hb dX1_times_2_7 rfl (lv_at hl 1 rfl) ?_
        refine x_cV (k := p1) (As := []) (rest := []) ⟨hx, hb, hml, hown, hts⟩ (mx6_isZero l G b hole p1 K T hk_p1 _ h) (cwV 0 hts (lw_V q785 q786 q787 q126 q788) rfl rfl rfl cwx_X6_isZero ⟨Nat.le_of_ble_eq_true rfl, Nat.le_of_ble_eq_true rfl⟩) (x_recv (CC := RX6) (ci := 5) hK hP hk_p1 (by decide) (by decide) rfl (xE_2 hk_p1)) hK hV hb0 hP hS rfl hl.1 rfl (Nat.le_of_ble_eq_true rfl) dX1_times_2_8 ⟨by first | exact Nat.zero_le _ | (show _ + _ ≤ Z - kc K0; omega), by first | exact Nat.zero_le _ | (show _ + _ ≤ Y - ks K0; omega)⟩ (fun r_76 T1 K1 H locs h hle1 hc1 hs1 hP hS => ?_)
        obtain ⟨h, hTe, hKe⟩ := h
        rw [hTe, hKe] at hP
        refine lv_if_ne (tgt := 39) hx hb dX1_times_2_11 (by decide) (fun c_90 => ?_) (fun c_90 => ?_)
        · have h := h.1 c_90
          exact J39 _ _ _ _ h  hP hS (lv_sub hl [0, 1, 2, 3] rfl)
        · have h := h.2 c_90
          refine lv_aload_n hx hb dX1_times_2_14 rfl (lv_at hl 2 rfl) ?_
          refine x_cV (k := p2) (As := []) (rest := []) ⟨hx, hb, hml, hown, hts⟩ (mx6_isZero l G b hole p2 K T hk_p2 _ h) (cwV 0 hts (lw_V q785 q786 q787 q126 q788) rfl rfl rfl cwx_X6_isZero ⟨Nat.le_of_ble_eq_true rfl, Nat.le_of_ble_eq_true rfl⟩) (x_recv (CC := RX6) (ci := 5) hK hP hk_p2 (by decide) (by decide) rfl (xE_2 hk_p2)) hK hV hb0 hP hS rfl hl.1 rfl (Nat.le_of_ble_eq_true rfl) dX1_times_2_15 ⟨by first | exact Nat.zero_le _ | (show _ + _ ≤ Z - kc K0; omega), by first | exact Nat.zero_le _ | (show _ + _ ≤ Y - ks K0; omega)⟩ (fun r_79 T1 K1 H locs h hle1 hc1 hs1 hP hS => ?_)
          obtain ⟨h, hTe, hKe⟩ := h
          rw [hTe, hKe] at hP
          refine lv_if_ne (tgt := 39) hx hb dX1_times_2_18 (by decide) (fun c_89 => ?_) (fun c_89 => ?_)
          · have h := h.1 c_89
            exact J39 _ _ _ _ h  hP hS (lv_sub hl [0, 1, 2, 3] rfl)
          · have h := h.2 c_89
            refine lv_aload_n hx hb dX1_times_2_21 rfl (lv_at hl 1 rfl) ?_
            refine lv_iload_n hx hb dX1_times_2_22 rfl (lv_at hl 3 rfl) ?_
            refine x_cV (k := p1) (As := [.int x3]) (rest := []) ⟨hx, hb, hml, hown, hts⟩ (mx6_most l G b hole p1 x3 K T hk_p1 _ h) (cwV 1 hts (lw_V q819 q820 q821 q126 q822) rfl rfl rfl cwx_X6_most ⟨Nat.le_of_ble_eq_true rfl, Nat.le_of_ble_eq_true rfl⟩) (x_recv (CC := RX6) (ci := 5) hK hP hk_p1 (by decide) (by decide) rfl (xE_2 hk_p1)) hK hV hb0 hP hS rfl hl.1 rfl (Nat.le_of_ble_eq_true rfl) dX1_times_2_23 ⟨by first | exact Nat.zero_le _ | (show _ + _ ≤ Z - kc K0; omega), by first | exact Nat.zero_le _ | (show _ + _ ≤ Y - ks K0; omega)⟩ (fun r_82 T1 K1 H locs h hle1 hc1 hs1 hP hS => ?_)
            obtain ⟨h, hTe, hKe⟩ := h
            rw [hTe, hKe] at hP
            refine lv_aload_n hx hb dX1_times_2_26 rfl (lv_at hl 2 rfl) ?_
            refine lv_iload_n hx hb dX1_times_2_27 rfl (lv_at hl 3 rfl) ?_
            refine x_cV (k := p2) (As := [.int x3]) (rest := [.int r_82]) ⟨hx, hb, hml, hown, hts⟩ (mx6_most l G b hole p2 x3 K T hk_p2 _ h) (cwV 1 hts (lw_V q819 q820 q821 q126 q822) rfl rfl rfl cwx_X6_most ⟨Nat.le_of_ble_eq_true rfl, Nat.le_of_ble_eq_true rfl⟩) (x_recv (CC := RX6) (ci := 5) hK hP hk_p2 (by decide) (by decide) rfl (xE_2 hk_p2)) hK hV hb0 hP hS rfl hl.1 rfl (Nat.le_of_ble_eq_true rfl) dX1_times_2_28 ⟨by first | exact Nat.zero_le _ | (show _ + _ ≤ Z - kc K0; omega), by first | exact Nat.zero_le _ | (show _ + _ ≤ Y - ks K0; omega)⟩ (fun r_85 T1 K1 H locs h hle1 hc1 hs1 hP hS => ?_)
            obtain ⟨h, hTe, hKe⟩ := h
            rw [hTe, hKe] at hP
            refine lv_iadd hx hb dX1_times_2_31 ?_
            refine lv_bipush (v := 15) hx hb dX1_times_2_32 (by decide) ?_
            refine lv_icmp_le (tgt := 39) hx hb dX1_times_2_34 (by decide) (fun c_88 => ?_) (fun c_88 => ?_)
            · have h := h.1 c_88
              exact J39 _ _ _ _ h  hP hS (lv_sub hl [0, 1, 2, 3] rfl)
            · have h := h.2 c_88
              refine lv_null hx hb dX1_times_2_37 ?_
              refine W.widen (k := Z - kc K0) (n := Y - ks K0) (by omega) (by omega) ?_
              exact W.aret (v := .null) hx hb hr (Or.inl ⟨_, rfl⟩) (Or.inl rfl) (fun t ht hW => ⟨⟨none, T, (kset K Z Y), rfl, ⟨h, (fun _ e9 => by cases e9)⟩, hle0, (by show Z = _; omega), (by show Y = _; omega), by rw [ht]; exact hP, va_K.moved hW.alike hK⟩, hS.F ht⟩) hS.2.2 dX1_times_2_38
  have hcn : kc K0 + 0 = kc K0 := rfl
  have hsn : ks K0 + 0 = ks K0 := rfl
  have hzz := hZ
  have hyy := hY
  unfold wx1_times_2 at h
  refine lv_iconst (v := 0) hx hb dX1_times_2_0 (by decide) ?_
  refine lv_istore_n (lv' := [(3, .int 0), (0, .ref (b + 0)), (1, .ref (b + p1)), (2, .ref (b + p2))]) hx hb dX1_times_2_1 rfl hl (by decide) rfl (fun ls hl => ?_)
  exact L2 _ _ _ _ _ _ _ _ h hle0 hcn hsn hzz hyy hk_p1 hk_p2 hP hS (lv_sub hl [1, 2, 3, 0] rfl)
theorem cwx_X1_times : yX1_times.cls = RX1 ∧ yX1_times.cls ≠ "java/lang/invoke/MethodHandle" ∧ yX1_times.cls ≠ "java/lang/invoke/VarHandle" ∧ (parseMethodDescriptor yX1_times.desc).map (fun d => d.parameters.length) = some 3 := by decide +kernel
def wx1_times (p1 : Int32) (p2 : Int32) (p3 : Int32) (K0 : XK) (T : XT) (Z Y : Nat) (post : Int32 → XT → XK → Prop) : Prop :=
  kc K0 + 1 ≤ Z ∧ ks K0 + 3 ≤ Y ∧ ∀ K_1 : XK, K_1 = knew K0 1 3 3 → ∀ T_2 : XT, T_2 = xnil T (kz K0) →
  ∃ j_3 : Nat, j_3 < kl K_1 (kz K0) ∧ 0 = nI j_3 ∧ ∀ T_4 : XT, T_4 = xwi T_2 (kz K0) j_3 p1 →
  ∃ j_5 : Nat, j_5 < kl K_1 (kz K0) ∧ 1 = nI j_5 ∧ ∀ T_6 : XT, T_6 = xwi T_4 (kz K0) j_5 p2 →
  ∃ j_7 : Nat, j_7 < kl K_1 (kz K0) ∧ 2 = nI j_7 ∧ ∀ T_8 : XT, T_8 = xwi T_6 (kz K0) j_7 p3 →
  wx1_is (kz K0) K_1 T_8 (fun r_9 =>
  wx1_why r_9 K_1 T_8 (fun r_12 =>
  wx1_isRefused r_12 K_1 T_8 (fun r_15 T_16 =>
  ((r_15 = 0 →
    ∃ v_18 : Nat, xr T_16 0 18 = some v_18 ∧
    ∃ j_19 : Nat, j_19 < kl K_1 v_18 ∧ p1 = nI j_19 ∧ ∃ v_20 : Nat, xr T_16 v_18 j_19 = some v_20 ∧
    ∃ v_21 : Nat, xr T_16 0 18 = some v_21 ∧
    ∃ j_22 : Nat, j_22 < kl K_1 v_21 ∧ p2 = nI j_22 ∧ ∃ v_23 : Nat, xr T_16 v_21 j_22 = some v_23 ∧
    ∃ Z_27 Y_28 : Nat, kc K_1 ≤ Z_27 ∧ Z_27 ≤ Z ∧ ks K_1 ≤ Y_28 ∧ Y_28 ≤ Y ∧ wx1_times_2 v_20 v_23 K_1 T_16 Z_27 Y_28 (fun r_24 T_25 K_26 =>
    ∃ Z_32 Y_33 : Nat, kc K_26 ≤ Z_32 ∧ Z_32 ≤ Z ∧ ks K_26 ≤ Y_33 ∧ Y_33 ≤ Y ∧ wx1_lays r_24 p3 K_26 T_25 Z_32 Y_33 (fun r_29 T_30 K_31 =>
    post r_29 T_30 (kset K_31 Z Y)))) ∧
   (¬ (r_15 = 0) →
    post (-1) T_16 (kset K_1 Z Y))))))
set_option maxHeartbeats 4000000 in
theorem mx1_times (l : Launch) (G : XG) (b : Nat) (hole : Nat → Prop) (p1 : Int32) (p2 : Int32) (p3 : Int32) (K0 : XK) (T : XT) (Z Y : Nat) (hZ : kc K0 ≤ Z) (hY : ks K0 ≤ Y)  (post : Int32 → XT → XK → Prop) (h : wx1_times p1 p2 p3 K0 T Z Y post) : Met l yX1_times (ws_ yX1_times cX1_times 4 (some .int)) ({ frames := 5, cells := (Z - kc K0), slots := (Y - ks K0), locals := 132 } : Room) (xPc G b hole [.ref (b + 0), .int p1, .int p2, .int p3] K0 T) (xQ G b hole K0 (Z - kc K0) (Y - ks K0) (ρ := Int32) eI (fun r T1 K1 => post r T1 K1)) (Z - kc K0) (Y - ks K0) (xA b hole) := by
  refine Met.ofW (cc := cX1_times) (maxL := 4) (ret := (some .int)) (by decide) rfl ?_
  intro p e s m args below meth c s₁ B hml hv
  obtain ⟨rfl, hP, hK, hV⟩ := hv
  have hx := B.exec
  have hb := B.bytes
  have hr := B.returns
  have hts := atoms_spec (ws := ws_ yX1_times cX1_times 4 (some .int)) B.pre
  have hts : ∀ w ∈ lw_all, w.before _ s = true := fun w h => hts w (List.mem_cons_of_mem _ h)
  have hown : s.vm.findClass RX1 = some m.cls := findClass_of_methodNamed B.named
  have hlocks := B.notSynchronized
  have hb0 : b ≤ s.heap.size := by rw [hP.2.2.2]; exact Nat.le_add_right _ _
  have hS : va_S (xA b hole) s.heap s.heap [] := va_S.rf
  have hl := lv_entry ([.ref (b + 0), .int p1, .int p2, .int p3]) (n := 4) (Nat.le_of_ble_eq_true rfl)
  rw [lg_entry_eq]
  generalize (lg_sl ([.ref (b + 0), .int p1, .int p2, .int p3]) ++ List.replicate (4 - (lg_sl ([.ref (b + 0), .int p1, .int p2, .int p3])).length) Slot.unset).toArray = ls at hl ⊢
  have hl : lv_has ls 4 [(0, .ref (b + 0)), (1, .int p1), (2, .int p2), (3, .int p3)] := hl
  have hle0 : kle K0 K0 := kle.rf
  have hcn : kc K0 + 0 = kc K0 := rfl
  have hsn : ks K0 + 0 = ks K0 := rfl
  have hzz := hZ
  have hyy := hY
  unfold wx1_times at h
  refine lv_aload_n hx hb dX1_times_0 rfl (lv_at hl 0 rfl) ?_
  refine lv_aload_n hx hb dX1_times_1 rfl (lv_at hl 0 rfl) ?_
  refine lv_iconst (v := 3) hx hb dX1_times_2 (by decide) ?_
  obtain ⟨hc1, hs1, h⟩ := h
  obtain ⟨K_1, eK_1⟩ : ∃ z : XK, z = knew K0 1 3 3 := ⟨_, rfl⟩
  obtain ⟨T_2, eT_2⟩ : ∃ z : XT, z = xnil T (kz K0) := ⟨_, rfl⟩
  have h := h K_1 eK_1 T_2 eT_2
  have hle1 : kle K0 K_1 := by rw [eK_1]; exact kle.new hP.2.2.1 _ _ _
  refine x_newai (N := 3) hx hb hts q170 hK hP hS (by decide) (by decide) (by show _ + 1 ≤ Z - kc K0; omega) (by show _ + _ ≤ Y - ks K0; omega) dX1_times_3 (fun H hP hS => ?_)
  rw [← eK_1, ← eT_2] at hP
  have hk_n1 : kd K_1 (kz K0) = 1 := by rw [eK_1]; exact knew_kd
  have hle0 := hle0.tr hle1
  have hcn : kc K0 + (0 + 1) = kc K_1 := by rw [eK_1]; show _ = kc K0 + 1; omega
  have hsn : ks K0 + (0 + 3) = ks K_1 := by rw [eK_1]; show _ = ks K0 + 3; omega
  have hzz : kc K_1 ≤ Z := by rw [eK_1]; exact hc1
  have hyy : ks K_1 ≤ Y := by rw [eK_1]; exact hs1
  refine lv_dup hx hb dX1_times_5 rfl ?_
  refine lv_iconst (v := 0) hx hb dX1_times_6 (by decide) ?_
  refine lv_iload_n hx hb dX1_times_7 rfl (lv_at hl 1 rfl) ?_
  obtain ⟨j_3, hj_3, ej_3, h⟩ := h
  obtain ⟨T_4, eT_4⟩ : ∃ z : XT, z = xwi T_2 (kz K0) j_3 p1 := ⟨_, rfl⟩
  have h := h T_4 eT_4
  refine x_iast hx hb hK hP hS hk_n1 ej_3 hj_3 dX1_times_8 (fun H locs hP hS => ?_)
  rw [← eT_4] at hP
  refine lv_dup hx hb dX1_times_9 rfl ?_
  refine lv_iconst (v := 1) hx hb dX1_times_10 (by decide) ?_
  refine lv_iload_n hx hb dX1_times_11 rfl (lv_at hl 2 rfl) ?_
  obtain ⟨j_5, hj_5, ej_5, h⟩ := h
  obtain ⟨T_6, eT_6⟩ : ∃ z : XT, z = xwi T_4 (kz K0) j_5 p2 := ⟨_, rfl⟩
  have h := h T_6 eT_6
  refine x_iast hx hb hK hP hS hk_n1 ej_5 hj_5 dX1_times_12 (fun H locs hP hS => ?_)
  rw [← eT_6] at hP
  refine lv_dup hx hb dX1_times_13 rfl ?_
  refine lv_iconst (v := 2) hx hb dX1_times_14 (by decide) ?_
  refine lv_iload_n hx hb dX1_times_15 rfl (lv_at hl 3 rfl) ?_
  obtain ⟨j_7, hj_7, ej_7, h⟩ := h
  obtain ⟨T_8, eT_8⟩ : ∃ z : XT, z = xwi T_6 (kz K0) j_7 p3 := ⟨_, rfl⟩
  have h := h T_8 eT_8
  refine x_iast hx hb hK hP hS hk_n1 ej_7 hj_7 dX1_times_16 (fun H locs hP hS => ?_)
  rw [← eT_8] at hP
  refine x_cS (As := [.ref (b + (kz K0))]) (rest := [.ref (b + 0), .ref (b + 0)]) ⟨hx, hb, hml, hown, hts⟩ (mx1_is l G b hole (kz K0) K_1 T_8 hk_n1 _ h) (va_cwS 1 hts (lw_S q793 q794 q118 q795) rfl rfl rfl cwx_X1_is ⟨Nat.le_of_ble_eq_true rfl, Nat.le_of_ble_eq_true rfl⟩) hK hV hb0 hP hS rfl hl.1 rfl (Nat.le_of_ble_eq_true rfl) dX1_times_17 ⟨by first | exact Nat.zero_le _ | (show _ + _ ≤ Z - kc K0; omega), by first | exact Nat.zero_le _ | (show _ + _ ≤ Y - ks K0; omega)⟩ (fun r_9 T1 K1 H locs h hle1 hc1 hs1 hP hS => ?_)
  obtain ⟨h, hTe, hKe⟩ := h
  rw [hTe, hKe] at hP
  refine x_cV (k := 0) (As := [.int r_9]) (rest := [.ref (b + 0)]) ⟨hx, hb, hml, hown, hts⟩ (mx1_why l G b hole r_9 K_1 T_8  _ h) (cwV 1 hts (lw_V q769 q771 qs24 q118 q772) rfl rfl rfl cwx_X1_why ⟨Nat.le_of_ble_eq_true rfl, Nat.le_of_ble_eq_true rfl⟩) (x_recv (CC := RX1) (ci := 0) hK hP (xs_0 hP) (by decide) (by decide) rfl (xE_8 (xs_0 hP))) hK hV hb0 hP hS rfl hl.1 rfl (Nat.le_of_ble_eq_true rfl) dX1_times_20 ⟨by first | exact Nat.zero_le _ | (show _ + _ ≤ Z - kc K0; omega), by first | exact Nat.zero_le _ | (show _ + _ ≤ Y - ks K0; omega)⟩ (fun r_12 T1 K1 H locs h hle1 hc1 hs1 hP hS => ?_)
  obtain ⟨h, hTe, hKe⟩ := h
  rw [hTe, hKe] at hP
  refine x_cV (k := 0) (As := [.int r_12]) (rest := []) ⟨hx, hb, hml, hown, hts⟩ (mx1_isRefused l G b hole r_12 K_1 T_8  _ h) (cwV 1 hts (lw_V q777 q779 qs26 q118 q780) rfl rfl rfl cwx_X1_isRefused ⟨Nat.le_of_ble_eq_true rfl, Nat.le_of_ble_eq_true rfl⟩) (x_recv (CC := RX1) (ci := 0) hK hP (xs_0 hP) (by decide) (by decide) rfl (xE_8 (xs_0 hP))) hK hV hb0 hP hS rfl hl.1 rfl (Nat.le_of_ble_eq_true rfl) dX1_times_23 ⟨by first | exact Nat.zero_le _ | (show _ + _ ≤ Z - kc K0; omega), by first | exact Nat.zero_le _ | (show _ + _ ≤ Y - ks K0; omega)⟩ (fun r_15 T1 K1 H locs h hle1 hc1 hs1 hP hS => ?_)
  obtain ⟨h, hKe⟩ := h
  rw [hKe] at hP
  generalize T1 = T_16 at h hP
  refine lv_if_eq (tgt := 33) hx hb dX1_times_26 (by decide) (fun c_34 => ?_) (fun c_34 => ?_)
  · have h := h.1 c_34
    refine lv_aload_n hx hb dX1_times_33 rfl (lv_at hl 0 rfl) ?_
    refine lv_aload_n hx hb dX1_times_34 rfl (lv_at hl 0 rfl) ?_
    refine lv_aload_n hx hb dX1_times_35 rfl (lv_at hl 0 rfl) ?_
    obtain ⟨v_18, ev_18, h⟩ := h
    refine x_get (CC := RX1) (TT := TX1) (N := 26) (ci := 0) (v := rfv b (xr T_16 0 18)) hx hb hts in_X1 hown hK hP (xs_0 hP) (by decide) (by decide) rfl (xE_8 (xs_0 hP)) 18 (by decide) q405 rfl rfl dX1_times_36 ?_
    refine x_some ev_18 ?_
    have hk_v_18 : kd K_1 v_18 = 3 := hP.ty (xs_0 hP) (by decide) ev_18
    refine lv_iload_n hx hb dX1_times_39 rfl (lv_at hl 1 rfl) ?_
    obtain ⟨j_19, hj_19, ej_19, v_20, ev_20, h⟩ := h
    refine x_aald3 hx hb hK hP hk_v_18 ej_19 hj_19 dX1_times_40 ?_
    refine x_some ev_20 ?_
    have hk_v_20 : kd K_1 v_20 = 2 := hP.ty hk_v_18 (by decide) ev_20
    refine lv_aload_n hx hb dX1_times_41 rfl (lv_at hl 0 rfl) ?_
    obtain ⟨v_21, ev_21, h⟩ := h
    refine x_get (CC := RX1) (TT := TX1) (N := 26) (ci := 0) (v := rfv b (xr T_16 0 18)) hx hb hts in_X1 hown hK hP (xs_0 hP) (by decide) (by decide) rfl (xE_8 (xs_0 hP)) 18 (by decide) q405 rfl rfl dX1_times_42 ?_
    refine x_some ev_21 ?_
    have hk_v_21 : kd K_1 v_21 = 3 := hP.ty (xs_0 hP) (by decide) ev_21
    refine lv_iload_n hx hb dX1_times_45 rfl (lv_at hl 2 rfl) ?_
    obtain ⟨j_22, hj_22, ej_22, v_23, ev_23, h⟩ := h
    refine x_aald3 hx hb hK hP hk_v_21 ej_22 hj_22 dX1_times_46 ?_
    refine x_some ev_23 ?_
    have hk_v_23 : kd K_1 v_23 = 2 := hP.ty hk_v_21 (by decide) ev_23
    obtain ⟨Z_27, Y_28, hz1, hz2, hy1, hy2, h⟩ := h
    refine x_cV (k := 0) (As := [.ref (b + v_20), .ref (b + v_23)]) (rest := [.ref (b + 0)]) ⟨hx, hb, hml, hown, hts⟩ (mx1_times_2 l G b hole v_20 v_23 K_1 T_16 Z_27 Y_28 hz1 hy1 hk_v_20 hk_v_23 _ h) (cwV 2 hts (lw_V q1015 q1017 qs45 q118 q1018) rfl rfl rfl cwx_X1_times_2 ⟨Nat.le_of_ble_eq_true rfl, Nat.le_of_ble_eq_true rfl⟩) (x_recv (CC := RX1) (ci := 0) hK hP (xs_0 hP) (by decide) (by decide) rfl (xE_8 (xs_0 hP))) hK hV hb0 hP hS rfl hl.1 rfl (Nat.le_of_ble_eq_true rfl) dX1_times_47 ⟨by first | exact Nat.zero_le _ | (show _ + _ ≤ Z - kc K0; omega), by first | exact Nat.zero_le _ | (show _ + _ ≤ Y - ks K0; omega)⟩ (fun r_24 T1 K1 H locs h hle1 hc1 hs1 hP hS => ?_)
    obtain ⟨h, hk_r_24⟩ := h
    generalize T1 = T_25 at h hP
    generalize K1 = K_26 at h hP hle1 hc1 hs1 hk_r_24
    have hle0 := hle0.tr hle1
    have hcn : kc K0 + ((0 + 1) + (Z_27 - kc K_1)) = kc K_26 := by omega
    have hsn : ks K0 + ((0 + 3) + (Y_28 - ks K_1)) = ks K_26 := by omega
    have hzz : kc K_26 ≤ Z := by omega
    have hyy : ks K_26 ≤ Y := by omega
    refine lv_iload_n hx hb dX1_times_50 rfl (lv_at hl 3 rfl) ?_
    obtain ⟨Z_32, Y_33, hz1, hz2, hy1, hy2, h⟩ := h
    refine x_cV (k := 0) (As := [rfv b r_24, .int p3]) (rest := []) ⟨hx, hb, hml, hown, hts⟩ (mx1_lays l G b hole r_24 p3 K_26 T_25 Z_32 Y_33 hz1 hy1 hk_r_24 _ h) (cwV 2 hts (lw_V q995 q997 qs43 q118 q998) rfl rfl rfl cwx_X1_lays ⟨Nat.le_of_ble_eq_true rfl, Nat.le_of_ble_eq_true rfl⟩) (x_recv (CC := RX1) (ci := 0) hK hP (xs_0 hP) (by decide) (by decide) rfl (xE_8 (xs_0 hP))) hK hV hb0 hP hS rfl hl.1 rfl (Nat.le_of_ble_eq_true rfl) dX1_times_51 ⟨by first | exact Nat.zero_le _ | (show _ + _ ≤ Z - kc K0; omega), by first | exact Nat.zero_le _ | (show _ + _ ≤ Y - ks K0; omega)⟩ (fun r_29 T1 K1 H locs h hle1 hc1 hs1 hP hS => ?_)
    generalize T1 = T_30 at h hP
    generalize K1 = K_31 at h hP hle1 hc1 hs1
    have hle0 := hle0.tr hle1
    have hcn : kc K0 + (((0 + 1) + (Z_27 - kc K_1)) + (Z_32 - kc K_26)) = kc K_31 := by omega
    have hsn : ks K0 + (((0 + 3) + (Y_28 - ks K_1)) + (Y_33 - ks K_26)) = ks K_31 := by omega
    have hzz : kc K_31 ≤ Z := by omega
    have hyy : ks K_31 ≤ Y := by omega
    refine W.widen (k := Z - kc K0) (n := Y - ks K0) (by omega) (by omega) ?_
    exact W.iret (v := r_29) hx hb hr (fun t ht hW => ⟨⟨r_29, T_30, (kset K_31 Z Y), rfl, h, hle0, (by show Z = _; omega), (by show Y = _; omega), by rw [ht]; exact hP, va_K.moved hW.alike hK⟩, hS.F ht⟩) hS.2.2 dX1_times_54
  · have h := h.2 c_34
    refine lv_iconst (v := (-1)) hx hb dX1_times_29 (by decide) ?_
    refine lv_goto (tgt := 54) hx hb dX1_times_30 (by decide) ?_
    refine W.widen (k := Z - kc K0) (n := Y - ks K0) (by omega) (by omega) ?_
    exact W.iret (v := (-1)) hx hb hr (fun t ht hW => ⟨⟨(-1), T_16, (kset K_1 Z Y), rfl, h, hle0, (by show Z = _; omega), (by show Y = _; omega), by rw [ht]; exact hP, va_K.moved hW.alike hK⟩, hS.F ht⟩) hS.2.2 dX1_times_54
theorem cwx_X1_scale : yX1_scale.cls = RX1 ∧ yX1_scale.cls ≠ "java/lang/invoke/MethodHandle" ∧ yX1_scale.cls ≠ "java/lang/invoke/VarHandle" ∧ (parseMethodDescriptor yX1_scale.desc).map (fun d => d.parameters.length) = some 6 := by decide +kernel
def wx1_scale_j70 (p1 : Int32) (p2 : Int32) (p3 : Int32) (p4 : Int32) (p5 : Int32) (p6 : Int32) (Z Y : Nat) (post : Int32 → XT → XK → Prop)  (K : XK) (T : XT) : Prop :=
    ((¬ p2 = 0 →
      kc K + 1 ≤ Z ∧ ks K + 3 ≤ Y ∧ ∀ K_1 : XK, K_1 = knew K 2 0 3 → ∀ T_2 : XT, T_2 = xnil T (kz K) →
      ∃ Z_6 Y_7 : Nat, kc K_1 ≤ Z_6 ∧ Z_6 ≤ Z ∧ ks K_1 ≤ Y_7 ∧ Y_7 ≤ Y ∧ wx6_init (kz K) K_1 T_2 Z_6 Y_7 (fun T_4 K_5 =>
      ∃ v_8 : Nat, xr T_4 0 18 = some v_8 ∧
      ∃ j_9 : Nat, j_9 < kl K_5 v_8 ∧ p1 = nI j_9 ∧ ∃ v_10 : Nat, xr T_4 v_8 j_9 = some v_10 ∧
      wx1_packed p3 p4 p5 K_5 T_4 (fun r_11 =>
      ∃ Z_17 Y_18 : Nat, kc K_5 ≤ Z_17 ∧ Z_17 ≤ Z ∧ ks K_5 ≤ Y_18 ∧ Y_18 ≤ Y ∧ wx1_sum_2 (kz K) v_10 p2 r_11 K_5 T_4 Z_17 Y_18 (fun r_14 T_15 K_16 =>
      ∃ Z_22 Y_23 : Nat, kc K_16 ≤ Z_22 ∧ Z_22 ≤ Z ∧ ks K_16 ≤ Y_23 ∧ Y_23 ≤ Y ∧ wx1_lays r_14 p6 K_16 T_15 Z_22 Y_23 (fun r_19 T_20 K_21 =>
      post r_19 T_20 (kset K_21 Z Y)))))) ∧
     (p2 = 0 →
      kc K + 1 ≤ Z ∧ ks K + 3 ≤ Y ∧ ∀ K_24 : XK, K_24 = knew K 2 0 3 → ∀ T_25 : XT, T_25 = xnil T (kz K) →
      ∃ Z_29 Y_30 : Nat, kc K_24 ≤ Z_29 ∧ Z_29 ≤ Z ∧ ks K_24 ≤ Y_30 ∧ Y_30 ≤ Y ∧ wx6_init (kz K) K_24 T_25 Z_29 Y_30 (fun T_27 K_28 =>
      ∃ Z_34 Y_35 : Nat, kc K_28 ≤ Z_34 ∧ Z_34 ≤ Z ∧ ks K_28 ≤ Y_35 ∧ Y_35 ≤ Y ∧ wx1_lays (some (kz K)) p6 K_28 T_27 Z_34 Y_35 (fun r_31 T_32 K_33 =>
      post r_31 T_32 (kset K_33 Z Y)))))
def wx1_scale (p1 : Int32) (p2 : Int32) (p3 : Int32) (p4 : Int32) (p5 : Int32) (p6 : Int32) (K0 : XK) (T : XT) (Z Y : Nat) (post : Int32 → XT → XK → Prop) : Prop :=
  kc K0 + 1 ≤ Z ∧ ks K0 + 2 ≤ Y ∧ ∀ K_37 : XK, K_37 = knew K0 1 2 2 → ∀ T_38 : XT, T_38 = xnil T (kz K0) →
  ∃ j_39 : Nat, j_39 < kl K_37 (kz K0) ∧ 0 = nI j_39 ∧ ∀ T_40 : XT, T_40 = xwi T_38 (kz K0) j_39 p1 →
  ∃ j_41 : Nat, j_41 < kl K_37 (kz K0) ∧ 1 = nI j_41 ∧ ∀ T_42 : XT, T_42 = xwi T_40 (kz K0) j_41 p6 →
  wx1_is (kz K0) K_37 T_42 (fun r_43 =>
  kc K_37 + 1 ≤ Z ∧ ks K_37 + 1 ≤ Y ∧ ∀ K_46 : XK, K_46 = knew K_37 1 1 1 → ∀ T_47 : XT, T_47 = xnil T_42 (kz K_37) →
  ∃ j_48 : Nat, j_48 < kl K_46 (kz K_37) ∧ 0 = nI j_48 ∧ ∀ T_49 : XT, T_49 = xwi T_47 (kz K_37) j_48 p2 →
  wx1_areValues (kz K_37) K_46 T_49 (fun r_50 =>
  ((r_50 = 0 →
    wx1_why_2 r_43 0 K_46 T_49 (fun r_53 =>
    wx1_isRefused r_53 K_46 T_49 (fun r_56 T_57 =>
    ((r_56 = 0 →
      wx1_scale_j70 p1 p2 p3 p4 p5 p6 Z Y post  K_46 T_57) ∧
     (¬ (r_56 = 0) →
      post (-1) T_57 (kset K_46 Z Y)))))) ∧
   (¬ (r_50 = 0) →
    kc K_46 + 1 ≤ Z ∧ ks K_46 + 3 ≤ Y ∧ ∀ K_60 : XK, K_60 = knew K_46 1 3 3 → ∀ T_61 : XT, T_61 = xnil T_49 (kz K_46) →
    ∃ j_62 : Nat, j_62 < kl K_60 (kz K_46) ∧ 0 = nI j_62 ∧ ∀ T_63 : XT, T_63 = xwi T_61 (kz K_46) j_62 p3 →
    ∃ j_64 : Nat, j_64 < kl K_60 (kz K_46) ∧ 1 = nI j_64 ∧ ∀ T_65 : XT, T_65 = xwi T_63 (kz K_46) j_64 p4 →
    ∃ j_66 : Nat, j_66 < kl K_60 (kz K_46) ∧ 2 = nI j_66 ∧ ∀ T_67 : XT, T_67 = xwi T_65 (kz K_46) j_66 p5 →
    wx1_areExponents (kz K_46) K_60 T_67 (fun r_68 =>
    ((r_68 = 0 →
      wx1_why_2 r_43 0 K_60 T_67 (fun r_71 =>
      wx1_isRefused r_71 K_60 T_67 (fun r_74 T_75 =>
      ((r_74 = 0 →
        wx1_scale_j70 p1 p2 p3 p4 p5 p6 Z Y post  K_60 T_75) ∧
       (¬ (r_74 = 0) →
        post (-1) T_75 (kset K_60 Z Y)))))) ∧
     (¬ (r_68 = 0) →
      wx1_why_2 r_43 1 K_60 T_67 (fun r_78 =>
      wx1_isRefused r_78 K_60 T_67 (fun r_81 T_82 =>
      ((r_81 = 0 →
        wx1_scale_j70 p1 p2 p3 p4 p5 p6 Z Y post  K_60 T_82) ∧
       (¬ (r_81 = 0) →
        post (-1) T_82 (kset K_60 Z Y))))))))))))
set_option maxHeartbeats 4000000 in
theorem mx1_scale (l : Launch) (G : XG) (b : Nat) (hole : Nat → Prop) (p1 : Int32) (p2 : Int32) (p3 : Int32) (p4 : Int32) (p5 : Int32) (p6 : Int32) (K0 : XK) (T : XT) (Z Y : Nat) (hZ : kc K0 ≤ Z) (hY : ks K0 ≤ Y)  (post : Int32 → XT → XK → Prop) (h : wx1_scale p1 p2 p3 p4 p5 p6 K0 T Z Y post) : Met l yX1_scale (ws_ yX1_scale cX1_scale 7 (some .int)) ({ frames := 6, cells := (Z - kc K0), slots := (Y - ks K0), locals := 143 } : Room) (xPc G b hole [.ref (b + 0), .int p1, .int p2, .int p3, .int p4, .int p5, .int p6] K0 T) (xQ G b hole K0 (Z - kc K0) (Y - ks K0) (ρ := Int32) eI (fun r T1 K1 => post r T1 K1)) (Z - kc K0) (Y - ks K0) (xA b hole) := by
  refine Met.ofW (cc := cX1_scale) (maxL := 7) (ret := (some .int)) (by decide) rfl ?_
  intro p e s m args below meth c s₁ B hml hv
  obtain ⟨rfl, hP, hK, hV⟩ := hv
  have hx := B.exec
  have hb := B.bytes
  have hr := B.returns
  have hts := atoms_spec (ws := ws_ yX1_scale cX1_scale 7 (some .int)) B.pre
  have hts : ∀ w ∈ lw_all, w.before _ s = true := fun w h => hts w (List.mem_cons_of_mem _ h)
  have hown : s.vm.findClass RX1 = some m.cls := findClass_of_methodNamed B.named
  have hlocks := B.notSynchronized
  have hb0 : b ≤ s.heap.size := by rw [hP.2.2.2]; exact Nat.le_add_right _ _
  have hS : va_S (xA b hole) s.heap s.heap [] := va_S.rf
  have hl := lv_entry ([.ref (b + 0), .int p1, .int p2, .int p3, .int p4, .int p5, .int p6]) (n := 7) (Nat.le_of_ble_eq_true rfl)
  rw [lg_entry_eq]
  generalize (lg_sl ([.ref (b + 0), .int p1, .int p2, .int p3, .int p4, .int p5, .int p6]) ++ List.replicate (7 - (lg_sl ([.ref (b + 0), .int p1, .int p2, .int p3, .int p4, .int p5, .int p6])).length) Slot.unset).toArray = ls at hl ⊢
  have hl : lv_has ls 7 [(0, .ref (b + 0)), (1, .int p1), (2, .int p2), (3, .int p3), (4, .int p4), (5, .int p5), (6, .int p6)] := hl
  have hle0 : kle K0 K0 := kle.rf
  have J70 : ∀  (T : XT) (K : XK) (cn sn : Nat) (H : Heap) (locs : List Loc) (ls : Array Slot), wx1_scale_j70 p1 p2 p3 p4 p5 p6 Z Y post  K T → kle K0 K → kc K0 + cn = kc K → ks K0 + sn = ks K → kc K ≤ Z → ks K ≤ Y → xW G b hole K T H → va_S (xA b hole) s.heap H locs → lv_has ls 7 [(0, .ref (b + 0)), (1, .int p1), (2, .int p2), (3, .int p3), (4, .int p4), (5, .int p5), (6, .int p6)] → W p l e (headSpec (ws_ yX1_scale cX1_scale 7 (some .int)) ({ frames := 6, cells := (Z - kc K0), slots := (Y - ks K0), locals := 143 } : Room)).room s m ([.ref (b + 0), .int p1, .int p2, .int p3, .int p4, .int p5, .int p6] : List Value).toArray below meth c H locs cn sn (MQ below (xQ G b hole K0 (Z - kc K0) (Y - ks K0) (ρ := Int32) eI (fun r T1 K1 => post r T1 K1)) ([.ref (b + 0), .int p1, .int p2, .int p3, .int p4, .int p5, .int p6] : List Value).toArray s (Z - kc K0) (Y - ks K0) (xA b hole)) (F0 m 70 ls []) := by
    intro  T K cn sn H locs ls h hle0 hcn hsn hzz hyy hP hS hl
    unfold wx1_scale_j70 at h
    refine lv_aload_n hx hb dX1_scale_70 rfl (lv_at hl 0 rfl) ?_
    refine lv_iload_n hx hb dX1_scale_71 rfl (lv_at hl 2 rfl) ?_
    refine lv_if_ne (tgt := 85) hx hb dX1_scale_72 (by decide) (fun c_36 => ?_) (fun c_36 => ?_)
    · have h := h.1 c_36
      refine lv_aload_n hx hb dX1_scale_85 rfl (lv_at hl 0 rfl) ?_
      obtain ⟨hc1, hs1, h⟩ := h
      obtain ⟨K_1, eK_1⟩ : ∃ z : XK, z = knew K 2 0 3 := ⟨_, rfl⟩
      obtain ⟨T_2, eT_2⟩ : ∃ z : XT, z = xnil T (kz K) := ⟨_, rfl⟩
      have h := h K_1 eK_1 T_2 eT_2
      have hle1 : kle K K_1 := by rw [eK_1]; exact kle.new hP.2.2.1 _ _ _
      refine x_new (CC := RX6) (TT := TX6) (N := 3) (ci := 5) (kn := 2) (fs := [.null, .null, .int 0]) hx hb hts in_X6 tyX6 tyX6_ok hown q352 q356 q126 hK hP hS rfl (by decide) (by decide) (fun K1 h9 => by rw [xE_2 h9]; simp [fs2, xnil, xi, xr, va_up_self, rfv, va_rf]) (fun j hj => by rcases (show j = 0 ∨ j = 1 ∨ j = 2 by omega) with rfl | rfl | rfl <;> rfl) (by show _ + 1 ≤ Z - kc K0; omega) (by show _ + _ ≤ Y - ks K0; omega) dX1_scale_86 (fun H hP hS => ?_)
      rw [← eK_1, ← eT_2] at hP
      have hk_n1 : kd K_1 (kz K) = 2 := by rw [eK_1]; exact knew_kd
      have hle0 := hle0.tr hle1
      have hcn : kc K0 + (cn + 1) = kc K_1 := by rw [eK_1]; show _ = kc K + 1; omega
      have hsn : ks K0 + (sn + 3) = ks K_1 := by rw [eK_1]; show _ = ks K + 3; omega
      have hzz : kc K_1 ≤ Z := by rw [eK_1]; exact hc1
      have hyy : ks K_1 ≤ Y := by rw [eK_1]; exact hs1
      refine lv_dup hx hb dX1_scale_89 rfl ?_
      obtain ⟨Z_6, Y_7, hz1, hz2, hy1, hy2, h⟩ := h
      refine x_cI (k := (kz K)) (As := []) (rest := [.ref (b + (kz K)), .ref (b + 0), .ref (b + 0)]) ⟨hx, hb, hml, hown, hts⟩ (mx6_init l G b hole (kz K) K_1 T_2 Z_6 Y_7 hz1 hy1 hk_n1 _ h) (cwI 0 hts (lw_meth q359) rfl rfl rfl (hts _ q126) (hts _ q357) (hts _ q358) rfl cwx_X6_init ⟨Nat.le_of_ble_eq_true rfl, Nat.le_of_ble_eq_true rfl⟩) hK hV hb0 hP hS rfl hl.1 rfl (Nat.le_of_ble_eq_true rfl) dX1_scale_90 ⟨by first | exact Nat.zero_le _ | (show _ + _ ≤ Z - kc K0; omega), by first | exact Nat.zero_le _ | (show _ + _ ≤ Y - ks K0; omega)⟩ (fun r_3 T1 K1 H locs h hle1 hc1 hs1 hP hS => ?_)
      generalize T1 = T_4 at h hP
      generalize K1 = K_5 at h hP hle1 hc1 hs1
      have hk_n1 : kd K_5 (kz K) = 2 := hle1.kd hk_n1
      have hle0 := hle0.tr hle1
      have hcn : kc K0 + ((cn + 1) + (Z_6 - kc K_1)) = kc K_5 := by omega
      have hsn : ks K0 + ((sn + 3) + (Y_7 - ks K_1)) = ks K_5 := by omega
      have hzz : kc K_5 ≤ Z := by omega
      have hyy : ks K_5 ≤ Y := by omega
      refine lv_aload_n hx hb dX1_scale_93 rfl (lv_at hl 0 rfl) ?_
      obtain ⟨v_8, ev_8, h⟩ := h
      refine x_get (CC := RX1) (TT := TX1) (N := 26) (ci := 0) (v := rfv b (xr T_4 0 18)) hx hb hts in_X1 hown hK hP (xs_0 hP) (by decide) (by decide) rfl (xE_8 (xs_0 hP)) 18 (by decide) q405 rfl rfl dX1_scale_94 ?_
      refine x_some ev_8 ?_
      have hk_v_8 : kd K_5 v_8 = 3 := hP.ty (xs_0 hP) (by decide) ev_8
      refine lv_iload_n hx hb dX1_scale_97 rfl (lv_at hl 1 rfl) ?_
      obtain ⟨j_9, hj_9, ej_9, v_10, ev_10, h⟩ := h
      refine x_aald3 hx hb hK hP hk_v_8 ej_9 hj_9 dX1_scale_98 ?_
      refine x_some ev_10 ?_
      have hk_v_10 : kd K_5 v_10 = 2 := hP.ty hk_v_8 (by decide) ev_10
      refine lv_iload_n hx hb dX1_scale_99 rfl (lv_at hl 2 rfl) ?_
      refine lv_iload_n hx hb dX1_scale_100 rfl (lv_at hl 3 rfl) ?_
      refine lv_iload hx hb dX1_scale_101 (lv_at hl 4 rfl) ?_
      refine lv_iload hx hb dX1_scale_103 (lv_at hl 5 rfl) ?_
      refine x_cS (As := [.int p3, .int p4, .int p5]) (rest := [.int p2, .ref (b + v_10), .ref (b + (kz K)), .ref (b + 0), .ref (b + 0)]) ⟨hx, hb, hml, hown, hts⟩ (mx1_packed l G b hole p3 p4 p5 K_5 T_4  _ h) (va_cwS 3 hts (lw_S q836 q837 q118 q838) rfl rfl rfl cwx_X1_packed ⟨Nat.le_of_ble_eq_true rfl, Nat.le_of_ble_eq_true rfl⟩) hK hV hb0 hP hS rfl hl.1 rfl (Nat.le_of_ble_eq_true rfl) dX1_scale_105 ⟨by first | exact Nat.zero_le _ | (show _ + _ ≤ Z - kc K0; omega), by first | exact Nat.zero_le _ | (show _ + _ ≤ Y - ks K0; omega)⟩ (fun r_11 T1 K1 H locs h hle1 hc1 hs1 hP hS => ?_)
      obtain ⟨h, hTe, hKe⟩ := h
      rw [hTe, hKe] at hP
      obtain ⟨Z_17, Y_18, hz1, hz2, hy1, hy2, h⟩ := h
      refine x_cV (k := 0) (As := [.ref (b + (kz K)), .ref (b + v_10), .int p2, .int r_11]) (rest := [.ref (b + 0)]) ⟨hx, hb, hml, hown, hts⟩ (mx1_sum_2 l G b hole (kz K) v_10 p2 r_11 K_5 T_4 Z_17 Y_18 hz1 hy1 hk_n1 hk_v_10 _ h) (cwV 4 hts (lw_V q965 q967 qs42 q118 q968) rfl rfl rfl cwx_X1_sum_2 ⟨Nat.le_of_ble_eq_true rfl, Nat.le_of_ble_eq_true rfl⟩) (x_recv (CC := RX1) (ci := 0) hK hP (xs_0 hP) (by decide) (by decide) rfl (xE_8 (xs_0 hP))) hK hV hb0 hP hS rfl hl.1 rfl (Nat.le_of_ble_eq_true rfl) dX1_scale_108 ⟨by first | exact Nat.zero_le _ | (show _ + _ ≤ Z - kc K0; omega), by first | exact Nat.zero_le _ | (show _ + _ ≤ Y - ks K0; omega)⟩ (fun r_14 T1 K1 H locs h hle1 hc1 hs1 hP hS => ?_)
      obtain ⟨h, hk_r_14⟩ := h
      generalize T1 = T_15 at h hP
      generalize K1 = K_16 at h hP hle1 hc1 hs1 hk_r_14
      have hle0 := hle0.tr hle1
      have hcn : kc K0 + (((cn + 1) + (Z_6 - kc K_1)) + (Z_17 - kc K_5)) = kc K_16 := by omega
      have hsn : ks K0 + (((sn + 3) + (Y_7 - ks K_1)) + (Y_18 - ks K_5)) = ks K_16 := by omega
      have hzz : kc K_16 ≤ Z := by omega
      have hyy : ks K_16 ≤ Y := by omega
      refine lv_iload hx hb dX1_scale_111 (lv_at hl 6 rfl) ?_
      obtain ⟨Z_22, Y_23, hz1, hz2, hy1, hy2, h⟩ := h
      refine x_cV (k := 0) (As := [rfv b r_14, .int p6]) (rest := []) ⟨hx, hb, hml, hown, hts⟩ (mx1_lays l G b hole r_14 p6 K_16 T_15 Z_22 Y_23 hz1 hy1 hk_r_14 _ h) (cwV 2 hts (lw_V q995 q997 qs43 q118 q998) rfl rfl rfl cwx_X1_lays ⟨Nat.le_of_ble_eq_true rfl, Nat.le_of_ble_eq_true rfl⟩) (x_recv (CC := RX1) (ci := 0) hK hP (xs_0 hP) (by decide) (by decide) rfl (xE_8 (xs_0 hP))) hK hV hb0 hP hS rfl hl.1 rfl (Nat.le_of_ble_eq_true rfl) dX1_scale_113 ⟨by first | exact Nat.zero_le _ | (show _ + _ ≤ Z - kc K0; omega), by first | exact Nat.zero_le _ | (show _ + _ ≤ Y - ks K0; omega)⟩ (fun r_19 T1 K1 H locs h hle1 hc1 hs1 hP hS => ?_)
      generalize T1 = T_20 at h hP
      generalize K1 = K_21 at h hP hle1 hc1 hs1
      have hle0 := hle0.tr hle1
      have hcn : kc K0 + ((((cn + 1) + (Z_6 - kc K_1)) + (Z_17 - kc K_5)) + (Z_22 - kc K_16)) = kc K_21 := by omega
      have hsn : ks K0 + ((((sn + 3) + (Y_7 - ks K_1)) + (Y_18 - ks K_5)) + (Y_23 - ks K_16)) = ks K_21 := by omega
      have hzz : kc K_21 ≤ Z := by omega
      have hyy : ks K_21 ≤ Y := by omega
      refine W.widen (k := Z - kc K0) (n := Y - ks K0) (by omega) (by omega) ?_
      exact W.iret (v := r_19) hx hb hr (fun t ht hW => ⟨⟨r_19, T_20, (kset K_21 Z Y), rfl, h, hle0, (by show Z = _; omega), (by show Y = _; omega), by rw [ht]; exact hP, va_K.moved hW.alike hK⟩, hS.F ht⟩) hS.2.2 dX1_scale_116
    · have h := h.2 c_36
      obtain ⟨hc1, hs1, h⟩ := h
      obtain ⟨K_24, eK_24⟩ : ∃ z : XK, z = knew K 2 0 3 := ⟨_, rfl⟩
      obtain ⟨T_25, eT_25⟩ : ∃ z : XT, z = xnil T (kz K) := ⟨_, rfl⟩
      have h := h K_24 eK_24 T_25 eT_25
      have hle1 : kle K K_24 := by rw [eK_24]; exact kle.new hP.2.2.1 _ _ _
      refine x_new (CC := RX6) (TT := TX6) (N := 3) (ci := 5) (kn := 2) (fs := [.null, .null, .int 0]) hx hb hts in_X6 tyX6 tyX6_ok hown q352 q356 q126 hK hP hS rfl (by decide) (by decide) (fun K1 h9 => by rw [xE_2 h9]; simp [fs2, xnil, xi, xr, va_up_self, rfv, va_rf]) (fun j hj => by rcases (show j = 0 ∨ j = 1 ∨ j = 2 by omega) with rfl | rfl | rfl <;> rfl) (by show _ + 1 ≤ Z - kc K0; omega) (by show _ + _ ≤ Y - ks K0; omega) dX1_scale_75 (fun H hP hS => ?_)
      rw [← eK_24, ← eT_25] at hP
      have hk_n24 : kd K_24 (kz K) = 2 := by rw [eK_24]; exact knew_kd
      have hle0 := hle0.tr hle1
      have hcn : kc K0 + (cn + 1) = kc K_24 := by rw [eK_24]; show _ = kc K + 1; omega
      have hsn : ks K0 + (sn + 3) = ks K_24 := by rw [eK_24]; show _ = ks K + 3; omega
      have hzz : kc K_24 ≤ Z := by rw [eK_24]; exact hc1
      have hyy : ks K_24 ≤ Y := by rw [eK_24]; exact hs1
      refine lv_dup hx hb dX1_scale_78 rfl ?_
      obtain ⟨Z_29, Y_30, hz1, hz2, hy1, hy2, h⟩ := h
      refine x_cI (k := (kz K)) (As := []) (rest := [.ref (b + (kz K)), .ref (b + 0)]) ⟨hx, hb, hml, hown, hts⟩ (mx6_init l G b hole (kz K) K_24 T_25 Z_29 Y_30 hz1 hy1 hk_n24 _ h) (cwI 0 hts (lw_meth q359) rfl rfl rfl (hts _ q126) (hts _ q357) (hts _ q358) rfl cwx_X6_init ⟨Nat.le_of_ble_eq_true rfl, Nat.le_of_ble_eq_true rfl⟩) hK hV hb0 hP hS rfl hl.1 rfl (Nat.le_of_ble_eq_true rfl) dX1_scale_79 ⟨by first | exact Nat.zero_le _ | (show _ + _ ≤ Z - kc K0; omega), by first | exact Nat.zero_le _ | (show _ + _ ≤ Y - ks K0; omega)⟩ (fun r_26 T1 K1 H locs h hle1 hc1 hs1 hP hS => ?_)
      generalize T1 = T_27 at h hP
      generalize K1 = K_28 at h hP hle1 hc1 hs1
      have hk_n24 : kd K_28 (kz K) = 2 := hle1.kd hk_n24
      have hle0 := hle0.tr hle1
      have hcn : kc K0 + ((cn + 1) + (Z_29 - kc K_24)) = kc K_28 := by omega
      have hsn : ks K0 + ((sn + 3) + (Y_30 - ks K_24)) = ks K_28 := by omega
      have hzz : kc K_28 ≤ Z := by omega
      have hyy : ks K_28 ≤ Y := by omega
      refine lv_goto (tgt := 111) hx hb dX1_scale_82 (by decide) ?_
      refine lv_iload hx hb dX1_scale_111 (lv_at hl 6 rfl) ?_
      obtain ⟨Z_34, Y_35, hz1, hz2, hy1, hy2, h⟩ := h
      refine x_cV (k := 0) (As := [.ref (b + (kz K)), .int p6]) (rest := []) ⟨hx, hb, hml, hown, hts⟩ (mx1_lays l G b hole (some (kz K)) p6 K_28 T_27 Z_34 Y_35 hz1 hy1 (fun _ e9 => by cases e9; exact hk_n24) _ h) (cwV 2 hts (lw_V q995 q997 qs43 q118 q998) rfl rfl rfl cwx_X1_lays ⟨Nat.le_of_ble_eq_true rfl, Nat.le_of_ble_eq_true rfl⟩) (x_recv (CC := RX1) (ci := 0) hK hP (xs_0 hP) (by decide) (by decide) rfl (xE_8 (xs_0 hP))) hK hV hb0 hP hS rfl hl.1 rfl (Nat.le_of_ble_eq_true rfl) dX1_scale_113 ⟨by first | exact Nat.zero_le _ | (show _ + _ ≤ Z - kc K0; omega), by first | exact Nat.zero_le _ | (show _ + _ ≤ Y - ks K0; omega)⟩ (fun r_31 T1 K1 H locs h hle1 hc1 hs1 hP hS => ?_)
      generalize T1 = T_32 at h hP
      generalize K1 = K_33 at h hP hle1 hc1 hs1
      have hle0 := hle0.tr hle1
      have hcn : kc K0 + (((cn + 1) + (Z_29 - kc K_24)) + (Z_34 - kc K_28)) = kc K_33 := by omega
      have hsn : ks K0 + (((sn + 3) + (Y_30 - ks K_24)) + (Y_35 - ks K_28)) = ks K_33 := by omega
      have hzz : kc K_33 ≤ Z := by omega
      have hyy : ks K_33 ≤ Y := by omega
      refine W.widen (k := Z - kc K0) (n := Y - ks K0) (by omega) (by omega) ?_
      exact W.iret (v := r_31) hx hb hr (fun t ht hW => ⟨⟨r_31, T_32, (kset K_33 Z Y), rfl, h, hle0, (by show Z = _; omega), (by show Y = _; omega), by rw [ht]; exact hP, va_K.moved hW.alike hK⟩, hS.F ht⟩) hS.2.2 dX1_scale_116
  have hcn : kc K0 + 0 = kc K0 := rfl
  have hsn : ks K0 + 0 = ks K0 := rfl
  have hzz := hZ
  have hyy := hY
  unfold wx1_scale at h
  refine lv_aload_n hx hb dX1_scale_0 rfl (lv_at hl 0 rfl) ?_
  refine lv_aload_n hx hb dX1_scale_1 rfl (lv_at hl 0 rfl) ?_
  refine lv_iconst (v := 2) hx hb dX1_scale_2 (by decide) ?_
  obtain ⟨hc1, hs1, h⟩ := h
  obtain ⟨K_37, eK_37⟩ : ∃ z : XK, z = knew K0 1 2 2 := ⟨_, rfl⟩
  obtain ⟨T_38, eT_38⟩ : ∃ z : XT, z = xnil T (kz K0) := ⟨_, rfl⟩
  have h := h K_37 eK_37 T_38 eT_38
  have hle1 : kle K0 K_37 := by rw [eK_37]; exact kle.new hP.2.2.1 _ _ _
  refine x_newai (N := 2) hx hb hts q170 hK hP hS (by decide) (by decide) (by show _ + 1 ≤ Z - kc K0; omega) (by show _ + _ ≤ Y - ks K0; omega) dX1_scale_3 (fun H hP hS => ?_)
  rw [← eK_37, ← eT_38] at hP
  have hk_n37 : kd K_37 (kz K0) = 1 := by rw [eK_37]; exact knew_kd
  have hle0 := hle0.tr hle1
  have hcn : kc K0 + (0 + 1) = kc K_37 := by rw [eK_37]; show _ = kc K0 + 1; omega
  have hsn : ks K0 + (0 + 2) = ks K_37 := by rw [eK_37]; show _ = ks K0 + 2; omega
  have hzz : kc K_37 ≤ Z := by rw [eK_37]; exact hc1
  have hyy : ks K_37 ≤ Y := by rw [eK_37]; exact hs1
  refine lv_dup hx hb dX1_scale_5 rfl ?_
  refine lv_iconst (v := 0) hx hb dX1_scale_6 (by decide) ?_
  refine lv_iload_n hx hb dX1_scale_7 rfl (lv_at hl 1 rfl) ?_
  obtain ⟨j_39, hj_39, ej_39, h⟩ := h
  obtain ⟨T_40, eT_40⟩ : ∃ z : XT, z = xwi T_38 (kz K0) j_39 p1 := ⟨_, rfl⟩
  have h := h T_40 eT_40
  refine x_iast hx hb hK hP hS hk_n37 ej_39 hj_39 dX1_scale_8 (fun H locs hP hS => ?_)
  rw [← eT_40] at hP
  refine lv_dup hx hb dX1_scale_9 rfl ?_
  refine lv_iconst (v := 1) hx hb dX1_scale_10 (by decide) ?_
  refine lv_iload hx hb dX1_scale_11 (lv_at hl 6 rfl) ?_
  obtain ⟨j_41, hj_41, ej_41, h⟩ := h
  obtain ⟨T_42, eT_42⟩ : ∃ z : XT, z = xwi T_40 (kz K0) j_41 p6 := ⟨_, rfl⟩
  have h := h T_42 eT_42
  refine x_iast hx hb hK hP hS hk_n37 ej_41 hj_41 dX1_scale_13 (fun H locs hP hS => ?_)
  rw [← eT_42] at hP
  refine x_cS (As := [.ref (b + (kz K0))]) (rest := [.ref (b + 0), .ref (b + 0)]) ⟨hx, hb, hml, hown, hts⟩ (mx1_is l G b hole (kz K0) K_37 T_42 hk_n37 _ h) (va_cwS 1 hts (lw_S q793 q794 q118 q795) rfl rfl rfl cwx_X1_is ⟨Nat.le_of_ble_eq_true rfl, Nat.le_of_ble_eq_true rfl⟩) hK hV hb0 hP hS rfl hl.1 rfl (Nat.le_of_ble_eq_true rfl) dX1_scale_14 ⟨by first | exact Nat.zero_le _ | (show _ + _ ≤ Z - kc K0; omega), by first | exact Nat.zero_le _ | (show _ + _ ≤ Y - ks K0; omega)⟩ (fun r_43 T1 K1 H locs h hle1 hc1 hs1 hP hS => ?_)
  obtain ⟨h, hTe, hKe⟩ := h
  rw [hTe, hKe] at hP
  refine lv_aload_n hx hb dX1_scale_17 rfl (lv_at hl 0 rfl) ?_
  refine lv_iconst (v := 1) hx hb dX1_scale_18 (by decide) ?_
  obtain ⟨hc1, hs1, h⟩ := h
  obtain ⟨K_46, eK_46⟩ : ∃ z : XK, z = knew K_37 1 1 1 := ⟨_, rfl⟩
  obtain ⟨T_47, eT_47⟩ : ∃ z : XT, z = xnil T_42 (kz K_37) := ⟨_, rfl⟩
  have h := h K_46 eK_46 T_47 eT_47
  have hle1 : kle K_37 K_46 := by rw [eK_46]; exact kle.new hP.2.2.1 _ _ _
  refine x_newai (N := 1) hx hb hts q170 hK hP hS (by decide) (by decide) (by show _ + 1 ≤ Z - kc K0; omega) (by show _ + _ ≤ Y - ks K0; omega) dX1_scale_19 (fun H hP hS => ?_)
  rw [← eK_46, ← eT_47] at hP
  have hk_n46 : kd K_46 (kz K_37) = 1 := by rw [eK_46]; exact knew_kd
  have hle0 := hle0.tr hle1
  have hcn : kc K0 + ((0 + 1) + 1) = kc K_46 := by rw [eK_46]; show _ = kc K_37 + 1; omega
  have hsn : ks K0 + ((0 + 2) + 1) = ks K_46 := by rw [eK_46]; show _ = ks K_37 + 1; omega
  have hzz : kc K_46 ≤ Z := by rw [eK_46]; exact hc1
  have hyy : ks K_46 ≤ Y := by rw [eK_46]; exact hs1
  refine lv_dup hx hb dX1_scale_21 rfl ?_
  refine lv_iconst (v := 0) hx hb dX1_scale_22 (by decide) ?_
  refine lv_iload_n hx hb dX1_scale_23 rfl (lv_at hl 2 rfl) ?_
  obtain ⟨j_48, hj_48, ej_48, h⟩ := h
  obtain ⟨T_49, eT_49⟩ : ∃ z : XT, z = xwi T_47 (kz K_37) j_48 p2 := ⟨_, rfl⟩
  have h := h T_49 eT_49
  refine x_iast hx hb hK hP hS hk_n46 ej_48 hj_48 dX1_scale_24 (fun H locs hP hS => ?_)
  rw [← eT_49] at hP
  refine x_cV (k := 0) (As := [.ref (b + (kz K_37))]) (rest := [.int r_43, .ref (b + 0), .ref (b + 0)]) ⟨hx, hb, hml, hown, hts⟩ (mx1_areValues l G b hole (kz K_37) K_46 T_49 hk_n46 _ h) (cwV 1 hts (lw_V q843 q845 qs29 q118 q846) rfl rfl rfl cwx_X1_areValues ⟨Nat.le_of_ble_eq_true rfl, Nat.le_of_ble_eq_true rfl⟩) (x_recv (CC := RX1) (ci := 0) hK hP (xs_0 hP) (by decide) (by decide) rfl (xE_8 (xs_0 hP))) hK hV hb0 hP hS rfl hl.1 rfl (Nat.le_of_ble_eq_true rfl) dX1_scale_25 ⟨by first | exact Nat.zero_le _ | (show _ + _ ≤ Z - kc K0; omega), by first | exact Nat.zero_le _ | (show _ + _ ≤ Y - ks K0; omega)⟩ (fun r_50 T1 K1 H locs h hle1 hc1 hs1 hP hS => ?_)
  obtain ⟨h, hTe, hKe⟩ := h
  rw [hTe, hKe] at hP
  refine lv_if_eq (tgt := 58) hx hb dX1_scale_28 (by decide) (fun c_86 => ?_) (fun c_86 => ?_)
  · have h := h.1 c_86
    refine lv_iconst (v := 0) hx hb dX1_scale_58 (by decide) ?_
    refine x_cV (k := 0) (As := [.int r_43, .int 0]) (rest := [.ref (b + 0)]) ⟨hx, hb, hml, hown, hts⟩ (mx1_why_2 l G b hole r_43 0 K_46 T_49  _ h) (cwV 2 hts (lw_V q773 q775 qs25 q118 q776) rfl rfl rfl cwx_X1_why_2 ⟨Nat.le_of_ble_eq_true rfl, Nat.le_of_ble_eq_true rfl⟩) (x_recv (CC := RX1) (ci := 0) hK hP (xs_0 hP) (by decide) (by decide) rfl (xE_8 (xs_0 hP))) hK hV hb0 hP hS rfl hl.1 rfl (Nat.le_of_ble_eq_true rfl) dX1_scale_59 ⟨by first | exact Nat.zero_le _ | (show _ + _ ≤ Z - kc K0; omega), by first | exact Nat.zero_le _ | (show _ + _ ≤ Y - ks K0; omega)⟩ (fun r_53 T1 K1 H locs h hle1 hc1 hs1 hP hS => ?_)
    obtain ⟨h, hTe, hKe⟩ := h
    rw [hTe, hKe] at hP
    refine x_cV (k := 0) (As := [.int r_53]) (rest := []) ⟨hx, hb, hml, hown, hts⟩ (mx1_isRefused l G b hole r_53 K_46 T_49  _ h) (cwV 1 hts (lw_V q777 q779 qs26 q118 q780) rfl rfl rfl cwx_X1_isRefused ⟨Nat.le_of_ble_eq_true rfl, Nat.le_of_ble_eq_true rfl⟩) (x_recv (CC := RX1) (ci := 0) hK hP (xs_0 hP) (by decide) (by decide) rfl (xE_8 (xs_0 hP))) hK hV hb0 hP hS rfl hl.1 rfl (Nat.le_of_ble_eq_true rfl) dX1_scale_62 ⟨by first | exact Nat.zero_le _ | (show _ + _ ≤ Z - kc K0; omega), by first | exact Nat.zero_le _ | (show _ + _ ≤ Y - ks K0; omega)⟩ (fun r_56 T1 K1 H locs h hle1 hc1 hs1 hP hS => ?_)
    obtain ⟨h, hKe⟩ := h
    rw [hKe] at hP
    generalize T1 = T_57 at h hP
    refine lv_if_eq (tgt := 70) hx hb dX1_scale_65 (by decide) (fun c_59 => ?_) (fun c_59 => ?_)
    · have h := h.1 c_59
      exact J70 _ _ _ _ _ _ _ h hle0 hcn hsn hzz hyy hP hS (lv_sub hl [0, 1, 2, 3, 4, 5, 6] rfl)
    · have h := h.2 c_59
      refine lv_iconst (v := (-1)) hx hb dX1_scale_68 (by decide) ?_
      refine W.widen (k := Z - kc K0) (n := Y - ks K0) (by omega) (by omega) ?_
      exact W.iret (v := (-1)) hx hb hr (fun t ht hW => ⟨⟨(-1), T_57, (kset K_46 Z Y), rfl, h, hle0, (by show Z = _; omega), (by show Y = _; omega), by rw [ht]; exact hP, va_K.moved hW.alike hK⟩, hS.F ht⟩) hS.2.2 dX1_scale_69
  · have h := h.2 c_86
    refine lv_iconst (v := 3) hx hb dX1_scale_31 (by decide) ?_
    obtain ⟨hc1, hs1, h⟩ := h
    obtain ⟨K_60, eK_60⟩ : ∃ z : XK, z = knew K_46 1 3 3 := ⟨_, rfl⟩
    obtain ⟨T_61, eT_61⟩ : ∃ z : XT, z = xnil T_49 (kz K_46) := ⟨_, rfl⟩
    have h := h K_60 eK_60 T_61 eT_61
    have hle1 : kle K_46 K_60 := by rw [eK_60]; exact kle.new hP.2.2.1 _ _ _
    refine x_newai (N := 3) hx hb hts q170 hK hP hS (by decide) (by decide) (by show _ + 1 ≤ Z - kc K0; omega) (by show _ + _ ≤ Y - ks K0; omega) dX1_scale_32 (fun H hP hS => ?_)
    rw [← eK_60, ← eT_61] at hP
    have hk_n60 : kd K_60 (kz K_46) = 1 := by rw [eK_60]; exact knew_kd
    have hle0 := hle0.tr hle1
    have hcn : kc K0 + (((0 + 1) + 1) + 1) = kc K_60 := by rw [eK_60]; show _ = kc K_46 + 1; omega
    have hsn : ks K0 + (((0 + 2) + 1) + 3) = ks K_60 := by rw [eK_60]; show _ = ks K_46 + 3; omega
    have hzz : kc K_60 ≤ Z := by rw [eK_60]; exact hc1
    have hyy : ks K_60 ≤ Y := by rw [eK_60]; exact hs1
    refine lv_dup hx hb dX1_scale_34 rfl ?_
    refine lv_iconst (v := 0) hx hb dX1_scale_35 (by decide) ?_
    refine lv_iload_n hx hb dX1_scale_36 rfl (lv_at hl 3 rfl) ?_
    obtain ⟨j_62, hj_62, ej_62, h⟩ := h
    obtain ⟨T_63, eT_63⟩ : ∃ z : XT, z = xwi T_61 (kz K_46) j_62 p3 := ⟨_, rfl⟩
    have h := h T_63 eT_63
    refine x_iast hx hb hK hP hS hk_n60 ej_62 hj_62 dX1_scale_37 (fun H locs hP hS => ?_)
    rw [← eT_63] at hP
    refine lv_dup hx hb dX1_scale_38 rfl ?_
    refine lv_iconst (v := 1) hx hb dX1_scale_39 (by decide) ?_
    refine lv_iload hx hb dX1_scale_40 (lv_at hl 4 rfl) ?_
    obtain ⟨j_64, hj_64, ej_64, h⟩ := h
    obtain ⟨T_65, eT_65⟩ : ∃ z : XT, z = xwi T_63 (kz K_46) j_64 p4 := ⟨_, rfl⟩
    have h := h T_65 eT_65
    refine x_iast hx hb hK hP hS hk_n60 ej_64 hj_64 dX1_scale_42 (fun H locs hP hS => ?_)
    rw [← eT_65] at hP
    refine lv_dup hx hb dX1_scale_43 rfl ?_
    refine lv_iconst (v := 2) hx hb dX1_scale_44 (by decide) ?_
    refine lv_iload hx hb dX1_scale_45 (lv_at hl 5 rfl) ?_
    obtain ⟨j_66, hj_66, ej_66, h⟩ := h
    obtain ⟨T_67, eT_67⟩ : ∃ z : XT, z = xwi T_65 (kz K_46) j_66 p5 := ⟨_, rfl⟩
    have h := h T_67 eT_67
    refine x_iast hx hb hK hP hS hk_n60 ej_66 hj_66 dX1_scale_47 (fun H locs hP hS => ?_)
    rw [← eT_67] at hP
    refine x_cS (As := [.ref (b + (kz K_46))]) (rest := [.int r_43, .ref (b + 0), .ref (b + 0)]) ⟨hx, hb, hml, hown, hts⟩ (mx1_areExponents l G b hole (kz K_46) K_60 T_67 hk_n60 _ h) (va_cwS 1 hts (lw_S q828 q829 q118 q830) rfl rfl rfl cwx_X1_areExponents ⟨Nat.le_of_ble_eq_true rfl, Nat.le_of_ble_eq_true rfl⟩) hK hV hb0 hP hS rfl hl.1 rfl (Nat.le_of_ble_eq_true rfl) dX1_scale_48 ⟨by first | exact Nat.zero_le _ | (show _ + _ ≤ Z - kc K0; omega), by first | exact Nat.zero_le _ | (show _ + _ ≤ Y - ks K0; omega)⟩ (fun r_68 T1 K1 H locs h hle1 hc1 hs1 hP hS => ?_)
    obtain ⟨h, hTe, hKe⟩ := h
    rw [hTe, hKe] at hP
    refine lv_if_eq (tgt := 58) hx hb dX1_scale_51 (by decide) (fun c_85 => ?_) (fun c_85 => ?_)
    · have h := h.1 c_85
      refine lv_iconst (v := 0) hx hb dX1_scale_58 (by decide) ?_
      refine x_cV (k := 0) (As := [.int r_43, .int 0]) (rest := [.ref (b + 0)]) ⟨hx, hb, hml, hown, hts⟩ (mx1_why_2 l G b hole r_43 0 K_60 T_67  _ h) (cwV 2 hts (lw_V q773 q775 qs25 q118 q776) rfl rfl rfl cwx_X1_why_2 ⟨Nat.le_of_ble_eq_true rfl, Nat.le_of_ble_eq_true rfl⟩) (x_recv (CC := RX1) (ci := 0) hK hP (xs_0 hP) (by decide) (by decide) rfl (xE_8 (xs_0 hP))) hK hV hb0 hP hS rfl hl.1 rfl (Nat.le_of_ble_eq_true rfl) dX1_scale_59 ⟨by first | exact Nat.zero_le _ | (show _ + _ ≤ Z - kc K0; omega), by first | exact Nat.zero_le _ | (show _ + _ ≤ Y - ks K0; omega)⟩ (fun r_71 T1 K1 H locs h hle1 hc1 hs1 hP hS => ?_)
      obtain ⟨h, hTe, hKe⟩ := h
      rw [hTe, hKe] at hP
      refine x_cV (k := 0) (As := [.int r_71]) (rest := []) ⟨hx, hb, hml, hown, hts⟩ (mx1_isRefused l G b hole r_71 K_60 T_67  _ h) (cwV 1 hts (lw_V q777 q779 qs26 q118 q780) rfl rfl rfl cwx_X1_isRefused ⟨Nat.le_of_ble_eq_true rfl, Nat.le_of_ble_eq_true rfl⟩) (x_recv (CC := RX1) (ci := 0) hK hP (xs_0 hP) (by decide) (by decide) rfl (xE_8 (xs_0 hP))) hK hV hb0 hP hS rfl hl.1 rfl (Nat.le_of_ble_eq_true rfl) dX1_scale_62 ⟨by first | exact Nat.zero_le _ | (show _ + _ ≤ Z - kc K0; omega), by first | exact Nat.zero_le _ | (show _ + _ ≤ Y - ks K0; omega)⟩ (fun r_74 T1 K1 H locs h hle1 hc1 hs1 hP hS => ?_)
      obtain ⟨h, hKe⟩ := h
      rw [hKe] at hP
      generalize T1 = T_75 at h hP
      refine lv_if_eq (tgt := 70) hx hb dX1_scale_65 (by decide) (fun c_77 => ?_) (fun c_77 => ?_)
      · have h := h.1 c_77
        exact J70 _ _ _ _ _ _ _ h hle0 hcn hsn hzz hyy hP hS (lv_sub hl [0, 1, 2, 3, 4, 5, 6] rfl)
      · have h := h.2 c_77
        refine lv_iconst (v := (-1)) hx hb dX1_scale_68 (by decide) ?_
        refine W.widen (k := Z - kc K0) (n := Y - ks K0) (by omega) (by omega) ?_
        exact W.iret (v := (-1)) hx hb hr (fun t ht hW => ⟨⟨(-1), T_75, (kset K_60 Z Y), rfl, h, hle0, (by show Z = _; omega), (by show Y = _; omega), by rw [ht]; exact hP, va_K.moved hW.alike hK⟩, hS.F ht⟩) hS.2.2 dX1_scale_69
    · have h := h.2 c_85
      refine lv_iconst (v := 1) hx hb dX1_scale_54 (by decide) ?_
      refine lv_goto (tgt := 59) hx hb dX1_scale_55 (by decide) ?_
      refine x_cV (k := 0) (As := [.int r_43, .int 1]) (rest := [.ref (b + 0)]) ⟨hx, hb, hml, hown, hts⟩ (mx1_why_2 l G b hole r_43 1 K_60 T_67  _ h) (cwV 2 hts (lw_V q773 q775 qs25 q118 q776) rfl rfl rfl cwx_X1_why_2 ⟨Nat.le_of_ble_eq_true rfl, Nat.le_of_ble_eq_true rfl⟩) (x_recv (CC := RX1) (ci := 0) hK hP (xs_0 hP) (by decide) (by decide) rfl (xE_8 (xs_0 hP))) hK hV hb0 hP hS rfl hl.1 rfl (Nat.le_of_ble_eq_true rfl) dX1_scale_59 ⟨by first | exact Nat.zero_le _ | (show _ + _ ≤ Z - kc K0; omega), by first | exact Nat.zero_le _ | (show _ + _ ≤ Y - ks K0; omega)⟩ (fun r_78 T1 K1 H locs h hle1 hc1 hs1 hP hS => ?_)
      obtain ⟨h, hTe, hKe⟩ := h
      rw [hTe, hKe] at hP
      refine x_cV (k := 0) (As := [.int r_78]) (rest := []) ⟨hx, hb, hml, hown, hts⟩ (mx1_isRefused l G b hole r_78 K_60 T_67  _ h) (cwV 1 hts (lw_V q777 q779 qs26 q118 q780) rfl rfl rfl cwx_X1_isRefused ⟨Nat.le_of_ble_eq_true rfl, Nat.le_of_ble_eq_true rfl⟩) (x_recv (CC := RX1) (ci := 0) hK hP (xs_0 hP) (by decide) (by decide) rfl (xE_8 (xs_0 hP))) hK hV hb0 hP hS rfl hl.1 rfl (Nat.le_of_ble_eq_true rfl) dX1_scale_62 ⟨by first | exact Nat.zero_le _ | (show _ + _ ≤ Z - kc K0; omega), by first | exact Nat.zero_le _ | (show _ + _ ≤ Y - ks K0; omega)⟩ (fun r_81 T1 K1 H locs h hle1 hc1 hs1 hP hS => ?_)
      obtain ⟨h, hKe⟩ := h
      rw [hKe] at hP
      generalize T1 = T_82 at h hP
      refine lv_if_eq (tgt := 70) hx hb dX1_scale_65 (by decide) (fun c_84 => ?_) (fun c_84 => ?_)
      · have h := h.1 c_84
        exact J70 _ _ _ _ _ _ _ h hle0 hcn hsn hzz hyy hP hS (lv_sub hl [0, 1, 2, 3, 4, 5, 6] rfl)
      · have h := h.2 c_84
        refine lv_iconst (v := (-1)) hx hb dX1_scale_68 (by decide) ?_
        refine W.widen (k := Z - kc K0) (n := Y - ks K0) (by omega) (by omega) ?_
        exact W.iret (v := (-1)) hx hb hr (fun t ht hW => ⟨⟨(-1), T_82, (kset K_60 Z Y), rfl, h, hle0, (by show Z = _; omega), (by show Y = _; omega), by rw [ht]; exact hP, va_K.moved hW.alike hK⟩, hS.F ht⟩) hS.2.2 dX1_scale_69
theorem cwx_X1_monic_2 : yX1_monic_2.cls = RX1 ∧ yX1_monic_2.cls ≠ "java/lang/invoke/MethodHandle" ∧ yX1_monic_2.cls ≠ "java/lang/invoke/VarHandle" ∧ (parseMethodDescriptor yX1_monic_2.desc).map (fun d => d.parameters.length) = some 2 := by decide +kernel
def wx1_monic_2 (p1 : Int32) (p2 : Int32) (K0 : XK) (T : XT) (Z Y : Nat) (post : Int32 → XT → XK → Prop) : Prop :=
  kc K0 + 1 ≤ Z ∧ ks K0 + 2 ≤ Y ∧ ∀ K_1 : XK, K_1 = knew K0 1 2 2 → ∀ T_2 : XT, T_2 = xnil T (kz K0) →
  ∃ j_3 : Nat, j_3 < kl K_1 (kz K0) ∧ 0 = nI j_3 ∧ ∀ T_4 : XT, T_4 = xwi T_2 (kz K0) j_3 p1 →
  ∃ j_5 : Nat, j_5 < kl K_1 (kz K0) ∧ 1 = nI j_5 ∧ ∀ T_6 : XT, T_6 = xwi T_4 (kz K0) j_5 p2 →
  wx1_is (kz K0) K_1 T_6 (fun r_7 =>
  wx1_why r_7 K_1 T_6 (fun r_10 =>
  wx1_isRefused r_10 K_1 T_6 (fun r_13 T_14 =>
  ((r_13 = 0 →
    ∃ v_16 : Nat, xr T_14 0 18 = some v_16 ∧
    ∃ j_17 : Nat, j_17 < kl K_1 v_16 ∧ p1 = nI j_17 ∧ ∃ v_18 : Nat, xr T_14 v_16 j_17 = some v_18 ∧
    ∃ Z_22 Y_23 : Nat, kc K_1 ≤ Z_22 ∧ Z_22 ≤ Z ∧ ks K_1 ≤ Y_23 ∧ Y_23 ≤ Y ∧ wx1_monic v_18 K_1 T_14 Z_22 Y_23 (fun r_19 T_20 K_21 =>
    ∃ Z_27 Y_28 : Nat, kc K_21 ≤ Z_27 ∧ Z_27 ≤ Z ∧ ks K_21 ≤ Y_28 ∧ Y_28 ≤ Y ∧ wx1_lays (some r_19) p2 K_21 T_20 Z_27 Y_28 (fun r_24 T_25 K_26 =>
    post r_24 T_25 (kset K_26 Z Y)))) ∧
   (¬ (r_13 = 0) →
    post (-1) T_14 (kset K_1 Z Y))))))
set_option maxHeartbeats 4000000 in
theorem mx1_monic_2 (l : Launch) (G : XG) (b : Nat) (hole : Nat → Prop) (p1 : Int32) (p2 : Int32) (K0 : XK) (T : XT) (Z Y : Nat) (hZ : kc K0 ≤ Z) (hY : ks K0 ≤ Y)  (post : Int32 → XT → XK → Prop) (h : wx1_monic_2 p1 p2 K0 T Z Y post) : Met l yX1_monic_2 (ws_ yX1_monic_2 cX1_monic_2 3 (some .int)) ({ frames := 8, cells := (Z - kc K0), slots := (Y - ks K0), locals := 186 } : Room) (xPc G b hole [.ref (b + 0), .int p1, .int p2] K0 T) (xQ G b hole K0 (Z - kc K0) (Y - ks K0) (ρ := Int32) eI (fun r T1 K1 => post r T1 K1)) (Z - kc K0) (Y - ks K0) (xA b hole) := by
  refine Met.ofW (cc := cX1_monic_2) (maxL := 3) (ret := (some .int)) (by decide) rfl ?_
  intro p e s m args below meth c s₁ B hml hv
  obtain ⟨rfl, hP, hK, hV⟩ := hv
  have hx := B.exec
  have hb := B.bytes
  have hr := B.returns
  have hts := atoms_spec (ws := ws_ yX1_monic_2 cX1_monic_2 3 (some .int)) B.pre
  have hts : ∀ w ∈ lw_all, w.before _ s = true := fun w h => hts w (List.mem_cons_of_mem _ h)
  have hown : s.vm.findClass RX1 = some m.cls := findClass_of_methodNamed B.named
  have hlocks := B.notSynchronized
  have hb0 : b ≤ s.heap.size := by rw [hP.2.2.2]; exact Nat.le_add_right _ _
  have hS : va_S (xA b hole) s.heap s.heap [] := va_S.rf
  have hl := lv_entry ([.ref (b + 0), .int p1, .int p2]) (n := 3) (Nat.le_of_ble_eq_true rfl)
  rw [lg_entry_eq]
  generalize (lg_sl ([.ref (b + 0), .int p1, .int p2]) ++ List.replicate (3 - (lg_sl ([.ref (b + 0), .int p1, .int p2])).length) Slot.unset).toArray = ls at hl ⊢
  have hl : lv_has ls 3 [(0, .ref (b + 0)), (1, .int p1), (2, .int p2)] := hl
  have hle0 : kle K0 K0 := kle.rf
  have hcn : kc K0 + 0 = kc K0 := rfl
  have hsn : ks K0 + 0 = ks K0 := rfl
  have hzz := hZ
  have hyy := hY
  unfold wx1_monic_2 at h
  refine lv_aload_n hx hb dX1_monic_2_0 rfl (lv_at hl 0 rfl) ?_
  refine lv_aload_n hx hb dX1_monic_2_1 rfl (lv_at hl 0 rfl) ?_
  refine lv_iconst (v := 2) hx hb dX1_monic_2_2 (by decide) ?_
  obtain ⟨hc1, hs1, h⟩ := h
  obtain ⟨K_1, eK_1⟩ : ∃ z : XK, z = knew K0 1 2 2 := ⟨_, rfl⟩
  obtain ⟨T_2, eT_2⟩ : ∃ z : XT, z = xnil T (kz K0) := ⟨_, rfl⟩
  have h := h K_1 eK_1 T_2 eT_2
  have hle1 : kle K0 K_1 := by rw [eK_1]; exact kle.new hP.2.2.1 _ _ _
  refine x_newai (N := 2) hx hb hts q170 hK hP hS (by decide) (by decide) (by show _ + 1 ≤ Z - kc K0; omega) (by show _ + _ ≤ Y - ks K0; omega) dX1_monic_2_3 (fun H hP hS => ?_)
  rw [← eK_1, ← eT_2] at hP
  have hk_n1 : kd K_1 (kz K0) = 1 := by rw [eK_1]; exact knew_kd
  have hle0 := hle0.tr hle1
  have hcn : kc K0 + (0 + 1) = kc K_1 := by rw [eK_1]; show _ = kc K0 + 1; omega
  have hsn : ks K0 + (0 + 2) = ks K_1 := by rw [eK_1]; show _ = ks K0 + 2; omega
  have hzz : kc K_1 ≤ Z := by rw [eK_1]; exact hc1
  have hyy : ks K_1 ≤ Y := by rw [eK_1]; exact hs1
  refine lv_dup hx hb dX1_monic_2_5 rfl ?_
  refine lv_iconst (v := 0) hx hb dX1_monic_2_6 (by decide) ?_
  refine lv_iload_n hx hb dX1_monic_2_7 rfl (lv_at hl 1 rfl) ?_
  obtain ⟨j_3, hj_3, ej_3, h⟩ := h
  obtain ⟨T_4, eT_4⟩ : ∃ z : XT, z = xwi T_2 (kz K0) j_3 p1 := ⟨_, rfl⟩
  have h := h T_4 eT_4
  refine x_iast hx hb hK hP hS hk_n1 ej_3 hj_3 dX1_monic_2_8 (fun H locs hP hS => ?_)
  rw [← eT_4] at hP
  refine lv_dup hx hb dX1_monic_2_9 rfl ?_
  refine lv_iconst (v := 1) hx hb dX1_monic_2_10 (by decide) ?_
  refine lv_iload_n hx hb dX1_monic_2_11 rfl (lv_at hl 2 rfl) ?_
  obtain ⟨j_5, hj_5, ej_5, h⟩ := h
  obtain ⟨T_6, eT_6⟩ : ∃ z : XT, z = xwi T_4 (kz K0) j_5 p2 := ⟨_, rfl⟩
  have h := h T_6 eT_6
  refine x_iast hx hb hK hP hS hk_n1 ej_5 hj_5 dX1_monic_2_12 (fun H locs hP hS => ?_)
  rw [← eT_6] at hP
  refine x_cS (As := [.ref (b + (kz K0))]) (rest := [.ref (b + 0), .ref (b + 0)]) ⟨hx, hb, hml, hown, hts⟩ (mx1_is l G b hole (kz K0) K_1 T_6 hk_n1 _ h) (va_cwS 1 hts (lw_S q793 q794 q118 q795) rfl rfl rfl cwx_X1_is ⟨Nat.le_of_ble_eq_true rfl, Nat.le_of_ble_eq_true rfl⟩) hK hV hb0 hP hS rfl hl.1 rfl (Nat.le_of_ble_eq_true rfl) dX1_monic_2_13 ⟨by first | exact Nat.zero_le _ | (show _ + _ ≤ Z - kc K0; omega), by first | exact Nat.zero_le _ | (show _ + _ ≤ Y - ks K0; omega)⟩ (fun r_7 T1 K1 H locs h hle1 hc1 hs1 hP hS => ?_)
  obtain ⟨h, hTe, hKe⟩ := h
  rw [hTe, hKe] at hP
  refine x_cV (k := 0) (As := [.int r_7]) (rest := [.ref (b + 0)]) ⟨hx, hb, hml, hown, hts⟩ (mx1_why l G b hole r_7 K_1 T_6  _ h) (cwV 1 hts (lw_V q769 q771 qs24 q118 q772) rfl rfl rfl cwx_X1_why ⟨Nat.le_of_ble_eq_true rfl, Nat.le_of_ble_eq_true rfl⟩) (x_recv (CC := RX1) (ci := 0) hK hP (xs_0 hP) (by decide) (by decide) rfl (xE_8 (xs_0 hP))) hK hV hb0 hP hS rfl hl.1 rfl (Nat.le_of_ble_eq_true rfl) dX1_monic_2_16 ⟨by first | exact Nat.zero_le _ | (show _ + _ ≤ Z - kc K0; omega), by first | exact Nat.zero_le _ | (show _ + _ ≤ Y - ks K0; omega)⟩ (fun r_10 T1 K1 H locs h hle1 hc1 hs1 hP hS => ?_)
  obtain ⟨h, hTe, hKe⟩ := h
  rw [hTe, hKe] at hP
  refine x_cV (k := 0) (As := [.int r_10]) (rest := []) ⟨hx, hb, hml, hown, hts⟩ (mx1_isRefused l G b hole r_10 K_1 T_6  _ h) (cwV 1 hts (lw_V q777 q779 qs26 q118 q780) rfl rfl rfl cwx_X1_isRefused ⟨Nat.le_of_ble_eq_true rfl, Nat.le_of_ble_eq_true rfl⟩) (x_recv (CC := RX1) (ci := 0) hK hP (xs_0 hP) (by decide) (by decide) rfl (xE_8 (xs_0 hP))) hK hV hb0 hP hS rfl hl.1 rfl (Nat.le_of_ble_eq_true rfl) dX1_monic_2_19 ⟨by first | exact Nat.zero_le _ | (show _ + _ ≤ Z - kc K0; omega), by first | exact Nat.zero_le _ | (show _ + _ ≤ Y - ks K0; omega)⟩ (fun r_13 T1 K1 H locs h hle1 hc1 hs1 hP hS => ?_)
  obtain ⟨h, hKe⟩ := h
  rw [hKe] at hP
  generalize T1 = T_14 at h hP
  refine lv_if_eq (tgt := 29) hx hb dX1_monic_2_22 (by decide) (fun c_29 => ?_) (fun c_29 => ?_)
  · have h := h.1 c_29
    refine lv_aload_n hx hb dX1_monic_2_29 rfl (lv_at hl 0 rfl) ?_
    refine lv_aload_n hx hb dX1_monic_2_30 rfl (lv_at hl 0 rfl) ?_
    refine lv_aload_n hx hb dX1_monic_2_31 rfl (lv_at hl 0 rfl) ?_
    obtain ⟨v_16, ev_16, h⟩ := h
    refine x_get (CC := RX1) (TT := TX1) (N := 26) (ci := 0) (v := rfv b (xr T_14 0 18)) hx hb hts in_X1 hown hK hP (xs_0 hP) (by decide) (by decide) rfl (xE_8 (xs_0 hP)) 18 (by decide) q405 rfl rfl dX1_monic_2_32 ?_
    refine x_some ev_16 ?_
    have hk_v_16 : kd K_1 v_16 = 3 := hP.ty (xs_0 hP) (by decide) ev_16
    refine lv_iload_n hx hb dX1_monic_2_35 rfl (lv_at hl 1 rfl) ?_
    obtain ⟨j_17, hj_17, ej_17, v_18, ev_18, h⟩ := h
    refine x_aald3 hx hb hK hP hk_v_16 ej_17 hj_17 dX1_monic_2_36 ?_
    refine x_some ev_18 ?_
    have hk_v_18 : kd K_1 v_18 = 2 := hP.ty hk_v_16 (by decide) ev_18
    obtain ⟨Z_22, Y_23, hz1, hz2, hy1, hy2, h⟩ := h
    refine x_cV (k := 0) (As := [.ref (b + v_18)]) (rest := [.ref (b + 0)]) ⟨hx, hb, hml, hown, hts⟩ (mx1_monic l G b hole v_18 K_1 T_14 Z_22 Y_23 hz1 hy1 hk_v_18 _ h) (cwV 1 hts (lw_V q957 q959 qs40 q118 q960) rfl rfl rfl cwx_X1_monic ⟨Nat.le_of_ble_eq_true rfl, Nat.le_of_ble_eq_true rfl⟩) (x_recv (CC := RX1) (ci := 0) hK hP (xs_0 hP) (by decide) (by decide) rfl (xE_8 (xs_0 hP))) hK hV hb0 hP hS rfl hl.1 rfl (Nat.le_of_ble_eq_true rfl) dX1_monic_2_37 ⟨by first | exact Nat.zero_le _ | (show _ + _ ≤ Z - kc K0; omega), by first | exact Nat.zero_le _ | (show _ + _ ≤ Y - ks K0; omega)⟩ (fun r_19 T1 K1 H locs h hle1 hc1 hs1 hP hS => ?_)
    obtain ⟨h, hk_r_19⟩ := h
    generalize T1 = T_20 at h hP
    generalize K1 = K_21 at h hP hle1 hc1 hs1 hk_r_19
    have hle0 := hle0.tr hle1
    have hcn : kc K0 + ((0 + 1) + (Z_22 - kc K_1)) = kc K_21 := by omega
    have hsn : ks K0 + ((0 + 2) + (Y_23 - ks K_1)) = ks K_21 := by omega
    have hzz : kc K_21 ≤ Z := by omega
    have hyy : ks K_21 ≤ Y := by omega
    refine lv_iload_n hx hb dX1_monic_2_40 rfl (lv_at hl 2 rfl) ?_
    obtain ⟨Z_27, Y_28, hz1, hz2, hy1, hy2, h⟩ := h
    refine x_cV (k := 0) (As := [.ref (b + r_19), .int p2]) (rest := []) ⟨hx, hb, hml, hown, hts⟩ (mx1_lays l G b hole (some r_19) p2 K_21 T_20 Z_27 Y_28 hz1 hy1 (fun _ e9 => by cases e9; exact hk_r_19) _ h) (cwV 2 hts (lw_V q995 q997 qs43 q118 q998) rfl rfl rfl cwx_X1_lays ⟨Nat.le_of_ble_eq_true rfl, Nat.le_of_ble_eq_true rfl⟩) (x_recv (CC := RX1) (ci := 0) hK hP (xs_0 hP) (by decide) (by decide) rfl (xE_8 (xs_0 hP))) hK hV hb0 hP hS rfl hl.1 rfl (Nat.le_of_ble_eq_true rfl) dX1_monic_2_41 ⟨by first | exact Nat.zero_le _ | (show _ + _ ≤ Z - kc K0; omega), by first | exact Nat.zero_le _ | (show _ + _ ≤ Y - ks K0; omega)⟩ (fun r_24 T1 K1 H locs h hle1 hc1 hs1 hP hS => ?_)
    generalize T1 = T_25 at h hP
    generalize K1 = K_26 at h hP hle1 hc1 hs1
    have hle0 := hle0.tr hle1
    have hcn : kc K0 + (((0 + 1) + (Z_22 - kc K_1)) + (Z_27 - kc K_21)) = kc K_26 := by omega
    have hsn : ks K0 + (((0 + 2) + (Y_23 - ks K_1)) + (Y_28 - ks K_21)) = ks K_26 := by omega
    have hzz : kc K_26 ≤ Z := by omega
    have hyy : ks K_26 ≤ Y := by omega
    refine W.widen (k := Z - kc K0) (n := Y - ks K0) (by omega) (by omega) ?_
    exact W.iret (v := r_24) hx hb hr (fun t ht hW => ⟨⟨r_24, T_25, (kset K_26 Z Y), rfl, h, hle0, (by show Z = _; omega), (by show Y = _; omega), by rw [ht]; exact hP, va_K.moved hW.alike hK⟩, hS.F ht⟩) hS.2.2 dX1_monic_2_44
  · have h := h.2 c_29
    refine lv_iconst (v := (-1)) hx hb dX1_monic_2_25 (by decide) ?_
    refine lv_goto (tgt := 44) hx hb dX1_monic_2_26 (by decide) ?_
    refine W.widen (k := Z - kc K0) (n := Y - ks K0) (by omega) (by omega) ?_
    exact W.iret (v := (-1)) hx hb hr (fun t ht hW => ⟨⟨(-1), T_14, (kset K_1 Z Y), rfl, h, hle0, (by show Z = _; omega), (by show Y = _; omega), by rw [ht]; exact hP, va_K.moved hW.alike hK⟩, hS.F ht⟩) hS.2.2 dX1_monic_2_44
theorem cwx_X1_derive : yX1_derive.cls = RX1 ∧ yX1_derive.cls ≠ "java/lang/invoke/MethodHandle" ∧ yX1_derive.cls ≠ "java/lang/invoke/VarHandle" ∧ (parseMethodDescriptor yX1_derive.desc).map (fun d => d.parameters.length) = some 3 := by decide +kernel
def wx1_derive_j127 (p1 : Int32) (p2 : Int32) (p3 : Int32) (Z Y : Nat) (post : Int32 → XT → XK → Prop) (R59 : Int32 → XT → Prop) (x4 : Nat) (x5 : Nat) (x6 : Int32) (K : XK) (T : XT) : Prop :=
        ∀ x6_1 : Int32, x6_1 = x6 + 1 →
        R59 x6_1 T
def wx1_derive_b59 (p1 : Int32) (p2 : Int32) (p3 : Int32) (Z Y : Nat) (post : Int32 → XT → XK → Prop) (R59 : Int32 → XT → Prop) (x4 : Nat) (x5 : Nat) (x6 : Int32) (K : XK) (T : XT) : Prop :=
      (((xi T x5 2) ≤ x6 →
        ∃ Z_5 Y_6 : Nat, kc K ≤ Z_5 ∧ Z_5 ≤ Z ∧ ks K ≤ Y_6 ∧ Y_6 ≤ Y ∧ wx1_sorted x4 K T Z_5 Y_6 (fun r_2 T_3 K_4 =>
        ∃ Z_10 Y_11 : Nat, kc K_4 ≤ Z_10 ∧ Z_10 ≤ Z ∧ ks K_4 ≤ Y_11 ∧ Y_11 ≤ Y ∧ wx1_lays (some r_2) p3 K_4 T_3 Z_10 Y_11 (fun r_7 T_8 K_9 =>
        post r_7 T_8 (kset K_9 Z Y)))) ∧
       (¬ ((xi T x5 2) ≤ x6) →
        ∃ v_12 : Nat, xr T x5 0 = some v_12 ∧
        ∃ j_13 : Nat, j_13 < kl K v_12 ∧ x6 = nI j_13 ∧
        wx1_exponent (xi T v_12 j_13) p2 K T (fun r_14 =>
        ((r_14 ≤ 0 →
          wx1_derive_j127 p1 p2 p3 Z Y post R59 x4 x5 x6 K T) ∧
         (¬ (r_14 ≤ 0) →
          ∃ v_17 : Nat, xr T x5 0 = some v_17 ∧
          ∃ j_18 : Nat, j_18 < kl K v_17 ∧ x6 = nI j_18 ∧
          ∃ v_19 : Nat, xr T x5 1 = some v_19 ∧
          ∃ j_20 : Nat, j_20 < kl K v_19 ∧ x6 = nI j_20 ∧
          ∃ v_21 : Nat, xr T x5 0 = some v_21 ∧
          ∃ j_22 : Nat, j_22 < kl K v_21 ∧ x6 = nI j_22 ∧
          wx1_exponent (xi T v_21 j_22) p2 K T (fun r_23 =>
          ¬ (xi T 0 0) = 0 ∧
          ∃ j_26 : Nat, j_26 < kl K x4 ∧ ((xi T v_17 j_18) - (jshl 1 (4 * p2))) = nI j_26 ∧ ∀ T_27 : XT, T_27 = xwi T x4 j_26 (jrem ((xi T v_19 j_20) * r_23) (xi T 0 0)) →
          wx1_derive_j127 p1 p2 p3 Z Y post R59 x4 x5 x6 K T_27))))))
def wx1_derive_l59 (p1 : Int32) (p2 : Int32) (p3 : Int32) (Z Y : Nat) (post : Int32 → XT → XK → Prop) (x4 : Nat) (x5 : Nat) (x6 : Int32) (K : XK) (T : XT) : Prop := wLoop (fun (R : ((Int32) × (XT)) → Prop) (v : (Int32) × (XT)) => wx1_derive_b59 p1 p2 p3 Z Y post (fun x6 T => R (x6, T)) x4 x5 v.1 K v.2) (x6, T)
def wx1_derive_j42 (p1 : Int32) (p2 : Int32) (p3 : Int32) (Z Y : Nat) (post : Int32 → XT → XK → Prop)  (K : XK) (T : XT) : Prop :=
    wx1_blank  K T (fun r_30 T_31 =>
    ∃ v_33 : Nat, xr T_31 0 18 = some v_33 ∧
    ∃ j_34 : Nat, j_34 < kl K v_33 ∧ p1 = nI j_34 ∧ ∃ v_35 : Nat, xr T_31 v_33 j_34 = some v_35 ∧
    wx1_derive_l59 p1 p2 p3 Z Y post r_30 v_35 0 K T_31)
def wx1_derive (p1 : Int32) (p2 : Int32) (p3 : Int32) (K0 : XK) (T : XT) (Z Y : Nat) (post : Int32 → XT → XK → Prop) : Prop :=
  kc K0 + 1 ≤ Z ∧ ks K0 + 2 ≤ Y ∧ ∀ K_36 : XK, K_36 = knew K0 1 2 2 → ∀ T_37 : XT, T_37 = xnil T (kz K0) →
  ∃ j_38 : Nat, j_38 < kl K_36 (kz K0) ∧ 0 = nI j_38 ∧ ∀ T_39 : XT, T_39 = xwi T_37 (kz K0) j_38 p1 →
  ∃ j_40 : Nat, j_40 < kl K_36 (kz K0) ∧ 1 = nI j_40 ∧ ∀ T_41 : XT, T_41 = xwi T_39 (kz K0) j_40 p3 →
  wx1_is (kz K0) K_36 T_41 (fun r_42 =>
  ((r_42 = 0 →
    wx1_why 0 K_36 T_41 (fun r_45 =>
    wx1_isRefused r_45 K_36 T_41 (fun r_48 T_49 =>
    ((r_48 = 0 →
      wx1_derive_j42 p1 p2 p3 Z Y post  K_36 T_49) ∧
     (¬ (r_48 = 0) →
      post (-1) T_49 (kset K_36 Z Y)))))) ∧
   (¬ (r_42 = 0) →
    wx1_isUnknown p2 K_36 T_41 (fun r_52 =>
    ((r_52 = 0 →
      wx1_why 0 K_36 T_41 (fun r_55 =>
      wx1_isRefused r_55 K_36 T_41 (fun r_58 T_59 =>
      ((r_58 = 0 →
        wx1_derive_j42 p1 p2 p3 Z Y post  K_36 T_59) ∧
       (¬ (r_58 = 0) →
        post (-1) T_59 (kset K_36 Z Y)))))) ∧
     (¬ (r_52 = 0) →
      wx1_why 1 K_36 T_41 (fun r_62 =>
      wx1_isRefused r_62 K_36 T_41 (fun r_65 T_66 =>
      ((r_65 = 0 →
        wx1_derive_j42 p1 p2 p3 Z Y post  K_36 T_66) ∧
       (¬ (r_65 = 0) →
        post (-1) T_66 (kset K_36 Z Y)))))))))))
set_option maxHeartbeats 4000000 in
theorem mx1_derive (l : Launch) (G : XG) (b : Nat) (hole : Nat → Prop) (p1 : Int32) (p2 : Int32) (p3 : Int32) (K0 : XK) (T : XT) (Z Y : Nat) (hZ : kc K0 ≤ Z) (hY : ks K0 ≤ Y)  (post : Int32 → XT → XK → Prop) (h : wx1_derive p1 p2 p3 K0 T Z Y post) : Met l yX1_derive (ws_ yX1_derive cX1_derive 7 (some .int)) ({ frames := 5, cells := (Z - kc K0), slots := (Y - ks K0), locals := 115 } : Room) (xPc G b hole [.ref (b + 0), .int p1, .int p2, .int p3] K0 T) (xQ G b hole K0 (Z - kc K0) (Y - ks K0) (ρ := Int32) eI (fun r T1 K1 => post r T1 K1)) (Z - kc K0) (Y - ks K0) (xA b hole) := by
  refine Met.ofW (cc := cX1_derive) (maxL := 7) (ret := (some .int)) (by decide) rfl ?_
  intro p e s m args below meth c s₁ B hml hv
  obtain ⟨rfl, hP, hK, hV⟩ := hv
  have hx := B.exec
  have hb := B.bytes
  have hr := B.returns
  have hts := atoms_spec (ws := ws_ yX1_derive cX1_derive 7 (some .int)) B.pre
  have hts : ∀ w ∈ lw_all, w.before _ s = true := fun w h => hts w (List.mem_cons_of_mem _ h)
  have hown : s.vm.findClass RX1 = some m.cls := findClass_of_methodNamed B.named
  have hlocks := B.notSynchronized
  have hb0 : b ≤ s.heap.size := by rw [hP.2.2.2]; exact Nat.le_add_right _ _
  have hS : va_S (xA b hole) s.heap s.heap [] := va_S.rf
  have hl := lv_entry ([.ref (b + 0), .int p1, .int p2, .int p3]) (n := 7) (Nat.le_of_ble_eq_true rfl)
  rw [lg_entry_eq]
  generalize (lg_sl ([.ref (b + 0), .int p1, .int p2, .int p3]) ++ List.replicate (7 - (lg_sl ([.ref (b + 0), .int p1, .int p2, .int p3])).length) Slot.unset).toArray = ls at hl ⊢
  have hl : lv_has ls 7 [(0, .ref (b + 0)), (1, .int p1), (2, .int p2), (3, .int p3)] := hl
  have hle0 : kle K0 K0 := kle.rf
  have L59 : ∀ (x4 : Nat) (x5 : Nat) (x6 : Int32) (T : XT) (K : XK) (cn sn : Nat) (H : Heap) (locs : List Loc) (ls : Array Slot), wx1_derive_l59 p1 p2 p3 Z Y post x4 x5 x6 K T → kle K0 K → kc K0 + cn = kc K → ks K0 + sn = ks K → kc K ≤ Z → ks K ≤ Y → (kd K x4 = 1) → (kd K x5 = 2) → xW G b hole K T H → va_S (xA b hole) s.heap H locs → lv_has ls 7 [(0, .ref (b + 0)), (2, .int p2), (3, .int p3), (4, .ref (b + x4)), (5, .ref (b + x5)), (6, .int x6)] → W p l e (headSpec (ws_ yX1_derive cX1_derive 7 (some .int)) ({ frames := 5, cells := (Z - kc K0), slots := (Y - ks K0), locals := 115 } : Room)).room s m ([.ref (b + 0), .int p1, .int p2, .int p3] : List Value).toArray below meth c H locs cn sn (MQ below (xQ G b hole K0 (Z - kc K0) (Y - ks K0) (ρ := Int32) eI (fun r T1 K1 => post r T1 K1)) ([.ref (b + 0), .int p1, .int p2, .int p3] : List Value).toArray s (Z - kc K0) (Y - ks K0) (xA b hole)) (F0 m 59 ls []) := by
    intro x4 x5 x6 T K cn sn H locs ls h hle0 hcn hsn hzz hyy hk_x4 hk_x5 hP hS hl
    obtain ⟨I59, n59, hI, hstep59⟩ := h
    induction n59 using Nat.strongRecOn generalizing x6 T H locs ls with
    | ind n59 ih59 =>
      have h : wx1_derive_b59 p1 p2 p3 Z Y post (fun x6 T => ∃ mm, mm < n59 ∧ I59 mm (x6, T)) x4 x5 x6 K T := hstep59 n59 _ hI
      clear hI
      have J127 : ∀ (x6 : Int32) (T : XT) (H : Heap) (locs : List Loc) (ls : Array Slot), wx1_derive_j127 p1 p2 p3 Z Y post (fun x6 T => ∃ mm, mm < n59 ∧ I59 mm (x6, T)) x4 x5 x6 K T → xW G b hole K T H → va_S (xA b hole) s.heap H locs → lv_has ls 7 [(0, .ref (b + 0)), (2, .int p2), (3, .int p3), (4, .ref (b + x4)), (5, .ref (b + x5)), (6, .int x6)] → W p l e (headSpec (ws_ yX1_derive cX1_derive 7 (some .int)) ({ frames := 5, cells := (Z - kc K0), slots := (Y - ks K0), locals := 115 } : Room)).room s m ([.ref (b + 0), .int p1, .int p2, .int p3] : List Value).toArray below meth c H locs cn sn (MQ below (xQ G b hole K0 (Z - kc K0) (Y - ks K0) (ρ := Int32) eI (fun r T1 K1 => post r T1 K1)) ([.ref (b + 0), .int p1, .int p2, .int p3] : List Value).toArray s (Z - kc K0) (Y - ks K0) (xA b hole)) (F0 m 127 ls []) := by
        intro x6 T H locs ls h hP hS hl
        unfold wx1_derive_j127 at h
        obtain ⟨x6_1, ex6_1⟩ : ∃ y : Int32, y = x6 + 1 := ⟨_, rfl⟩
        have h := h x6_1 ex6_1
        refine lv_iinc (v := x6_1) (lv' := [(6, .int x6_1), (0, .ref (b + 0)), (2, .int p2), (3, .int p3), (4, .ref (b + x4)), (5, .ref (b + x5))]) hx hb dX1_derive_127 hl (k := 5) rfl (by rw [ex6_1]; rfl) (by decide) rfl (fun ls hl => ?_)
        refine lv_goto (tgt := 59) hx hb dX1_derive_130 (by decide) ?_
        obtain ⟨mm, hmm, h⟩ := h
        exact ih59 mm hmm _ _ _ _ _  hP hS (lv_sub hl [1, 2, 3, 4, 5, 0] rfl) h
      unfold wx1_derive_b59 at h
      refine lv_iload hx hb dX1_derive_59 (lv_at hl 5 rfl) ?_
      refine lv_aload hx hb dX1_derive_61 (lv_at hl 4 rfl) ?_
      refine x_get (CC := RX6) (TT := TX6) (N := 3) (ci := 5) (v := .int (xi T x5 2)) hx hb hts in_X6 hown hK hP hk_x5 (by decide) (by decide) rfl (xE_2 hk_x5) 2 (by decide) q372 rfl rfl dX1_derive_63 ?_
      refine lv_icmp_ge (tgt := 133) hx hb dX1_derive_66 (by decide) (fun c_29 => ?_) (fun c_29 => ?_)
      · have h := h.1 c_29
        refine lv_aload_n hx hb dX1_derive_133 rfl (lv_at hl 0 rfl) ?_
        refine lv_aload_n hx hb dX1_derive_134 rfl (lv_at hl 0 rfl) ?_
        refine lv_aload hx hb dX1_derive_135 (lv_at hl 3 rfl) ?_
        obtain ⟨Z_5, Y_6, hz1, hz2, hy1, hy2, h⟩ := h
        refine x_cV (k := 0) (As := [.ref (b + x4)]) (rest := [.ref (b + 0)]) ⟨hx, hb, hml, hown, hts⟩ (mx1_sorted l G b hole x4 K T Z_5 Y_6 hz1 hy1 hk_x4 _ h) (cwV 1 hts (lw_V q1067 q750 qs23 q118 q751) rfl rfl rfl cwx_X1_sorted ⟨Nat.le_of_ble_eq_true rfl, Nat.le_of_ble_eq_true rfl⟩) (x_recv (CC := RX1) (ci := 0) hK hP (xs_0 hP) (by decide) (by decide) rfl (xE_8 (xs_0 hP))) hK hV hb0 hP hS rfl hl.1 rfl (Nat.le_of_ble_eq_true rfl) dX1_derive_137 ⟨by first | exact Nat.zero_le _ | (show _ + _ ≤ Z - kc K0; omega), by first | exact Nat.zero_le _ | (show _ + _ ≤ Y - ks K0; omega)⟩ (fun r_2 T1 K1 H locs h hle1 hc1 hs1 hP hS => ?_)
        obtain ⟨h, hk_r_2⟩ := h
        generalize T1 = T_3 at h hP
        generalize K1 = K_4 at h hP hle1 hc1 hs1 hk_r_2
        have hk_x4 : kd K_4 x4 = 1 := hle1.kd hk_x4
        have hk_x5 : kd K_4 x5 = 2 := hle1.kd hk_x5
        have hle0 := hle0.tr hle1
        have hcn : kc K0 + (cn + (Z_5 - kc K)) = kc K_4 := by omega
        have hsn : ks K0 + (sn + (Y_6 - ks K)) = ks K_4 := by omega
        have hzz : kc K_4 ≤ Z := by omega
        have hyy : ks K_4 ≤ Y := by omega
        refine lv_iload_n hx hb dX1_derive_140 rfl (lv_at hl 2 rfl) ?_
        obtain ⟨Z_10, Y_11, hz1, hz2, hy1, hy2, h⟩ := h
        refine x_cV (k := 0) (As := [.ref (b + r_2), .int p3]) (rest := []) ⟨hx, hb, hml, hown, hts⟩ (mx1_lays l G b hole (some r_2) p3 K_4 T_3 Z_10 Y_11 hz1 hy1 (fun _ e9 => by cases e9; exact hk_r_2) _ h) (cwV 2 hts (lw_V q995 q997 qs43 q118 q998) rfl rfl rfl cwx_X1_lays ⟨Nat.le_of_ble_eq_true rfl, Nat.le_of_ble_eq_true rfl⟩) (x_recv (CC := RX1) (ci := 0) hK hP (xs_0 hP) (by decide) (by decide) rfl (xE_8 (xs_0 hP))) hK hV hb0 hP hS rfl hl.1 rfl (Nat.le_of_ble_eq_true rfl) dX1_derive_141 ⟨by first | exact Nat.zero_le _ | (show _ + _ ≤ Z - kc K0; omega), by first | exact Nat.zero_le _ | (show _ + _ ≤ Y - ks K0; omega)⟩ (fun r_7 T1 K1 H locs h hle1 hc1 hs1 hP hS => ?_)
        generalize T1 = T_8 at h hP
        generalize K1 = K_9 at h hP hle1 hc1 hs1
        have hk_x4 : kd K_9 x4 = 1 := hle1.kd hk_x4
        have hk_x5 : kd K_9 x5 = 2 := hle1.kd hk_x5
        have hle0 := hle0.tr hle1
        have hcn : kc K0 + ((cn + (Z_5 - kc K)) + (Z_10 - kc K_4)) = kc K_9 := by omega
        have hsn : ks K0 + ((sn + (Y_6 - ks K)) + (Y_11 - ks K_4)) = ks K_9 := by omega
        have hzz : kc K_9 ≤ Z := by omega
        have hyy : ks K_9 ≤ Y := by omega
        refine W.widen (k := Z - kc K0) (n := Y - ks K0) (by omega) (by omega) ?_
        exact W.iret (v := r_7) hx hb hr (fun t ht hW => ⟨⟨r_7, T_8, (kset K_9 Z Y), rfl, h, hle0, (by show Z = _; omega), (by show Y = _; omega), by rw [ht]; exact hP, va_K.moved hW.alike hK⟩, hS.F ht⟩) hS.2.2 dX1_derive_144
      · have h := h.2 c_29
        refine lv_aload hx hb dX1_derive_69 (lv_at hl 4 rfl) ?_
        obtain ⟨v_12, ev_12, h⟩ := h
        refine x_get (CC := RX6) (TT := TX6) (N := 3) (ci := 5) (v := rfv b (xr T x5 0)) hx hb hts in_X6 hown hK hP hk_x5 (by decide) (by decide) rfl (xE_2 hk_x5) 0 (by decide) q366 rfl rfl dX1_derive_71 ?_
        refine x_some ev_12 ?_
        have hk_v_12 : kd K v_12 = 1 := hP.ty hk_x5 (by decide) ev_12
        refine lv_iload hx hb dX1_derive_74 (lv_at hl 5 rfl) ?_
        obtain ⟨j_13, hj_13, ej_13, h⟩ := h
        refine x_iald hx hb hK hP hk_v_12 ej_13 hj_13 dX1_derive_76 ?_
        refine lv_iload_n hx hb dX1_derive_77 rfl (lv_at hl 1 rfl) ?_
        refine x_cS (As := [.int (xi T v_12 j_13), .int p2]) (rest := []) ⟨hx, hb, hml, hown, hts⟩ (mx1_exponent l G b hole (xi T v_12 j_13) p2 K T  _ h) (va_cwS 2 hts (lw_S q723 q724 q118 q725) rfl rfl rfl cwx_X1_exponent ⟨Nat.le_of_ble_eq_true rfl, Nat.le_of_ble_eq_true rfl⟩) hK hV hb0 hP hS rfl hl.1 rfl (Nat.le_of_ble_eq_true rfl) dX1_derive_78 ⟨by first | exact Nat.zero_le _ | (show _ + _ ≤ Z - kc K0; omega), by first | exact Nat.zero_le _ | (show _ + _ ≤ Y - ks K0; omega)⟩ (fun r_14 T1 K1 H locs h hle1 hc1 hs1 hP hS => ?_)
        obtain ⟨h, hTe, hKe⟩ := h
        rw [hTe, hKe] at hP
        refine lv_if_le (tgt := 127) hx hb dX1_derive_81 (by decide) (fun c_28 => ?_) (fun c_28 => ?_)
        · have h := h.1 c_28
          exact J127 _ _ _ _ _ h  hP hS (lv_sub hl [0, 1, 2, 3, 4, 5] rfl)
        · have h := h.2 c_28
          refine lv_aload hx hb dX1_derive_84 (lv_at hl 3 rfl) ?_
          refine lv_aload hx hb dX1_derive_86 (lv_at hl 4 rfl) ?_
          obtain ⟨v_17, ev_17, h⟩ := h
          refine x_get (CC := RX6) (TT := TX6) (N := 3) (ci := 5) (v := rfv b (xr T x5 0)) hx hb hts in_X6 hown hK hP hk_x5 (by decide) (by decide) rfl (xE_2 hk_x5) 0 (by decide) q366 rfl rfl dX1_derive_88 ?_
          refine x_some ev_17 ?_
          have hk_v_17 : kd K v_17 = 1 := hP.ty hk_x5 (by decide) ev_17
          refine lv_iload hx hb dX1_derive_91 (lv_at hl 5 rfl) ?_
          obtain ⟨j_18, hj_18, ej_18, h⟩ := h
          refine x_iald hx hb hK hP hk_v_17 ej_18 hj_18 dX1_derive_93 ?_
          refine lv_iconst (v := 1) hx hb dX1_derive_94 (by decide) ?_
          refine lv_iconst (v := 4) hx hb dX1_derive_95 (by decide) ?_
          refine lv_iload_n hx hb dX1_derive_96 rfl (lv_at hl 1 rfl) ?_
          refine lv_imul hx hb dX1_derive_97 ?_
          refine m_ishl hx hb dX1_derive_98 ?_
          refine lv_isub hx hb dX1_derive_99 ?_
          refine lv_aload hx hb dX1_derive_100 (lv_at hl 4 rfl) ?_
          obtain ⟨v_19, ev_19, h⟩ := h
          refine x_get (CC := RX6) (TT := TX6) (N := 3) (ci := 5) (v := rfv b (xr T x5 1)) hx hb hts in_X6 hown hK hP hk_x5 (by decide) (by decide) rfl (xE_2 hk_x5) 1 (by decide) q369 rfl rfl dX1_derive_102 ?_
          refine x_some ev_19 ?_
          have hk_v_19 : kd K v_19 = 1 := hP.ty hk_x5 (by decide) ev_19
          refine lv_iload hx hb dX1_derive_105 (lv_at hl 5 rfl) ?_
          obtain ⟨j_20, hj_20, ej_20, h⟩ := h
          refine x_iald hx hb hK hP hk_v_19 ej_20 hj_20 dX1_derive_107 ?_
          refine lv_aload hx hb dX1_derive_108 (lv_at hl 4 rfl) ?_
          obtain ⟨v_21, ev_21, h⟩ := h
          refine x_get (CC := RX6) (TT := TX6) (N := 3) (ci := 5) (v := rfv b (xr T x5 0)) hx hb hts in_X6 hown hK hP hk_x5 (by decide) (by decide) rfl (xE_2 hk_x5) 0 (by decide) q366 rfl rfl dX1_derive_110 ?_
          refine x_some ev_21 ?_
          have hk_v_21 : kd K v_21 = 1 := hP.ty hk_x5 (by decide) ev_21
          refine lv_iload hx hb dX1_derive_113 (lv_at hl 5 rfl) ?_
          obtain ⟨j_22, hj_22, ej_22, h⟩ := h
          refine x_iald hx hb hK hP hk_v_21 ej_22 hj_22 dX1_derive_115 ?_
          refine lv_iload_n hx hb dX1_derive_116 rfl (lv_at hl 1 rfl) ?_
          refine x_cS (As := [.int (xi T v_21 j_22), .int p2]) (rest := [.int (xi T v_19 j_20), .int ((xi T v_17 j_18) - (jshl 1 (4 * p2))), .ref (b + x4)]) ⟨hx, hb, hml, hown, hts⟩ (mx1_exponent l G b hole (xi T v_21 j_22) p2 K T  _ h) (va_cwS 2 hts (lw_S q723 q724 q118 q725) rfl rfl rfl cwx_X1_exponent ⟨Nat.le_of_ble_eq_true rfl, Nat.le_of_ble_eq_true rfl⟩) hK hV hb0 hP hS rfl hl.1 rfl (Nat.le_of_ble_eq_true rfl) dX1_derive_117 ⟨by first | exact Nat.zero_le _ | (show _ + _ ≤ Z - kc K0; omega), by first | exact Nat.zero_le _ | (show _ + _ ≤ Y - ks K0; omega)⟩ (fun r_23 T1 K1 H locs h hle1 hc1 hs1 hP hS => ?_)
          obtain ⟨h, hTe, hKe⟩ := h
          rw [hTe, hKe] at hP
          refine lv_imul hx hb dX1_derive_120 ?_
          refine lv_aload_n hx hb dX1_derive_121 rfl (lv_at hl 0 rfl) ?_
          refine x_get (CC := RX1) (TT := TX1) (N := 26) (ci := 0) (v := .int (xi T 0 0)) hx hb hts in_X1 hown hK hP (xs_0 hP) (by decide) (by decide) rfl (xE_8 (xs_0 hP)) 0 (by decide) q384 rfl rfl dX1_derive_122 ?_
          obtain ⟨hne, h⟩ := h
          refine m_irem hx hb dX1_derive_125 hne ?_
          obtain ⟨j_26, hj_26, ej_26, h⟩ := h
          obtain ⟨T_27, eT_27⟩ : ∃ z : XT, z = xwi T x4 j_26 (jrem ((xi T v_19 j_20) * r_23) (xi T 0 0)) := ⟨_, rfl⟩
          have h := h T_27 eT_27
          refine x_iast hx hb hK hP hS hk_x4 ej_26 hj_26 dX1_derive_126 (fun H locs hP hS => ?_)
          rw [← eT_27] at hP
          exact J127 _ _ _ _ _ h  hP hS (lv_sub hl [0, 1, 2, 3, 4, 5] rfl)
  have J42 : ∀  (T : XT) (K : XK) (cn sn : Nat) (H : Heap) (locs : List Loc) (ls : Array Slot), wx1_derive_j42 p1 p2 p3 Z Y post  K T → kle K0 K → kc K0 + cn = kc K → ks K0 + sn = ks K → kc K ≤ Z → ks K ≤ Y → xW G b hole K T H → va_S (xA b hole) s.heap H locs → lv_has ls 7 [(0, .ref (b + 0)), (1, .int p1), (2, .int p2), (3, .int p3)] → W p l e (headSpec (ws_ yX1_derive cX1_derive 7 (some .int)) ({ frames := 5, cells := (Z - kc K0), slots := (Y - ks K0), locals := 115 } : Room)).room s m ([.ref (b + 0), .int p1, .int p2, .int p3] : List Value).toArray below meth c H locs cn sn (MQ below (xQ G b hole K0 (Z - kc K0) (Y - ks K0) (ρ := Int32) eI (fun r T1 K1 => post r T1 K1)) ([.ref (b + 0), .int p1, .int p2, .int p3] : List Value).toArray s (Z - kc K0) (Y - ks K0) (xA b hole)) (F0 m 42 ls []) := by
    intro  T K cn sn H locs ls h hle0 hcn hsn hzz hyy hP hS hl
    unfold wx1_derive_j42 at h
    refine lv_aload_n hx hb dX1_derive_42 rfl (lv_at hl 0 rfl) ?_
    refine x_cV (k := 0) (As := []) (rest := []) ⟨hx, hb, hml, hown, hts⟩ (mx1_blank l G b hole  K T  _ h) (cwV 0 hts (lw_V q835 q739 qs21 q118 q740) rfl rfl rfl cwx_X1_blank ⟨Nat.le_of_ble_eq_true rfl, Nat.le_of_ble_eq_true rfl⟩) (x_recv (CC := RX1) (ci := 0) hK hP (xs_0 hP) (by decide) (by decide) rfl (xE_8 (xs_0 hP))) hK hV hb0 hP hS rfl hl.1 rfl (Nat.le_of_ble_eq_true rfl) dX1_derive_43 ⟨by first | exact Nat.zero_le _ | (show _ + _ ≤ Z - kc K0; omega), by first | exact Nat.zero_le _ | (show _ + _ ≤ Y - ks K0; omega)⟩ (fun r_30 T1 K1 H locs h hle1 hc1 hs1 hP hS => ?_)
    obtain ⟨h, hk_r_30, hKe⟩ := h
    rw [hKe] at hP
    generalize T1 = T_31 at h hP
    rw [hKe] at hk_r_30
    refine lv_astore (lv' := [(4, .ref (b + r_30)), (0, .ref (b + 0)), (1, .int p1), (2, .int p2), (3, .int p3)]) hx hb dX1_derive_46 hl (by decide) rfl (fun ls hl => ?_)
    refine lv_aload_n hx hb dX1_derive_48 rfl (lv_at hl 1 rfl) ?_
    obtain ⟨v_33, ev_33, h⟩ := h
    refine x_get (CC := RX1) (TT := TX1) (N := 26) (ci := 0) (v := rfv b (xr T_31 0 18)) hx hb hts in_X1 hown hK hP (xs_0 hP) (by decide) (by decide) rfl (xE_8 (xs_0 hP)) 18 (by decide) q405 rfl rfl dX1_derive_49 ?_
    refine x_some ev_33 ?_
    have hk_v_33 : kd K v_33 = 3 := hP.ty (xs_0 hP) (by decide) ev_33
    refine lv_iload_n hx hb dX1_derive_52 rfl (lv_at hl 2 rfl) ?_
    obtain ⟨j_34, hj_34, ej_34, v_35, ev_35, h⟩ := h
    refine x_aald3 hx hb hK hP hk_v_33 ej_34 hj_34 dX1_derive_53 ?_
    refine x_some ev_35 ?_
    have hk_v_35 : kd K v_35 = 2 := hP.ty hk_v_33 (by decide) ev_35
    refine lv_astore (lv' := [(5, .ref (b + v_35)), (4, .ref (b + r_30)), (0, .ref (b + 0)), (1, .int p1), (2, .int p2), (3, .int p3)]) hx hb dX1_derive_54 hl (by decide) rfl (fun ls hl => ?_)
    refine lv_iconst (v := 0) hx hb dX1_derive_56 (by decide) ?_
    refine lv_istore (lv' := [(6, .int 0), (5, .ref (b + v_35)), (4, .ref (b + r_30)), (0, .ref (b + 0)), (1, .int p1), (2, .int p2), (3, .int p3)]) hx hb dX1_derive_57 hl (by decide) rfl (fun ls hl => ?_)
    exact L59 _ _ _ _ _ _ _ _ _ _ h hle0 hcn hsn hzz hyy hk_r_30 hk_v_35 hP hS (lv_sub hl [3, 5, 6, 2, 1, 0] rfl)
  have hcn : kc K0 + 0 = kc K0 := rfl
  have hsn : ks K0 + 0 = ks K0 := rfl
  have hzz := hZ
  have hyy := hY
  unfold wx1_derive at h
  refine lv_aload_n hx hb dX1_derive_0 rfl (lv_at hl 0 rfl) ?_
  refine lv_aload_n hx hb dX1_derive_1 rfl (lv_at hl 0 rfl) ?_
  refine lv_iconst (v := 2) hx hb dX1_derive_2 (by decide) ?_
  obtain ⟨hc1, hs1, h⟩ := h
  obtain ⟨K_36, eK_36⟩ : ∃ z : XK, z = knew K0 1 2 2 := ⟨_, rfl⟩
  obtain ⟨T_37, eT_37⟩ : ∃ z : XT, z = xnil T (kz K0) := ⟨_, rfl⟩
  have h := h K_36 eK_36 T_37 eT_37
  have hle1 : kle K0 K_36 := by rw [eK_36]; exact kle.new hP.2.2.1 _ _ _
  refine x_newai (N := 2) hx hb hts q170 hK hP hS (by decide) (by decide) (by show _ + 1 ≤ Z - kc K0; omega) (by show _ + _ ≤ Y - ks K0; omega) dX1_derive_3 (fun H hP hS => ?_)
  rw [← eK_36, ← eT_37] at hP
  have hk_n36 : kd K_36 (kz K0) = 1 := by rw [eK_36]; exact knew_kd
  have hle0 := hle0.tr hle1
  have hcn : kc K0 + (0 + 1) = kc K_36 := by rw [eK_36]; show _ = kc K0 + 1; omega
  have hsn : ks K0 + (0 + 2) = ks K_36 := by rw [eK_36]; show _ = ks K0 + 2; omega
  have hzz : kc K_36 ≤ Z := by rw [eK_36]; exact hc1
  have hyy : ks K_36 ≤ Y := by rw [eK_36]; exact hs1
  refine lv_dup hx hb dX1_derive_5 rfl ?_
  refine lv_iconst (v := 0) hx hb dX1_derive_6 (by decide) ?_
  refine lv_iload_n hx hb dX1_derive_7 rfl (lv_at hl 1 rfl) ?_
  obtain ⟨j_38, hj_38, ej_38, h⟩ := h
  obtain ⟨T_39, eT_39⟩ : ∃ z : XT, z = xwi T_37 (kz K0) j_38 p1 := ⟨_, rfl⟩
  have h := h T_39 eT_39
  refine x_iast hx hb hK hP hS hk_n36 ej_38 hj_38 dX1_derive_8 (fun H locs hP hS => ?_)
  rw [← eT_39] at hP
  refine lv_dup hx hb dX1_derive_9 rfl ?_
  refine lv_iconst (v := 1) hx hb dX1_derive_10 (by decide) ?_
  refine lv_iload_n hx hb dX1_derive_11 rfl (lv_at hl 3 rfl) ?_
  obtain ⟨j_40, hj_40, ej_40, h⟩ := h
  obtain ⟨T_41, eT_41⟩ : ∃ z : XT, z = xwi T_39 (kz K0) j_40 p3 := ⟨_, rfl⟩
  have h := h T_41 eT_41
  refine x_iast hx hb hK hP hS hk_n36 ej_40 hj_40 dX1_derive_12 (fun H locs hP hS => ?_)
  rw [← eT_41] at hP
  refine x_cS (As := [.ref (b + (kz K0))]) (rest := [.ref (b + 0), .ref (b + 0)]) ⟨hx, hb, hml, hown, hts⟩ (mx1_is l G b hole (kz K0) K_36 T_41 hk_n36 _ h) (va_cwS 1 hts (lw_S q793 q794 q118 q795) rfl rfl rfl cwx_X1_is ⟨Nat.le_of_ble_eq_true rfl, Nat.le_of_ble_eq_true rfl⟩) hK hV hb0 hP hS rfl hl.1 rfl (Nat.le_of_ble_eq_true rfl) dX1_derive_13 ⟨by first | exact Nat.zero_le _ | (show _ + _ ≤ Z - kc K0; omega), by first | exact Nat.zero_le _ | (show _ + _ ≤ Y - ks K0; omega)⟩ (fun r_42 T1 K1 H locs h hle1 hc1 hs1 hP hS => ?_)
  obtain ⟨h, hTe, hKe⟩ := h
  rw [hTe, hKe] at hP
  refine lv_if_eq (tgt := 30) hx hb dX1_derive_16 (by decide) (fun c_70 => ?_) (fun c_70 => ?_)
  · have h := h.1 c_70
    refine lv_iconst (v := 0) hx hb dX1_derive_30 (by decide) ?_
    refine x_cV (k := 0) (As := [.int 0]) (rest := [.ref (b + 0)]) ⟨hx, hb, hml, hown, hts⟩ (mx1_why l G b hole 0 K_36 T_41  _ h) (cwV 1 hts (lw_V q769 q771 qs24 q118 q772) rfl rfl rfl cwx_X1_why ⟨Nat.le_of_ble_eq_true rfl, Nat.le_of_ble_eq_true rfl⟩) (x_recv (CC := RX1) (ci := 0) hK hP (xs_0 hP) (by decide) (by decide) rfl (xE_8 (xs_0 hP))) hK hV hb0 hP hS rfl hl.1 rfl (Nat.le_of_ble_eq_true rfl) dX1_derive_31 ⟨by first | exact Nat.zero_le _ | (show _ + _ ≤ Z - kc K0; omega), by first | exact Nat.zero_le _ | (show _ + _ ≤ Y - ks K0; omega)⟩ (fun r_45 T1 K1 H locs h hle1 hc1 hs1 hP hS => ?_)
    obtain ⟨h, hTe, hKe⟩ := h
    rw [hTe, hKe] at hP
    refine x_cV (k := 0) (As := [.int r_45]) (rest := []) ⟨hx, hb, hml, hown, hts⟩ (mx1_isRefused l G b hole r_45 K_36 T_41  _ h) (cwV 1 hts (lw_V q777 q779 qs26 q118 q780) rfl rfl rfl cwx_X1_isRefused ⟨Nat.le_of_ble_eq_true rfl, Nat.le_of_ble_eq_true rfl⟩) (x_recv (CC := RX1) (ci := 0) hK hP (xs_0 hP) (by decide) (by decide) rfl (xE_8 (xs_0 hP))) hK hV hb0 hP hS rfl hl.1 rfl (Nat.le_of_ble_eq_true rfl) dX1_derive_34 ⟨by first | exact Nat.zero_le _ | (show _ + _ ≤ Z - kc K0; omega), by first | exact Nat.zero_le _ | (show _ + _ ≤ Y - ks K0; omega)⟩ (fun r_48 T1 K1 H locs h hle1 hc1 hs1 hP hS => ?_)
    obtain ⟨h, hKe⟩ := h
    rw [hKe] at hP
    generalize T1 = T_49 at h hP
    refine lv_if_eq (tgt := 42) hx hb dX1_derive_37 (by decide) (fun c_51 => ?_) (fun c_51 => ?_)
    · have h := h.1 c_51
      exact J42 _ _ _ _ _ _ _ h hle0 hcn hsn hzz hyy hP hS (lv_sub hl [0, 1, 2, 3] rfl)
    · have h := h.2 c_51
      refine lv_iconst (v := (-1)) hx hb dX1_derive_40 (by decide) ?_
      refine W.widen (k := Z - kc K0) (n := Y - ks K0) (by omega) (by omega) ?_
      exact W.iret (v := (-1)) hx hb hr (fun t ht hW => ⟨⟨(-1), T_49, (kset K_36 Z Y), rfl, h, hle0, (by show Z = _; omega), (by show Y = _; omega), by rw [ht]; exact hP, va_K.moved hW.alike hK⟩, hS.F ht⟩) hS.2.2 dX1_derive_41
  · have h := h.2 c_70
    refine lv_iload_n hx hb dX1_derive_19 rfl (lv_at hl 2 rfl) ?_
    refine x_cS (As := [.int p2]) (rest := [.ref (b + 0), .ref (b + 0)]) ⟨hx, hb, hml, hown, hts⟩ (mx1_isUnknown l G b hole p2 K_36 T_41  _ h) (va_cwS 1 hts (lw_S q816 q817 q118 q818) rfl rfl rfl cwx_X1_isUnknown ⟨Nat.le_of_ble_eq_true rfl, Nat.le_of_ble_eq_true rfl⟩) hK hV hb0 hP hS rfl hl.1 rfl (Nat.le_of_ble_eq_true rfl) dX1_derive_20 ⟨by first | exact Nat.zero_le _ | (show _ + _ ≤ Z - kc K0; omega), by first | exact Nat.zero_le _ | (show _ + _ ≤ Y - ks K0; omega)⟩ (fun r_52 T1 K1 H locs h hle1 hc1 hs1 hP hS => ?_)
    obtain ⟨h, hTe, hKe⟩ := h
    rw [hTe, hKe] at hP
    refine lv_if_eq (tgt := 30) hx hb dX1_derive_23 (by decide) (fun c_69 => ?_) (fun c_69 => ?_)
    · have h := h.1 c_69
      refine lv_iconst (v := 0) hx hb dX1_derive_30 (by decide) ?_
      refine x_cV (k := 0) (As := [.int 0]) (rest := [.ref (b + 0)]) ⟨hx, hb, hml, hown, hts⟩ (mx1_why l G b hole 0 K_36 T_41  _ h) (cwV 1 hts (lw_V q769 q771 qs24 q118 q772) rfl rfl rfl cwx_X1_why ⟨Nat.le_of_ble_eq_true rfl, Nat.le_of_ble_eq_true rfl⟩) (x_recv (CC := RX1) (ci := 0) hK hP (xs_0 hP) (by decide) (by decide) rfl (xE_8 (xs_0 hP))) hK hV hb0 hP hS rfl hl.1 rfl (Nat.le_of_ble_eq_true rfl) dX1_derive_31 ⟨by first | exact Nat.zero_le _ | (show _ + _ ≤ Z - kc K0; omega), by first | exact Nat.zero_le _ | (show _ + _ ≤ Y - ks K0; omega)⟩ (fun r_55 T1 K1 H locs h hle1 hc1 hs1 hP hS => ?_)
      obtain ⟨h, hTe, hKe⟩ := h
      rw [hTe, hKe] at hP
      refine x_cV (k := 0) (As := [.int r_55]) (rest := []) ⟨hx, hb, hml, hown, hts⟩ (mx1_isRefused l G b hole r_55 K_36 T_41  _ h) (cwV 1 hts (lw_V q777 q779 qs26 q118 q780) rfl rfl rfl cwx_X1_isRefused ⟨Nat.le_of_ble_eq_true rfl, Nat.le_of_ble_eq_true rfl⟩) (x_recv (CC := RX1) (ci := 0) hK hP (xs_0 hP) (by decide) (by decide) rfl (xE_8 (xs_0 hP))) hK hV hb0 hP hS rfl hl.1 rfl (Nat.le_of_ble_eq_true rfl) dX1_derive_34 ⟨by first | exact Nat.zero_le _ | (show _ + _ ≤ Z - kc K0; omega), by first | exact Nat.zero_le _ | (show _ + _ ≤ Y - ks K0; omega)⟩ (fun r_58 T1 K1 H locs h hle1 hc1 hs1 hP hS => ?_)
      obtain ⟨h, hKe⟩ := h
      rw [hKe] at hP
      generalize T1 = T_59 at h hP
      refine lv_if_eq (tgt := 42) hx hb dX1_derive_37 (by decide) (fun c_61 => ?_) (fun c_61 => ?_)
      · have h := h.1 c_61
        exact J42 _ _ _ _ _ _ _ h hle0 hcn hsn hzz hyy hP hS (lv_sub hl [0, 1, 2, 3] rfl)
      · have h := h.2 c_61
        refine lv_iconst (v := (-1)) hx hb dX1_derive_40 (by decide) ?_
        refine W.widen (k := Z - kc K0) (n := Y - ks K0) (by omega) (by omega) ?_
        exact W.iret (v := (-1)) hx hb hr (fun t ht hW => ⟨⟨(-1), T_59, (kset K_36 Z Y), rfl, h, hle0, (by show Z = _; omega), (by show Y = _; omega), by rw [ht]; exact hP, va_K.moved hW.alike hK⟩, hS.F ht⟩) hS.2.2 dX1_derive_41
    · have h := h.2 c_69
      refine lv_iconst (v := 1) hx hb dX1_derive_26 (by decide) ?_
      refine lv_goto (tgt := 31) hx hb dX1_derive_27 (by decide) ?_
      refine x_cV (k := 0) (As := [.int 1]) (rest := [.ref (b + 0)]) ⟨hx, hb, hml, hown, hts⟩ (mx1_why l G b hole 1 K_36 T_41  _ h) (cwV 1 hts (lw_V q769 q771 qs24 q118 q772) rfl rfl rfl cwx_X1_why ⟨Nat.le_of_ble_eq_true rfl, Nat.le_of_ble_eq_true rfl⟩) (x_recv (CC := RX1) (ci := 0) hK hP (xs_0 hP) (by decide) (by decide) rfl (xE_8 (xs_0 hP))) hK hV hb0 hP hS rfl hl.1 rfl (Nat.le_of_ble_eq_true rfl) dX1_derive_31 ⟨by first | exact Nat.zero_le _ | (show _ + _ ≤ Z - kc K0; omega), by first | exact Nat.zero_le _ | (show _ + _ ≤ Y - ks K0; omega)⟩ (fun r_62 T1 K1 H locs h hle1 hc1 hs1 hP hS => ?_)
      obtain ⟨h, hTe, hKe⟩ := h
      rw [hTe, hKe] at hP
      refine x_cV (k := 0) (As := [.int r_62]) (rest := []) ⟨hx, hb, hml, hown, hts⟩ (mx1_isRefused l G b hole r_62 K_36 T_41  _ h) (cwV 1 hts (lw_V q777 q779 qs26 q118 q780) rfl rfl rfl cwx_X1_isRefused ⟨Nat.le_of_ble_eq_true rfl, Nat.le_of_ble_eq_true rfl⟩) (x_recv (CC := RX1) (ci := 0) hK hP (xs_0 hP) (by decide) (by decide) rfl (xE_8 (xs_0 hP))) hK hV hb0 hP hS rfl hl.1 rfl (Nat.le_of_ble_eq_true rfl) dX1_derive_34 ⟨by first | exact Nat.zero_le _ | (show _ + _ ≤ Z - kc K0; omega), by first | exact Nat.zero_le _ | (show _ + _ ≤ Y - ks K0; omega)⟩ (fun r_65 T1 K1 H locs h hle1 hc1 hs1 hP hS => ?_)
      obtain ⟨h, hKe⟩ := h
      rw [hKe] at hP
      generalize T1 = T_66 at h hP
      refine lv_if_eq (tgt := 42) hx hb dX1_derive_37 (by decide) (fun c_68 => ?_) (fun c_68 => ?_)
      · have h := h.1 c_68
        exact J42 _ _ _ _ _ _ _ h hle0 hcn hsn hzz hyy hP hS (lv_sub hl [0, 1, 2, 3] rfl)
      · have h := h.2 c_68
        refine lv_iconst (v := (-1)) hx hb dX1_derive_40 (by decide) ?_
        refine W.widen (k := Z - kc K0) (n := Y - ks K0) (by omega) (by omega) ?_
        exact W.iret (v := (-1)) hx hb hr (fun t ht hW => ⟨⟨(-1), T_66, (kset K_36 Z Y), rfl, h, hle0, (by show Z = _; omega), (by show Y = _; omega), by rw [ht]; exact hP, va_K.moved hW.alike hK⟩, hS.F ht⟩) hS.2.2 dX1_derive_41
theorem cwx_X1_put : yX1_put.cls = RX1 ∧ yX1_put.cls ≠ "java/lang/invoke/MethodHandle" ∧ yX1_put.cls ≠ "java/lang/invoke/VarHandle" ∧ (parseMethodDescriptor yX1_put.desc).map (fun d => d.parameters.length) = some 4 := by decide +kernel
def wx1_put_b71 (p1 : Int32) (p2 : Int32) (p3 : Int32) (p4 : Int32) (Z Y : Nat) (post : Int32 → XT → XK → Prop) (R71 : Int32 → XT → Prop) (x5 : Nat) (x6 : Nat) (x7 : Int32) (K : XK) (T : XT) : Prop :=
      (((xi T x6 2) ≤ x7 →
        ∃ Z_4 Y_5 : Nat, kc K ≤ Z_4 ∧ Z_4 ≤ Z ∧ ks K ≤ Y_5 ∧ Y_5 ≤ Y ∧ wx1_sorted x5 K T Z_4 Y_5 (fun r_1 T_2 K_3 =>
        ∃ Z_9 Y_10 : Nat, kc K_3 ≤ Z_9 ∧ Z_9 ≤ Z ∧ ks K_3 ≤ Y_10 ∧ Y_10 ≤ Y ∧ wx1_lays (some r_1) p4 K_3 T_2 Z_9 Y_10 (fun r_6 T_7 K_8 =>
        post r_6 T_7 (kset K_8 Z Y)))) ∧
       (¬ ((xi T x6 2) ≤ x7) →
        ∃ v_11 : Nat, xr T x6 0 = some v_11 ∧
        ∃ j_12 : Nat, j_12 < kl K v_11 ∧ x7 = nI j_12 ∧
        ∀ x8_13 : Int32, x8_13 = ((xi T v_11 j_12) &&& ((jshl 15 (4 * p2)) ^^^ (-1))) →
        ∃ j_14 : Nat, j_14 < kl K x5 ∧ x8_13 = nI j_14 ∧
        ∃ v_15 : Nat, xr T x6 1 = some v_15 ∧
        ∃ j_16 : Nat, j_16 < kl K v_15 ∧ x7 = nI j_16 ∧
        ∃ v_17 : Nat, xr T x6 0 = some v_17 ∧
        ∃ j_18 : Nat, j_18 < kl K v_17 ∧ x7 = nI j_18 ∧
        wx1_exponent (xi T v_17 j_18) p2 K T (fun r_19 =>
        wx1_power p3 r_19 K T (fun r_22 =>
        ¬ (xi T 0 0) = 0 ∧
        ∃ j_25 : Nat, j_25 < kl K x5 ∧ x8_13 = nI j_25 ∧ ∀ T_26 : XT, T_26 = xwi T x5 j_25 (jrem ((xi T x5 j_14) + ((xi T v_15 j_16) * r_22)) (xi T 0 0)) →
        ∀ x7_27 : Int32, x7_27 = x7 + 1 →
        R71 x7_27 T_26))))
def wx1_put_l71 (p1 : Int32) (p2 : Int32) (p3 : Int32) (p4 : Int32) (Z Y : Nat) (post : Int32 → XT → XK → Prop) (x5 : Nat) (x6 : Nat) (x7 : Int32) (K : XK) (T : XT) : Prop := wLoop (fun (R : ((Int32) × (XT)) → Prop) (v : (Int32) × (XT)) => wx1_put_b71 p1 p2 p3 p4 Z Y post (fun x7 T => R (x7, T)) x5 x6 v.1 K v.2) (x7, T)
def wx1_put_j54 (p1 : Int32) (p2 : Int32) (p3 : Int32) (p4 : Int32) (Z Y : Nat) (post : Int32 → XT → XK → Prop)  (K : XK) (T : XT) : Prop :=
    wx1_blank  K T (fun r_29 T_30 =>
    ∃ v_32 : Nat, xr T_30 0 18 = some v_32 ∧
    ∃ j_33 : Nat, j_33 < kl K v_32 ∧ p1 = nI j_33 ∧ ∃ v_34 : Nat, xr T_30 v_32 j_33 = some v_34 ∧
    wx1_put_l71 p1 p2 p3 p4 Z Y post r_29 v_34 0 K T_30)
def wx1_put (p1 : Int32) (p2 : Int32) (p3 : Int32) (p4 : Int32) (K0 : XK) (T : XT) (Z Y : Nat) (post : Int32 → XT → XK → Prop) : Prop :=
  kc K0 + 1 ≤ Z ∧ ks K0 + 2 ≤ Y ∧ ∀ K_35 : XK, K_35 = knew K0 1 2 2 → ∀ T_36 : XT, T_36 = xnil T (kz K0) →
  ∃ j_37 : Nat, j_37 < kl K_35 (kz K0) ∧ 0 = nI j_37 ∧ ∀ T_38 : XT, T_38 = xwi T_36 (kz K0) j_37 p1 →
  ∃ j_39 : Nat, j_39 < kl K_35 (kz K0) ∧ 1 = nI j_39 ∧ ∀ T_40 : XT, T_40 = xwi T_38 (kz K0) j_39 p4 →
  wx1_is (kz K0) K_35 T_40 (fun r_41 =>
  ((r_41 = 0 →
    kc K_35 + 1 ≤ Z ∧ ks K_35 + 1 ≤ Y ∧ ∀ K_44 : XK, K_44 = knew K_35 1 1 1 → ∀ T_45 : XT, T_45 = xnil T_40 (kz K_35) →
    ∃ j_46 : Nat, j_46 < kl K_44 (kz K_35) ∧ 0 = nI j_46 ∧ ∀ T_47 : XT, T_47 = xwi T_45 (kz K_35) j_46 p3 →
    wx1_areValues (kz K_35) K_44 T_47 (fun r_48 =>
    wx1_why_2 0 r_48 K_44 T_47 (fun r_51 =>
    wx1_isRefused r_51 K_44 T_47 (fun r_54 T_55 =>
    ((r_54 = 0 →
      wx1_put_j54 p1 p2 p3 p4 Z Y post  K_44 T_55) ∧
     (¬ (r_54 = 0) →
      post (-1) T_55 (kset K_44 Z Y))))))) ∧
   (¬ (r_41 = 0) →
    wx1_isUnknown p2 K_35 T_40 (fun r_58 =>
    ((r_58 = 0 →
      kc K_35 + 1 ≤ Z ∧ ks K_35 + 1 ≤ Y ∧ ∀ K_61 : XK, K_61 = knew K_35 1 1 1 → ∀ T_62 : XT, T_62 = xnil T_40 (kz K_35) →
      ∃ j_63 : Nat, j_63 < kl K_61 (kz K_35) ∧ 0 = nI j_63 ∧ ∀ T_64 : XT, T_64 = xwi T_62 (kz K_35) j_63 p3 →
      wx1_areValues (kz K_35) K_61 T_64 (fun r_65 =>
      wx1_why_2 0 r_65 K_61 T_64 (fun r_68 =>
      wx1_isRefused r_68 K_61 T_64 (fun r_71 T_72 =>
      ((r_71 = 0 →
        wx1_put_j54 p1 p2 p3 p4 Z Y post  K_61 T_72) ∧
       (¬ (r_71 = 0) →
        post (-1) T_72 (kset K_61 Z Y))))))) ∧
     (¬ (r_58 = 0) →
      kc K_35 + 1 ≤ Z ∧ ks K_35 + 1 ≤ Y ∧ ∀ K_75 : XK, K_75 = knew K_35 1 1 1 → ∀ T_76 : XT, T_76 = xnil T_40 (kz K_35) →
      ∃ j_77 : Nat, j_77 < kl K_75 (kz K_35) ∧ 0 = nI j_77 ∧ ∀ T_78 : XT, T_78 = xwi T_76 (kz K_35) j_77 p3 →
      wx1_areValues (kz K_35) K_75 T_78 (fun r_79 =>
      wx1_why_2 1 r_79 K_75 T_78 (fun r_82 =>
      wx1_isRefused r_82 K_75 T_78 (fun r_85 T_86 =>
      ((r_85 = 0 →
        wx1_put_j54 p1 p2 p3 p4 Z Y post  K_75 T_86) ∧
       (¬ (r_85 = 0) →
        post (-1) T_86 (kset K_75 Z Y))))))))))))
set_option maxHeartbeats 4000000 in
theorem mx1_put (l : Launch) (G : XG) (b : Nat) (hole : Nat → Prop) (p1 : Int32) (p2 : Int32) (p3 : Int32) (p4 : Int32) (K0 : XK) (T : XT) (Z Y : Nat) (hZ : kc K0 ≤ Z) (hY : ks K0 ≤ Y)  (post : Int32 → XT → XK → Prop) (h : wx1_put p1 p2 p3 p4 K0 T Z Y post) : Met l yX1_put (ws_ yX1_put cX1_put 9 (some .int)) ({ frames := 5, cells := (Z - kc K0), slots := (Y - ks K0), locals := 115 } : Room) (xPc G b hole [.ref (b + 0), .int p1, .int p2, .int p3, .int p4] K0 T) (xQ G b hole K0 (Z - kc K0) (Y - ks K0) (ρ := Int32) eI (fun r T1 K1 => post r T1 K1)) (Z - kc K0) (Y - ks K0) (xA b hole) := by
  refine Met.ofW (cc := cX1_put) (maxL := 9) (ret := (some .int)) (by decide) rfl ?_
  intro p e s m args below meth c s₁ B hml hv
  obtain ⟨rfl, hP, hK, hV⟩ := hv
  have hx := B.exec
  have hb := B.bytes
  have hr := B.returns
  have hts := atoms_spec (ws := ws_ yX1_put cX1_put 9 (some .int)) B.pre
  have hts : ∀ w ∈ lw_all, w.before _ s = true := fun w h => hts w (List.mem_cons_of_mem _ h)
  have hown : s.vm.findClass RX1 = some m.cls := findClass_of_methodNamed B.named
  have hlocks := B.notSynchronized
  have hb0 : b ≤ s.heap.size := by rw [hP.2.2.2]; exact Nat.le_add_right _ _
  have hS : va_S (xA b hole) s.heap s.heap [] := va_S.rf
  have hl := lv_entry ([.ref (b + 0), .int p1, .int p2, .int p3, .int p4]) (n := 9) (Nat.le_of_ble_eq_true rfl)
  rw [lg_entry_eq]
  generalize (lg_sl ([.ref (b + 0), .int p1, .int p2, .int p3, .int p4]) ++ List.replicate (9 - (lg_sl ([.ref (b + 0), .int p1, .int p2, .int p3, .int p4])).length) Slot.unset).toArray = ls at hl ⊢
  have hl : lv_has ls 9 [(0, .ref (b + 0)), (1, .int p1), (2, .int p2), (3, .int p3), (4, .int p4)] := hl
  have hle0 : kle K0 K0 := kle.rf
  have L71 : ∀ (x5 : Nat) (x6 : Nat) (x7 : Int32) (T : XT) (K : XK) (cn sn : Nat) (H : Heap) (locs : List Loc) (ls : Array Slot), wx1_put_l71 p1 p2 p3 p4 Z Y post x5 x6 x7 K T → kle K0 K → kc K0 + cn = kc K → ks K0 + sn = ks K → kc K ≤ Z → ks K ≤ Y → (kd K x5 = 1) → (kd K x6 = 2) → xW G b hole K T H → va_S (xA b hole) s.heap H locs → lv_has ls 9 [(0, .ref (b + 0)), (2, .int p2), (3, .int p3), (4, .int p4), (5, .ref (b + x5)), (6, .ref (b + x6)), (7, .int x7)] → W p l e (headSpec (ws_ yX1_put cX1_put 9 (some .int)) ({ frames := 5, cells := (Z - kc K0), slots := (Y - ks K0), locals := 115 } : Room)).room s m ([.ref (b + 0), .int p1, .int p2, .int p3, .int p4] : List Value).toArray below meth c H locs cn sn (MQ below (xQ G b hole K0 (Z - kc K0) (Y - ks K0) (ρ := Int32) eI (fun r T1 K1 => post r T1 K1)) ([.ref (b + 0), .int p1, .int p2, .int p3, .int p4] : List Value).toArray s (Z - kc K0) (Y - ks K0) (xA b hole)) (F0 m 71 ls []) := by
    intro x5 x6 x7 T K cn sn H locs ls h hle0 hcn hsn hzz hyy hk_x5 hk_x6 hP hS hl
    obtain ⟨I71, n71, hI, hstep71⟩ := h
    induction n71 using Nat.strongRecOn generalizing x7 T H locs ls with
    | ind n71 ih71 =>
      have h : wx1_put_b71 p1 p2 p3 p4 Z Y post (fun x7 T => ∃ mm, mm < n71 ∧ I71 mm (x7, T)) x5 x6 x7 K T := hstep71 n71 _ hI
      clear hI
      unfold wx1_put_b71 at h
      refine lv_iload hx hb dX1_put_71 (lv_at hl 6 rfl) ?_
      refine lv_aload hx hb dX1_put_73 (lv_at hl 5 rfl) ?_
      refine x_get (CC := RX6) (TT := TX6) (N := 3) (ci := 5) (v := .int (xi T x6 2)) hx hb hts in_X6 hown hK hP hk_x6 (by decide) (by decide) rfl (xE_2 hk_x6) 2 (by decide) q372 rfl rfl dX1_put_75 ?_
      refine lv_icmp_ge (tgt := 148) hx hb dX1_put_78 (by decide) (fun c_28 => ?_) (fun c_28 => ?_)
      · have h := h.1 c_28
        refine lv_aload_n hx hb dX1_put_148 rfl (lv_at hl 0 rfl) ?_
        refine lv_aload_n hx hb dX1_put_149 rfl (lv_at hl 0 rfl) ?_
        refine lv_aload hx hb dX1_put_150 (lv_at hl 4 rfl) ?_
        obtain ⟨Z_4, Y_5, hz1, hz2, hy1, hy2, h⟩ := h
        refine x_cV (k := 0) (As := [.ref (b + x5)]) (rest := [.ref (b + 0)]) ⟨hx, hb, hml, hown, hts⟩ (mx1_sorted l G b hole x5 K T Z_4 Y_5 hz1 hy1 hk_x5 _ h) (cwV 1 hts (lw_V q1067 q750 qs23 q118 q751) rfl rfl rfl cwx_X1_sorted ⟨Nat.le_of_ble_eq_true rfl, Nat.le_of_ble_eq_true rfl⟩) (x_recv (CC := RX1) (ci := 0) hK hP (xs_0 hP) (by decide) (by decide) rfl (xE_8 (xs_0 hP))) hK hV hb0 hP hS rfl hl.1 rfl (Nat.le_of_ble_eq_true rfl) dX1_put_152 ⟨by first | exact Nat.zero_le _ | (show _ + _ ≤ Z - kc K0; omega), by first | exact Nat.zero_le _ | (show _ + _ ≤ Y - ks K0; omega)⟩ (fun r_1 T1 K1 H locs h hle1 hc1 hs1 hP hS => ?_)
        obtain ⟨h, hk_r_1⟩ := h
        generalize T1 = T_2 at h hP
        generalize K1 = K_3 at h hP hle1 hc1 hs1 hk_r_1
        have hk_x5 : kd K_3 x5 = 1 := hle1.kd hk_x5
        have hk_x6 : kd K_3 x6 = 2 := hle1.kd hk_x6
        have hle0 := hle0.tr hle1
        have hcn : kc K0 + (cn + (Z_4 - kc K)) = kc K_3 := by omega
        have hsn : ks K0 + (sn + (Y_5 - ks K)) = ks K_3 := by omega
        have hzz : kc K_3 ≤ Z := by omega
        have hyy : ks K_3 ≤ Y := by omega
        refine lv_iload hx hb dX1_put_155 (lv_at hl 3 rfl) ?_
        obtain ⟨Z_9, Y_10, hz1, hz2, hy1, hy2, h⟩ := h
        refine x_cV (k := 0) (As := [.ref (b + r_1), .int p4]) (rest := []) ⟨hx, hb, hml, hown, hts⟩ (mx1_lays l G b hole (some r_1) p4 K_3 T_2 Z_9 Y_10 hz1 hy1 (fun _ e9 => by cases e9; exact hk_r_1) _ h) (cwV 2 hts (lw_V q995 q997 qs43 q118 q998) rfl rfl rfl cwx_X1_lays ⟨Nat.le_of_ble_eq_true rfl, Nat.le_of_ble_eq_true rfl⟩) (x_recv (CC := RX1) (ci := 0) hK hP (xs_0 hP) (by decide) (by decide) rfl (xE_8 (xs_0 hP))) hK hV hb0 hP hS rfl hl.1 rfl (Nat.le_of_ble_eq_true rfl) dX1_put_157 ⟨by first | exact Nat.zero_le _ | (show _ + _ ≤ Z - kc K0; omega), by first | exact Nat.zero_le _ | (show _ + _ ≤ Y - ks K0; omega)⟩ (fun r_6 T1 K1 H locs h hle1 hc1 hs1 hP hS => ?_)
        generalize T1 = T_7 at h hP
        generalize K1 = K_8 at h hP hle1 hc1 hs1
        have hk_x5 : kd K_8 x5 = 1 := hle1.kd hk_x5
        have hk_x6 : kd K_8 x6 = 2 := hle1.kd hk_x6
        have hle0 := hle0.tr hle1
        have hcn : kc K0 + ((cn + (Z_4 - kc K)) + (Z_9 - kc K_3)) = kc K_8 := by omega
        have hsn : ks K0 + ((sn + (Y_5 - ks K)) + (Y_10 - ks K_3)) = ks K_8 := by omega
        have hzz : kc K_8 ≤ Z := by omega
        have hyy : ks K_8 ≤ Y := by omega
        refine W.widen (k := Z - kc K0) (n := Y - ks K0) (by omega) (by omega) ?_
        exact W.iret (v := r_6) hx hb hr (fun t ht hW => ⟨⟨r_6, T_7, (kset K_8 Z Y), rfl, h, hle0, (by show Z = _; omega), (by show Y = _; omega), by rw [ht]; exact hP, va_K.moved hW.alike hK⟩, hS.F ht⟩) hS.2.2 dX1_put_160
      · have h := h.2 c_28
        refine lv_aload hx hb dX1_put_81 (lv_at hl 5 rfl) ?_
        obtain ⟨v_11, ev_11, h⟩ := h
        refine x_get (CC := RX6) (TT := TX6) (N := 3) (ci := 5) (v := rfv b (xr T x6 0)) hx hb hts in_X6 hown hK hP hk_x6 (by decide) (by decide) rfl (xE_2 hk_x6) 0 (by decide) q366 rfl rfl dX1_put_83 ?_
        refine x_some ev_11 ?_
        have hk_v_11 : kd K v_11 = 1 := hP.ty hk_x6 (by decide) ev_11
        refine lv_iload hx hb dX1_put_86 (lv_at hl 6 rfl) ?_
        obtain ⟨j_12, hj_12, ej_12, h⟩ := h
        refine x_iald hx hb hK hP hk_v_11 ej_12 hj_12 dX1_put_88 ?_
        refine lv_bipush (v := 15) hx hb dX1_put_89 (by decide) ?_
        refine lv_iconst (v := 4) hx hb dX1_put_91 (by decide) ?_
        refine lv_iload_n hx hb dX1_put_92 rfl (lv_at hl 1 rfl) ?_
        refine lv_imul hx hb dX1_put_93 ?_
        refine m_ishl hx hb dX1_put_94 ?_
        refine lv_iconst (v := (-1)) hx hb dX1_put_95 (by decide) ?_
        refine lv_ixor hx hb dX1_put_96 ?_
        refine lv_iand hx hb dX1_put_97 ?_
        refine lv_topi (fun x8_13 ex8_13 => ?_)
        have h := h x8_13 ex8_13
        refine lv_istore (lv' := [(8, .int x8_13), (0, .ref (b + 0)), (2, .int p2), (3, .int p3), (4, .int p4), (5, .ref (b + x5)), (6, .ref (b + x6)), (7, .int x7)]) hx hb dX1_put_98 hl (by decide) rfl (fun ls hl => ?_)
        refine lv_aload hx hb dX1_put_100 (lv_at hl 5 rfl) ?_
        refine lv_iload hx hb dX1_put_102 (lv_at hl 0 rfl) ?_
        refine lv_aload hx hb dX1_put_104 (lv_at hl 5 rfl) ?_
        refine lv_iload hx hb dX1_put_106 (lv_at hl 0 rfl) ?_
        obtain ⟨j_14, hj_14, ej_14, h⟩ := h
        refine x_iald hx hb hK hP hk_x5 ej_14 hj_14 dX1_put_108 ?_
        refine lv_aload hx hb dX1_put_109 (lv_at hl 6 rfl) ?_
        obtain ⟨v_15, ev_15, h⟩ := h
        refine x_get (CC := RX6) (TT := TX6) (N := 3) (ci := 5) (v := rfv b (xr T x6 1)) hx hb hts in_X6 hown hK hP hk_x6 (by decide) (by decide) rfl (xE_2 hk_x6) 1 (by decide) q369 rfl rfl dX1_put_111 ?_
        refine x_some ev_15 ?_
        have hk_v_15 : kd K v_15 = 1 := hP.ty hk_x6 (by decide) ev_15
        refine lv_iload hx hb dX1_put_114 (lv_at hl 7 rfl) ?_
        obtain ⟨j_16, hj_16, ej_16, h⟩ := h
        refine x_iald hx hb hK hP hk_v_15 ej_16 hj_16 dX1_put_116 ?_
        refine lv_aload_n hx hb dX1_put_117 rfl (lv_at hl 1 rfl) ?_
        refine lv_iload_n hx hb dX1_put_118 rfl (lv_at hl 3 rfl) ?_
        refine lv_aload hx hb dX1_put_119 (lv_at hl 6 rfl) ?_
        obtain ⟨v_17, ev_17, h⟩ := h
        refine x_get (CC := RX6) (TT := TX6) (N := 3) (ci := 5) (v := rfv b (xr T x6 0)) hx hb hts in_X6 hown hK hP hk_x6 (by decide) (by decide) rfl (xE_2 hk_x6) 0 (by decide) q366 rfl rfl dX1_put_121 ?_
        refine x_some ev_17 ?_
        have hk_v_17 : kd K v_17 = 1 := hP.ty hk_x6 (by decide) ev_17
        refine lv_iload hx hb dX1_put_124 (lv_at hl 7 rfl) ?_
        obtain ⟨j_18, hj_18, ej_18, h⟩ := h
        refine x_iald hx hb hK hP hk_v_17 ej_18 hj_18 dX1_put_126 ?_
        refine lv_iload_n hx hb dX1_put_127 rfl (lv_at hl 2 rfl) ?_
        refine x_cS (As := [.int (xi T v_17 j_18), .int p2]) (rest := [.int p3, .ref (b + 0), .int (xi T v_15 j_16), .int (xi T x5 j_14), .int x8_13, .ref (b + x5)]) ⟨hx, hb, hml, hown, hts⟩ (mx1_exponent l G b hole (xi T v_17 j_18) p2 K T  _ h) (va_cwS 2 hts (lw_S q723 q724 q118 q725) rfl rfl rfl cwx_X1_exponent ⟨Nat.le_of_ble_eq_true rfl, Nat.le_of_ble_eq_true rfl⟩) hK hV hb0 hP hS rfl hl.1 rfl (Nat.le_of_ble_eq_true rfl) dX1_put_128 ⟨by first | exact Nat.zero_le _ | (show _ + _ ≤ Z - kc K0; omega), by first | exact Nat.zero_le _ | (show _ + _ ≤ Y - ks K0; omega)⟩ (fun r_19 T1 K1 H locs h hle1 hc1 hs1 hP hS => ?_)
        obtain ⟨h, hTe, hKe⟩ := h
        rw [hTe, hKe] at hP
        refine x_cV (k := 0) (As := [.int p3, .int r_19]) (rest := [.int (xi T v_15 j_16), .int (xi T x5 j_14), .int x8_13, .ref (b + x5)]) ⟨hx, hb, hml, hown, hts⟩ (mx1_power l G b hole p3 r_19 K T  _ h) (cwV 2 hts (lw_V q851 q853 qs31 q118 q854) rfl rfl rfl cwx_X1_power ⟨Nat.le_of_ble_eq_true rfl, Nat.le_of_ble_eq_true rfl⟩) (x_recv (CC := RX1) (ci := 0) hK hP (xs_0 hP) (by decide) (by decide) rfl (xE_8 (xs_0 hP))) hK hV hb0 hP hS rfl hl.1 rfl (Nat.le_of_ble_eq_true rfl) dX1_put_131 ⟨by first | exact Nat.zero_le _ | (show _ + _ ≤ Z - kc K0; omega), by first | exact Nat.zero_le _ | (show _ + _ ≤ Y - ks K0; omega)⟩ (fun r_22 T1 K1 H locs h hle1 hc1 hs1 hP hS => ?_)
        obtain ⟨h, hTe, hKe⟩ := h
        rw [hTe, hKe] at hP
        refine lv_imul hx hb dX1_put_134 ?_
        refine lv_iadd hx hb dX1_put_135 ?_
        refine lv_aload_n hx hb dX1_put_136 rfl (lv_at hl 1 rfl) ?_
        refine x_get (CC := RX1) (TT := TX1) (N := 26) (ci := 0) (v := .int (xi T 0 0)) hx hb hts in_X1 hown hK hP (xs_0 hP) (by decide) (by decide) rfl (xE_8 (xs_0 hP)) 0 (by decide) q384 rfl rfl dX1_put_137 ?_
        obtain ⟨hne, h⟩ := h
        refine m_irem hx hb dX1_put_140 hne ?_
        obtain ⟨j_25, hj_25, ej_25, h⟩ := h
        obtain ⟨T_26, eT_26⟩ : ∃ z : XT, z = xwi T x5 j_25 (jrem ((xi T x5 j_14) + ((xi T v_15 j_16) * r_22)) (xi T 0 0)) := ⟨_, rfl⟩
        have h := h T_26 eT_26
        refine x_iast hx hb hK hP hS hk_x5 ej_25 hj_25 dX1_put_141 (fun H locs hP hS => ?_)
        rw [← eT_26] at hP
        obtain ⟨x7_27, ex7_27⟩ : ∃ y : Int32, y = x7 + 1 := ⟨_, rfl⟩
        have h := h x7_27 ex7_27
        refine lv_iinc (v := x7_27) (lv' := [(7, .int x7_27), (8, .int x8_13), (0, .ref (b + 0)), (2, .int p2), (3, .int p3), (4, .int p4), (5, .ref (b + x5)), (6, .ref (b + x6))]) hx hb dX1_put_142 hl (k := 7) rfl (by rw [ex7_27]; rfl) (by decide) rfl (fun ls hl => ?_)
        refine lv_goto (tgt := 71) hx hb dX1_put_145 (by decide) ?_
        obtain ⟨mm, hmm, h⟩ := h
        exact ih71 mm hmm _ _ _ _ _  hP hS (lv_sub hl [2, 3, 4, 5, 6, 7, 0] rfl) h
  have J54 : ∀  (T : XT) (K : XK) (cn sn : Nat) (H : Heap) (locs : List Loc) (ls : Array Slot), wx1_put_j54 p1 p2 p3 p4 Z Y post  K T → kle K0 K → kc K0 + cn = kc K → ks K0 + sn = ks K → kc K ≤ Z → ks K ≤ Y → xW G b hole K T H → va_S (xA b hole) s.heap H locs → lv_has ls 9 [(0, .ref (b + 0)), (1, .int p1), (2, .int p2), (3, .int p3), (4, .int p4)] → W p l e (headSpec (ws_ yX1_put cX1_put 9 (some .int)) ({ frames := 5, cells := (Z - kc K0), slots := (Y - ks K0), locals := 115 } : Room)).room s m ([.ref (b + 0), .int p1, .int p2, .int p3, .int p4] : List Value).toArray below meth c H locs cn sn (MQ below (xQ G b hole K0 (Z - kc K0) (Y - ks K0) (ρ := Int32) eI (fun r T1 K1 => post r T1 K1)) ([.ref (b + 0), .int p1, .int p2, .int p3, .int p4] : List Value).toArray s (Z - kc K0) (Y - ks K0) (xA b hole)) (F0 m 54 ls []) := by
    intro  T K cn sn H locs ls h hle0 hcn hsn hzz hyy hP hS hl
    unfold wx1_put_j54 at h
    refine lv_aload_n hx hb dX1_put_54 rfl (lv_at hl 0 rfl) ?_
    refine x_cV (k := 0) (As := []) (rest := []) ⟨hx, hb, hml, hown, hts⟩ (mx1_blank l G b hole  K T  _ h) (cwV 0 hts (lw_V q835 q739 qs21 q118 q740) rfl rfl rfl cwx_X1_blank ⟨Nat.le_of_ble_eq_true rfl, Nat.le_of_ble_eq_true rfl⟩) (x_recv (CC := RX1) (ci := 0) hK hP (xs_0 hP) (by decide) (by decide) rfl (xE_8 (xs_0 hP))) hK hV hb0 hP hS rfl hl.1 rfl (Nat.le_of_ble_eq_true rfl) dX1_put_55 ⟨by first | exact Nat.zero_le _ | (show _ + _ ≤ Z - kc K0; omega), by first | exact Nat.zero_le _ | (show _ + _ ≤ Y - ks K0; omega)⟩ (fun r_29 T1 K1 H locs h hle1 hc1 hs1 hP hS => ?_)
    obtain ⟨h, hk_r_29, hKe⟩ := h
    rw [hKe] at hP
    generalize T1 = T_30 at h hP
    rw [hKe] at hk_r_29
    refine lv_astore (lv' := [(5, .ref (b + r_29)), (0, .ref (b + 0)), (1, .int p1), (2, .int p2), (3, .int p3), (4, .int p4)]) hx hb dX1_put_58 hl (by decide) rfl (fun ls hl => ?_)
    refine lv_aload_n hx hb dX1_put_60 rfl (lv_at hl 1 rfl) ?_
    obtain ⟨v_32, ev_32, h⟩ := h
    refine x_get (CC := RX1) (TT := TX1) (N := 26) (ci := 0) (v := rfv b (xr T_30 0 18)) hx hb hts in_X1 hown hK hP (xs_0 hP) (by decide) (by decide) rfl (xE_8 (xs_0 hP)) 18 (by decide) q405 rfl rfl dX1_put_61 ?_
    refine x_some ev_32 ?_
    have hk_v_32 : kd K v_32 = 3 := hP.ty (xs_0 hP) (by decide) ev_32
    refine lv_iload_n hx hb dX1_put_64 rfl (lv_at hl 2 rfl) ?_
    obtain ⟨j_33, hj_33, ej_33, v_34, ev_34, h⟩ := h
    refine x_aald3 hx hb hK hP hk_v_32 ej_33 hj_33 dX1_put_65 ?_
    refine x_some ev_34 ?_
    have hk_v_34 : kd K v_34 = 2 := hP.ty hk_v_32 (by decide) ev_34
    refine lv_astore (lv' := [(6, .ref (b + v_34)), (5, .ref (b + r_29)), (0, .ref (b + 0)), (1, .int p1), (2, .int p2), (3, .int p3), (4, .int p4)]) hx hb dX1_put_66 hl (by decide) rfl (fun ls hl => ?_)
    refine lv_iconst (v := 0) hx hb dX1_put_68 (by decide) ?_
    refine lv_istore (lv' := [(7, .int 0), (6, .ref (b + v_34)), (5, .ref (b + r_29)), (0, .ref (b + 0)), (1, .int p1), (2, .int p2), (3, .int p3), (4, .int p4)]) hx hb dX1_put_69 hl (by decide) rfl (fun ls hl => ?_)
    exact L71 _ _ _ _ _ _ _ _ _ _ h hle0 hcn hsn hzz hyy hk_r_29 hk_v_34 hP hS (lv_sub hl [3, 5, 6, 7, 2, 1, 0] rfl)
  have hcn : kc K0 + 0 = kc K0 := rfl
  have hsn : ks K0 + 0 = ks K0 := rfl
  have hzz := hZ
  have hyy := hY
  unfold wx1_put at h
  refine lv_aload_n hx hb dX1_put_0 rfl (lv_at hl 0 rfl) ?_
  refine lv_aload_n hx hb dX1_put_1 rfl (lv_at hl 0 rfl) ?_
  refine lv_iconst (v := 2) hx hb dX1_put_2 (by decide) ?_
  obtain ⟨hc1, hs1, h⟩ := h
  obtain ⟨K_35, eK_35⟩ : ∃ z : XK, z = knew K0 1 2 2 := ⟨_, rfl⟩
  obtain ⟨T_36, eT_36⟩ : ∃ z : XT, z = xnil T (kz K0) := ⟨_, rfl⟩
  have h := h K_35 eK_35 T_36 eT_36
  have hle1 : kle K0 K_35 := by rw [eK_35]; exact kle.new hP.2.2.1 _ _ _
  refine x_newai (N := 2) hx hb hts q170 hK hP hS (by decide) (by decide) (by show _ + 1 ≤ Z - kc K0; omega) (by show _ + _ ≤ Y - ks K0; omega) dX1_put_3 (fun H hP hS => ?_)
  rw [← eK_35, ← eT_36] at hP
  have hk_n35 : kd K_35 (kz K0) = 1 := by rw [eK_35]; exact knew_kd
  have hle0 := hle0.tr hle1
  have hcn : kc K0 + (0 + 1) = kc K_35 := by rw [eK_35]; show _ = kc K0 + 1; omega
  have hsn : ks K0 + (0 + 2) = ks K_35 := by rw [eK_35]; show _ = ks K0 + 2; omega
  have hzz : kc K_35 ≤ Z := by rw [eK_35]; exact hc1
  have hyy : ks K_35 ≤ Y := by rw [eK_35]; exact hs1
  refine lv_dup hx hb dX1_put_5 rfl ?_
  refine lv_iconst (v := 0) hx hb dX1_put_6 (by decide) ?_
  refine lv_iload_n hx hb dX1_put_7 rfl (lv_at hl 1 rfl) ?_
  obtain ⟨j_37, hj_37, ej_37, h⟩ := h
  obtain ⟨T_38, eT_38⟩ : ∃ z : XT, z = xwi T_36 (kz K0) j_37 p1 := ⟨_, rfl⟩
  have h := h T_38 eT_38
  refine x_iast hx hb hK hP hS hk_n35 ej_37 hj_37 dX1_put_8 (fun H locs hP hS => ?_)
  rw [← eT_38] at hP
  refine lv_dup hx hb dX1_put_9 rfl ?_
  refine lv_iconst (v := 1) hx hb dX1_put_10 (by decide) ?_
  refine lv_iload hx hb dX1_put_11 (lv_at hl 4 rfl) ?_
  obtain ⟨j_39, hj_39, ej_39, h⟩ := h
  obtain ⟨T_40, eT_40⟩ : ∃ z : XT, z = xwi T_38 (kz K0) j_39 p4 := ⟨_, rfl⟩
  have h := h T_40 eT_40
  refine x_iast hx hb hK hP hS hk_n35 ej_39 hj_39 dX1_put_13 (fun H locs hP hS => ?_)
  rw [← eT_40] at hP
  refine x_cS (As := [.ref (b + (kz K0))]) (rest := [.ref (b + 0), .ref (b + 0)]) ⟨hx, hb, hml, hown, hts⟩ (mx1_is l G b hole (kz K0) K_35 T_40 hk_n35 _ h) (va_cwS 1 hts (lw_S q793 q794 q118 q795) rfl rfl rfl cwx_X1_is ⟨Nat.le_of_ble_eq_true rfl, Nat.le_of_ble_eq_true rfl⟩) hK hV hb0 hP hS rfl hl.1 rfl (Nat.le_of_ble_eq_true rfl) dX1_put_14 ⟨by first | exact Nat.zero_le _ | (show _ + _ ≤ Z - kc K0; omega), by first | exact Nat.zero_le _ | (show _ + _ ≤ Y - ks K0; omega)⟩ (fun r_41 T1 K1 H locs h hle1 hc1 hs1 hP hS => ?_)
  obtain ⟨h, hTe, hKe⟩ := h
  rw [hTe, hKe] at hP
  refine lv_if_eq (tgt := 31) hx hb dX1_put_17 (by decide) (fun c_90 => ?_) (fun c_90 => ?_)
  · have h := h.1 c_90
    refine lv_iconst (v := 0) hx hb dX1_put_31 (by decide) ?_
    refine lv_aload_n hx hb dX1_put_32 rfl (lv_at hl 0 rfl) ?_
    refine lv_iconst (v := 1) hx hb dX1_put_33 (by decide) ?_
    obtain ⟨hc1, hs1, h⟩ := h
    obtain ⟨K_44, eK_44⟩ : ∃ z : XK, z = knew K_35 1 1 1 := ⟨_, rfl⟩
    obtain ⟨T_45, eT_45⟩ : ∃ z : XT, z = xnil T_40 (kz K_35) := ⟨_, rfl⟩
    have h := h K_44 eK_44 T_45 eT_45
    have hle1 : kle K_35 K_44 := by rw [eK_44]; exact kle.new hP.2.2.1 _ _ _
    refine x_newai (N := 1) hx hb hts q170 hK hP hS (by decide) (by decide) (by show _ + 1 ≤ Z - kc K0; omega) (by show _ + _ ≤ Y - ks K0; omega) dX1_put_34 (fun H hP hS => ?_)
    rw [← eK_44, ← eT_45] at hP
    have hk_n44 : kd K_44 (kz K_35) = 1 := by rw [eK_44]; exact knew_kd
    have hle0 := hle0.tr hle1
    have hcn : kc K0 + ((0 + 1) + 1) = kc K_44 := by rw [eK_44]; show _ = kc K_35 + 1; omega
    have hsn : ks K0 + ((0 + 2) + 1) = ks K_44 := by rw [eK_44]; show _ = ks K_35 + 1; omega
    have hzz : kc K_44 ≤ Z := by rw [eK_44]; exact hc1
    have hyy : ks K_44 ≤ Y := by rw [eK_44]; exact hs1
    refine lv_dup hx hb dX1_put_36 rfl ?_
    refine lv_iconst (v := 0) hx hb dX1_put_37 (by decide) ?_
    refine lv_iload_n hx hb dX1_put_38 rfl (lv_at hl 3 rfl) ?_
    obtain ⟨j_46, hj_46, ej_46, h⟩ := h
    obtain ⟨T_47, eT_47⟩ : ∃ z : XT, z = xwi T_45 (kz K_35) j_46 p3 := ⟨_, rfl⟩
    have h := h T_47 eT_47
    refine x_iast hx hb hK hP hS hk_n44 ej_46 hj_46 dX1_put_39 (fun H locs hP hS => ?_)
    rw [← eT_47] at hP
    refine x_cV (k := 0) (As := [.ref (b + (kz K_35))]) (rest := [.int 0, .ref (b + 0), .ref (b + 0)]) ⟨hx, hb, hml, hown, hts⟩ (mx1_areValues l G b hole (kz K_35) K_44 T_47 hk_n44 _ h) (cwV 1 hts (lw_V q843 q845 qs29 q118 q846) rfl rfl rfl cwx_X1_areValues ⟨Nat.le_of_ble_eq_true rfl, Nat.le_of_ble_eq_true rfl⟩) (x_recv (CC := RX1) (ci := 0) hK hP (xs_0 hP) (by decide) (by decide) rfl (xE_8 (xs_0 hP))) hK hV hb0 hP hS rfl hl.1 rfl (Nat.le_of_ble_eq_true rfl) dX1_put_40 ⟨by first | exact Nat.zero_le _ | (show _ + _ ≤ Z - kc K0; omega), by first | exact Nat.zero_le _ | (show _ + _ ≤ Y - ks K0; omega)⟩ (fun r_48 T1 K1 H locs h hle1 hc1 hs1 hP hS => ?_)
    obtain ⟨h, hTe, hKe⟩ := h
    rw [hTe, hKe] at hP
    refine x_cV (k := 0) (As := [.int 0, .int r_48]) (rest := [.ref (b + 0)]) ⟨hx, hb, hml, hown, hts⟩ (mx1_why_2 l G b hole 0 r_48 K_44 T_47  _ h) (cwV 2 hts (lw_V q773 q775 qs25 q118 q776) rfl rfl rfl cwx_X1_why_2 ⟨Nat.le_of_ble_eq_true rfl, Nat.le_of_ble_eq_true rfl⟩) (x_recv (CC := RX1) (ci := 0) hK hP (xs_0 hP) (by decide) (by decide) rfl (xE_8 (xs_0 hP))) hK hV hb0 hP hS rfl hl.1 rfl (Nat.le_of_ble_eq_true rfl) dX1_put_43 ⟨by first | exact Nat.zero_le _ | (show _ + _ ≤ Z - kc K0; omega), by first | exact Nat.zero_le _ | (show _ + _ ≤ Y - ks K0; omega)⟩ (fun r_51 T1 K1 H locs h hle1 hc1 hs1 hP hS => ?_)
    obtain ⟨h, hTe, hKe⟩ := h
    rw [hTe, hKe] at hP
    refine x_cV (k := 0) (As := [.int r_51]) (rest := []) ⟨hx, hb, hml, hown, hts⟩ (mx1_isRefused l G b hole r_51 K_44 T_47  _ h) (cwV 1 hts (lw_V q777 q779 qs26 q118 q780) rfl rfl rfl cwx_X1_isRefused ⟨Nat.le_of_ble_eq_true rfl, Nat.le_of_ble_eq_true rfl⟩) (x_recv (CC := RX1) (ci := 0) hK hP (xs_0 hP) (by decide) (by decide) rfl (xE_8 (xs_0 hP))) hK hV hb0 hP hS rfl hl.1 rfl (Nat.le_of_ble_eq_true rfl) dX1_put_46 ⟨by first | exact Nat.zero_le _ | (show _ + _ ≤ Z - kc K0; omega), by first | exact Nat.zero_le _ | (show _ + _ ≤ Y - ks K0; omega)⟩ (fun r_54 T1 K1 H locs h hle1 hc1 hs1 hP hS => ?_)
    obtain ⟨h, hKe⟩ := h
    rw [hKe] at hP
    generalize T1 = T_55 at h hP
    refine lv_if_eq (tgt := 54) hx hb dX1_put_49 (by decide) (fun c_57 => ?_) (fun c_57 => ?_)
    · have h := h.1 c_57
      exact J54 _ _ _ _ _ _ _ h hle0 hcn hsn hzz hyy hP hS (lv_sub hl [0, 1, 2, 3, 4] rfl)
    · have h := h.2 c_57
      refine lv_iconst (v := (-1)) hx hb dX1_put_52 (by decide) ?_
      refine W.widen (k := Z - kc K0) (n := Y - ks K0) (by omega) (by omega) ?_
      exact W.iret (v := (-1)) hx hb hr (fun t ht hW => ⟨⟨(-1), T_55, (kset K_44 Z Y), rfl, h, hle0, (by show Z = _; omega), (by show Y = _; omega), by rw [ht]; exact hP, va_K.moved hW.alike hK⟩, hS.F ht⟩) hS.2.2 dX1_put_53
  · have h := h.2 c_90
    refine lv_iload_n hx hb dX1_put_20 rfl (lv_at hl 2 rfl) ?_
    refine x_cS (As := [.int p2]) (rest := [.ref (b + 0), .ref (b + 0)]) ⟨hx, hb, hml, hown, hts⟩ (mx1_isUnknown l G b hole p2 K_35 T_40  _ h) (va_cwS 1 hts (lw_S q816 q817 q118 q818) rfl rfl rfl cwx_X1_isUnknown ⟨Nat.le_of_ble_eq_true rfl, Nat.le_of_ble_eq_true rfl⟩) hK hV hb0 hP hS rfl hl.1 rfl (Nat.le_of_ble_eq_true rfl) dX1_put_21 ⟨by first | exact Nat.zero_le _ | (show _ + _ ≤ Z - kc K0; omega), by first | exact Nat.zero_le _ | (show _ + _ ≤ Y - ks K0; omega)⟩ (fun r_58 T1 K1 H locs h hle1 hc1 hs1 hP hS => ?_)
    obtain ⟨h, hTe, hKe⟩ := h
    rw [hTe, hKe] at hP
    refine lv_if_eq (tgt := 31) hx hb dX1_put_24 (by decide) (fun c_89 => ?_) (fun c_89 => ?_)
    · have h := h.1 c_89
      refine lv_iconst (v := 0) hx hb dX1_put_31 (by decide) ?_
      refine lv_aload_n hx hb dX1_put_32 rfl (lv_at hl 0 rfl) ?_
      refine lv_iconst (v := 1) hx hb dX1_put_33 (by decide) ?_
      obtain ⟨hc1, hs1, h⟩ := h
      obtain ⟨K_61, eK_61⟩ : ∃ z : XK, z = knew K_35 1 1 1 := ⟨_, rfl⟩
      obtain ⟨T_62, eT_62⟩ : ∃ z : XT, z = xnil T_40 (kz K_35) := ⟨_, rfl⟩
      have h := h K_61 eK_61 T_62 eT_62
      have hle1 : kle K_35 K_61 := by rw [eK_61]; exact kle.new hP.2.2.1 _ _ _
      refine x_newai (N := 1) hx hb hts q170 hK hP hS (by decide) (by decide) (by show _ + 1 ≤ Z - kc K0; omega) (by show _ + _ ≤ Y - ks K0; omega) dX1_put_34 (fun H hP hS => ?_)
      rw [← eK_61, ← eT_62] at hP
      have hk_n61 : kd K_61 (kz K_35) = 1 := by rw [eK_61]; exact knew_kd
      have hle0 := hle0.tr hle1
      have hcn : kc K0 + ((0 + 1) + 1) = kc K_61 := by rw [eK_61]; show _ = kc K_35 + 1; omega
      have hsn : ks K0 + ((0 + 2) + 1) = ks K_61 := by rw [eK_61]; show _ = ks K_35 + 1; omega
      have hzz : kc K_61 ≤ Z := by rw [eK_61]; exact hc1
      have hyy : ks K_61 ≤ Y := by rw [eK_61]; exact hs1
      refine lv_dup hx hb dX1_put_36 rfl ?_
      refine lv_iconst (v := 0) hx hb dX1_put_37 (by decide) ?_
      refine lv_iload_n hx hb dX1_put_38 rfl (lv_at hl 3 rfl) ?_
      obtain ⟨j_63, hj_63, ej_63, h⟩ := h
      obtain ⟨T_64, eT_64⟩ : ∃ z : XT, z = xwi T_62 (kz K_35) j_63 p3 := ⟨_, rfl⟩
      have h := h T_64 eT_64
      refine x_iast hx hb hK hP hS hk_n61 ej_63 hj_63 dX1_put_39 (fun H locs hP hS => ?_)
      rw [← eT_64] at hP
      refine x_cV (k := 0) (As := [.ref (b + (kz K_35))]) (rest := [.int 0, .ref (b + 0), .ref (b + 0)]) ⟨hx, hb, hml, hown, hts⟩ (mx1_areValues l G b hole (kz K_35) K_61 T_64 hk_n61 _ h) (cwV 1 hts (lw_V q843 q845 qs29 q118 q846) rfl rfl rfl cwx_X1_areValues ⟨Nat.le_of_ble_eq_true rfl, Nat.le_of_ble_eq_true rfl⟩) (x_recv (CC := RX1) (ci := 0) hK hP (xs_0 hP) (by decide) (by decide) rfl (xE_8 (xs_0 hP))) hK hV hb0 hP hS rfl hl.1 rfl (Nat.le_of_ble_eq_true rfl) dX1_put_40 ⟨by first | exact Nat.zero_le _ | (show _ + _ ≤ Z - kc K0; omega), by first | exact Nat.zero_le _ | (show _ + _ ≤ Y - ks K0; omega)⟩ (fun r_65 T1 K1 H locs h hle1 hc1 hs1 hP hS => ?_)
      obtain ⟨h, hTe, hKe⟩ := h
      rw [hTe, hKe] at hP
      refine x_cV (k := 0) (As := [.int 0, .int r_65]) (rest := [.ref (b + 0)]) ⟨hx, hb, hml, hown, hts⟩ (mx1_why_2 l G b hole 0 r_65 K_61 T_64  _ h) (cwV 2 hts (lw_V q773 q775 qs25 q118 q776) rfl rfl rfl cwx_X1_why_2 ⟨Nat.le_of_ble_eq_true rfl, Nat.le_of_ble_eq_true rfl⟩) (x_recv (CC := RX1) (ci := 0) hK hP (xs_0 hP) (by decide) (by decide) rfl (xE_8 (xs_0 hP))) hK hV hb0 hP hS rfl hl.1 rfl (Nat.le_of_ble_eq_true rfl) dX1_put_43 ⟨by first | exact Nat.zero_le _ | (show _ + _ ≤ Z - kc K0; omega), by first | exact Nat.zero_le _ | (show _ + _ ≤ Y - ks K0; omega)⟩ (fun r_68 T1 K1 H locs h hle1 hc1 hs1 hP hS => ?_)
      obtain ⟨h, hTe, hKe⟩ := h
      rw [hTe, hKe] at hP
      refine x_cV (k := 0) (As := [.int r_68]) (rest := []) ⟨hx, hb, hml, hown, hts⟩ (mx1_isRefused l G b hole r_68 K_61 T_64  _ h) (cwV 1 hts (lw_V q777 q779 qs26 q118 q780) rfl rfl rfl cwx_X1_isRefused ⟨Nat.le_of_ble_eq_true rfl, Nat.le_of_ble_eq_true rfl⟩) (x_recv (CC := RX1) (ci := 0) hK hP (xs_0 hP) (by decide) (by decide) rfl (xE_8 (xs_0 hP))) hK hV hb0 hP hS rfl hl.1 rfl (Nat.le_of_ble_eq_true rfl) dX1_put_46 ⟨by first | exact Nat.zero_le _ | (show _ + _ ≤ Z - kc K0; omega), by first | exact Nat.zero_le _ | (show _ + _ ≤ Y - ks K0; omega)⟩ (fun r_71 T1 K1 H locs h hle1 hc1 hs1 hP hS => ?_)
      obtain ⟨h, hKe⟩ := h
      rw [hKe] at hP
      generalize T1 = T_72 at h hP
      refine lv_if_eq (tgt := 54) hx hb dX1_put_49 (by decide) (fun c_74 => ?_) (fun c_74 => ?_)
      · have h := h.1 c_74
        exact J54 _ _ _ _ _ _ _ h hle0 hcn hsn hzz hyy hP hS (lv_sub hl [0, 1, 2, 3, 4] rfl)
      · have h := h.2 c_74
        refine lv_iconst (v := (-1)) hx hb dX1_put_52 (by decide) ?_
        refine W.widen (k := Z - kc K0) (n := Y - ks K0) (by omega) (by omega) ?_
        exact W.iret (v := (-1)) hx hb hr (fun t ht hW => ⟨⟨(-1), T_72, (kset K_61 Z Y), rfl, h, hle0, (by show Z = _; omega), (by show Y = _; omega), by rw [ht]; exact hP, va_K.moved hW.alike hK⟩, hS.F ht⟩) hS.2.2 dX1_put_53
    · have h := h.2 c_89
      refine lv_iconst (v := 1) hx hb dX1_put_27 (by decide) ?_
      refine lv_goto (tgt := 32) hx hb dX1_put_28 (by decide) ?_
      refine lv_aload_n hx hb dX1_put_32 rfl (lv_at hl 0 rfl) ?_
      refine lv_iconst (v := 1) hx hb dX1_put_33 (by decide) ?_
      obtain ⟨hc1, hs1, h⟩ := h
      obtain ⟨K_75, eK_75⟩ : ∃ z : XK, z = knew K_35 1 1 1 := ⟨_, rfl⟩
      obtain ⟨T_76, eT_76⟩ : ∃ z : XT, z = xnil T_40 (kz K_35) := ⟨_, rfl⟩
      have h := h K_75 eK_75 T_76 eT_76
      have hle1 : kle K_35 K_75 := by rw [eK_75]; exact kle.new hP.2.2.1 _ _ _
      refine x_newai (N := 1) hx hb hts q170 hK hP hS (by decide) (by decide) (by show _ + 1 ≤ Z - kc K0; omega) (by show _ + _ ≤ Y - ks K0; omega) dX1_put_34 (fun H hP hS => ?_)
      rw [← eK_75, ← eT_76] at hP
      have hk_n75 : kd K_75 (kz K_35) = 1 := by rw [eK_75]; exact knew_kd
      have hle0 := hle0.tr hle1
      have hcn : kc K0 + ((0 + 1) + 1) = kc K_75 := by rw [eK_75]; show _ = kc K_35 + 1; omega
      have hsn : ks K0 + ((0 + 2) + 1) = ks K_75 := by rw [eK_75]; show _ = ks K_35 + 1; omega
      have hzz : kc K_75 ≤ Z := by rw [eK_75]; exact hc1
      have hyy : ks K_75 ≤ Y := by rw [eK_75]; exact hs1
      refine lv_dup hx hb dX1_put_36 rfl ?_
      refine lv_iconst (v := 0) hx hb dX1_put_37 (by decide) ?_
      refine lv_iload_n hx hb dX1_put_38 rfl (lv_at hl 3 rfl) ?_
      obtain ⟨j_77, hj_77, ej_77, h⟩ := h
      obtain ⟨T_78, eT_78⟩ : ∃ z : XT, z = xwi T_76 (kz K_35) j_77 p3 := ⟨_, rfl⟩
      have h := h T_78 eT_78
      refine x_iast hx hb hK hP hS hk_n75 ej_77 hj_77 dX1_put_39 (fun H locs hP hS => ?_)
      rw [← eT_78] at hP
      refine x_cV (k := 0) (As := [.ref (b + (kz K_35))]) (rest := [.int 1, .ref (b + 0), .ref (b + 0)]) ⟨hx, hb, hml, hown, hts⟩ (mx1_areValues l G b hole (kz K_35) K_75 T_78 hk_n75 _ h) (cwV 1 hts (lw_V q843 q845 qs29 q118 q846) rfl rfl rfl cwx_X1_areValues ⟨Nat.le_of_ble_eq_true rfl, Nat.le_of_ble_eq_true rfl⟩) (x_recv (CC := RX1) (ci := 0) hK hP (xs_0 hP) (by decide) (by decide) rfl (xE_8 (xs_0 hP))) hK hV hb0 hP hS rfl hl.1 rfl (Nat.le_of_ble_eq_true rfl) dX1_put_40 ⟨by first | exact Nat.zero_le _ | (show _ + _ ≤ Z - kc K0; omega), by first | exact Nat.zero_le _ | (show _ + _ ≤ Y - ks K0; omega)⟩ (fun r_79 T1 K1 H locs h hle1 hc1 hs1 hP hS => ?_)
      obtain ⟨h, hTe, hKe⟩ := h
      rw [hTe, hKe] at hP
      refine x_cV (k := 0) (As := [.int 1, .int r_79]) (rest := [.ref (b + 0)]) ⟨hx, hb, hml, hown, hts⟩ (mx1_why_2 l G b hole 1 r_79 K_75 T_78  _ h) (cwV 2 hts (lw_V q773 q775 qs25 q118 q776) rfl rfl rfl cwx_X1_why_2 ⟨Nat.le_of_ble_eq_true rfl, Nat.le_of_ble_eq_true rfl⟩) (x_recv (CC := RX1) (ci := 0) hK hP (xs_0 hP) (by decide) (by decide) rfl (xE_8 (xs_0 hP))) hK hV hb0 hP hS rfl hl.1 rfl (Nat.le_of_ble_eq_true rfl) dX1_put_43 ⟨by first | exact Nat.zero_le _ | (show _ + _ ≤ Z - kc K0; omega), by first | exact Nat.zero_le _ | (show _ + _ ≤ Y - ks K0; omega)⟩ (fun r_82 T1 K1 H locs h hle1 hc1 hs1 hP hS => ?_)
      obtain ⟨h, hTe, hKe⟩ := h
      rw [hTe, hKe] at hP
      refine x_cV (k := 0) (As := [.int r_82]) (rest := []) ⟨hx, hb, hml, hown, hts⟩ (mx1_isRefused l G b hole r_82 K_75 T_78  _ h) (cwV 1 hts (lw_V q777 q779 qs26 q118 q780) rfl rfl rfl cwx_X1_isRefused ⟨Nat.le_of_ble_eq_true rfl, Nat.le_of_ble_eq_true rfl⟩) (x_recv (CC := RX1) (ci := 0) hK hP (xs_0 hP) (by decide) (by decide) rfl (xE_8 (xs_0 hP))) hK hV hb0 hP hS rfl hl.1 rfl (Nat.le_of_ble_eq_true rfl) dX1_put_46 ⟨by first | exact Nat.zero_le _ | (show _ + _ ≤ Z - kc K0; omega), by first | exact Nat.zero_le _ | (show _ + _ ≤ Y - ks K0; omega)⟩ (fun r_85 T1 K1 H locs h hle1 hc1 hs1 hP hS => ?_)
      obtain ⟨h, hKe⟩ := h
      rw [hKe] at hP
      generalize T1 = T_86 at h hP
      refine lv_if_eq (tgt := 54) hx hb dX1_put_49 (by decide) (fun c_88 => ?_) (fun c_88 => ?_)
      · have h := h.1 c_88
        exact J54 _ _ _ _ _ _ _ h hle0 hcn hsn hzz hyy hP hS (lv_sub hl [0, 1, 2, 3, 4] rfl)
      · have h := h.2 c_88
        refine lv_iconst (v := (-1)) hx hb dX1_put_52 (by decide) ?_
        refine W.widen (k := Z - kc K0) (n := Y - ks K0) (by omega) (by omega) ?_
        exact W.iret (v := (-1)) hx hb hr (fun t ht hW => ⟨⟨(-1), T_86, (kset K_75 Z Y), rfl, h, hle0, (by show Z = _; omega), (by show Y = _; omega), by rw [ht]; exact hP, va_K.moved hW.alike hK⟩, hS.F ht⟩) hS.2.2 dX1_put_53
