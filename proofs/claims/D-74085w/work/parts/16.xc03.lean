set_option maxRecDepth 100000
theorem cwx_X1_degreeIn : yX1_degreeIn.cls = RX1 ∧ yX1_degreeIn.cls ≠ "java/lang/invoke/MethodHandle" ∧ yX1_degreeIn.cls ≠ "java/lang/invoke/VarHandle" ∧ (parseMethodDescriptor yX1_degreeIn.desc).map (fun d => d.parameters.length) = some 2 := by decide +kernel
def wx1_degreeIn_j40 (p1 : Int32) (p2 : Int32) (Z Y : Nat) (post : Int32 → XT → XK → Prop)  (K : XK) (T : XT) : Prop :=
    ∃ v_1 : Nat, xr T 0 18 = some v_1 ∧
    ∃ j_2 : Nat, j_2 < kl K v_1 ∧ p1 = nI j_2 ∧ ∃ v_3 : Nat, xr T v_1 j_2 = some v_3 ∧
    wx6_most v_3 p2 K T (fun r_4 =>
    post r_4 T (kset K Z Y))
def wx1_degreeIn_j36 (p1 : Int32) (p2 : Int32) (Z Y : Nat) (post : Int32 → XT → XK → Prop)  (K : XK) (T : XT) : Prop :=
    post (-1) T (kset K Z Y)
def wx1_degreeIn (p1 : Int32) (p2 : Int32) (K0 : XK) (T : XT) (Z Y : Nat) (post : Int32 → XT → XK → Prop) : Prop :=
  kc K0 + 1 ≤ Z ∧ ks K0 + 1 ≤ Y ∧ ∀ K_7 : XK, K_7 = knew K0 1 1 1 → ∀ T_8 : XT, T_8 = xnil T (kz K0) →
  ∃ j_9 : Nat, j_9 < kl K_7 (kz K0) ∧ 0 = nI j_9 ∧ ∀ T_10 : XT, T_10 = xwi T_8 (kz K0) j_9 p1 →
  wx1_is (kz K0) K_7 T_10 (fun r_11 =>
  ((r_11 = 0 →
    wx1_why 0 K_7 T_10 (fun r_14 =>
    wx1_isRefused r_14 K_7 T_10 (fun r_17 T_18 =>
    ((r_17 = 0 →
      wx1_degreeIn_j40 p1 p2 Z Y post  K_7 T_18) ∧
     (¬ (r_17 = 0) →
      wx1_degreeIn_j36 p1 p2 Z Y post  K_7 T_18))))) ∧
   (¬ (r_11 = 0) →
    wx1_isUnknown p2 K_7 T_10 (fun r_21 =>
    ((r_21 = 0 →
      wx1_why 0 K_7 T_10 (fun r_24 =>
      wx1_isRefused r_24 K_7 T_10 (fun r_27 T_28 =>
      ((r_27 = 0 →
        wx1_degreeIn_j40 p1 p2 Z Y post  K_7 T_28) ∧
       (¬ (r_27 = 0) →
        wx1_degreeIn_j36 p1 p2 Z Y post  K_7 T_28))))) ∧
     (¬ (r_21 = 0) →
      wx1_why 1 K_7 T_10 (fun r_31 =>
      wx1_isRefused r_31 K_7 T_10 (fun r_34 T_35 =>
      ((r_34 = 0 →
        wx1_degreeIn_j40 p1 p2 Z Y post  K_7 T_35) ∧
       (¬ (r_34 = 0) →
        wx1_degreeIn_j36 p1 p2 Z Y post  K_7 T_35))))))))))
set_option maxHeartbeats 4000000 in
theorem mx1_degreeIn (l : Launch) (G : XG) (b : Nat) (hole : Nat → Prop) (p1 : Int32) (p2 : Int32) (K0 : XK) (T : XT) (Z Y : Nat) (hZ : kc K0 ≤ Z) (hY : ks K0 ≤ Y)  (post : Int32 → XT → XK → Prop) (h : wx1_degreeIn p1 p2 K0 T Z Y post) : Met l yX1_degreeIn (ws_ yX1_degreeIn cX1_degreeIn 3 (some .int)) ({ frames := 2, cells := (Z - kc K0), slots := (Y - ks K0), locals := 83 } : Room) (xPc G b hole [.ref (b + 0), .int p1, .int p2] K0 T) (xQ G b hole K0 (Z - kc K0) (Y - ks K0) (ρ := Int32) eI (fun r T1 K1 => post r T1 K1)) (Z - kc K0) (Y - ks K0) (xA b hole) := by
  refine Met.ofW (cc := cX1_degreeIn) (maxL := 3) (ret := (some .int)) (by decide) rfl ?_
  intro p e s m args below meth c s₁ B hml hv
  obtain ⟨rfl, hP, hK, hV⟩ := hv
  have hx := B.exec
  have hb := B.bytes
  have hr := B.returns
  have hts := atoms_spec (ws := ws_ yX1_degreeIn cX1_degreeIn 3 (some .int)) B.pre
  have hts : ∀ w ∈ lw_all, w.before _ s = true := fun w h => hts w (List.mem_cons_of_mem _ h)
  have hown : s.vm.findClass RX1 = some m.cls := findClass_of_methodNamed B.named
  have hlocks := B.notSynchronized
  have hb0 : b ≤ s.heap.size := by rw [hP.2.2.2]; exact Nat.le_add_right _ _
  have hS : va_S (xA b hole) s.heap s.heap [] := va_S.rf
  have hl := lv_entry ([.ref (b + 0), .int p1, .int p2]) (n := 3) (Nat.le_of_ble_eq_true rfl)
  rw [lg_entry_eq]
  generalize (lg_sl ([.ref (b + 0), .int p1, .int p2]) ++ List.replicate (3 - (lg_sl ([.ref (b + 0), .int p1, .int p2])).length) Slot.unset).toArray = ls at hl ⊢
  have hl : lv_has ls 3 [(0, .ref (b + 0)), (1, .int p1), (2, .int p2)] := hl
  have hle0 : kle K0 K0 := kle.rf
  have J40 : ∀  (T : XT) (K : XK) (cn sn : Nat) (H : Heap) (locs : List Loc) (ls : Array Slot), wx1_degreeIn_j40 p1 p2 Z Y post  K T → kle K0 K → kc K0 + cn = kc K → ks K0 + sn = ks K → kc K ≤ Z → ks K ≤ Y → xW G b hole K T H → va_S (xA b hole) s.heap H locs → lv_has ls 3 [(0, .ref (b + 0)), (1, .int p1), (2, .int p2)] → W p l e (headSpec (ws_ yX1_degreeIn cX1_degreeIn 3 (some .int)) ({ frames := 2, cells := (Z - kc K0), slots := (Y - ks K0), locals := 83 } : Room)).room s m ([.ref (b + 0), .int p1, .int p2] : List Value).toArray below meth c H locs cn sn (MQ below (xQ G b hole K0 (Z - kc K0) (Y - ks K0) (ρ := Int32) eI (fun r T1 K1 => post r T1 K1)) ([.ref (b + 0), .int p1, .int p2] : List Value).toArray s (Z - kc K0) (Y - ks K0) (xA b hole)) (F0 m 40 ls []) := by
    intro  T K cn sn H locs ls h hle0 hcn hsn hzz hyy hP hS hl
    unfold wx1_degreeIn_j40 at h
    refine lv_aload_n hx hb dX1_degreeIn_40 rfl (lv_at hl 0 rfl) ?_
    obtain ⟨v_1, ev_1, h⟩ := h
    refine x_get (CC := RX1) (TT := TX1) (N := 26) (ci := 0) (v := rfv b (xr T 0 18)) hx hb hts in_X1 hown hK hP (xs_0 hP) (by decide) (by decide) rfl (xE_8 (xs_0 hP)) 18 (by decide) q405 rfl rfl dX1_degreeIn_41 ?_
    refine x_some ev_1 ?_
    have hk_v_1 : kd K v_1 = 3 := hP.ty (xs_0 hP) (by decide) ev_1
    refine lv_iload_n hx hb dX1_degreeIn_44 rfl (lv_at hl 1 rfl) ?_
    obtain ⟨j_2, hj_2, ej_2, v_3, ev_3, h⟩ := h
    refine x_aald3 hx hb hK hP hk_v_1 ej_2 hj_2 dX1_degreeIn_45 ?_
    refine x_some ev_3 ?_
    have hk_v_3 : kd K v_3 = 2 := hP.ty hk_v_1 (by decide) ev_3
    refine lv_iload_n hx hb dX1_degreeIn_46 rfl (lv_at hl 2 rfl) ?_
    refine x_cV (k := v_3) (As := [.int p2]) (rest := []) ⟨hx, hb, hml, hown, hts⟩ (mx6_most l G b hole v_3 p2 K T hk_v_3 _ h) (cwV 1 hts (lw_V q819 q820 q821 q126 q822) rfl rfl rfl cwx_X6_most ⟨Nat.le_of_ble_eq_true rfl, Nat.le_of_ble_eq_true rfl⟩) (x_recv (CC := RX6) (ci := 5) hK hP hk_v_3 (by decide) (by decide) rfl (xE_2 hk_v_3)) hK hV hb0 hP hS rfl hl.1 rfl (Nat.le_of_ble_eq_true rfl) dX1_degreeIn_47 ⟨by first | exact Nat.zero_le _ | (show _ + _ ≤ Z - kc K0; omega), by first | exact Nat.zero_le _ | (show _ + _ ≤ Y - ks K0; omega)⟩ (fun r_4 T1 K1 H locs h hle1 hc1 hs1 hP hS => ?_)
    obtain ⟨h, hTe, hKe⟩ := h
    rw [hTe, hKe] at hP
    refine W.widen (k := Z - kc K0) (n := Y - ks K0) (by omega) (by omega) ?_
    exact W.iret (v := r_4) hx hb hr (fun t ht hW => ⟨⟨r_4, T, (kset K Z Y), rfl, h, hle0, (by show Z = _; omega), (by show Y = _; omega), by rw [ht]; exact hP, va_K.moved hW.alike hK⟩, hS.F ht⟩) hS.2.2 dX1_degreeIn_50
  have J36 : ∀  (T : XT) (K : XK) (cn sn : Nat) (H : Heap) (locs : List Loc) (ls : Array Slot), wx1_degreeIn_j36 p1 p2 Z Y post  K T → kle K0 K → kc K0 + cn = kc K → ks K0 + sn = ks K → kc K ≤ Z → ks K ≤ Y → xW G b hole K T H → va_S (xA b hole) s.heap H locs → lv_has ls 3 [(0, .ref (b + 0))] → W p l e (headSpec (ws_ yX1_degreeIn cX1_degreeIn 3 (some .int)) ({ frames := 2, cells := (Z - kc K0), slots := (Y - ks K0), locals := 83 } : Room)).room s m ([.ref (b + 0), .int p1, .int p2] : List Value).toArray below meth c H locs cn sn (MQ below (xQ G b hole K0 (Z - kc K0) (Y - ks K0) (ρ := Int32) eI (fun r T1 K1 => post r T1 K1)) ([.ref (b + 0), .int p1, .int p2] : List Value).toArray s (Z - kc K0) (Y - ks K0) (xA b hole)) (F0 m 36 ls []) := by
    intro  T K cn sn H locs ls h hle0 hcn hsn hzz hyy hP hS hl
    unfold wx1_degreeIn_j36 at h
    refine lv_iconst (v := (-1)) hx hb dX1_degreeIn_36 (by decide) ?_
    refine lv_goto (tgt := 50) hx hb dX1_degreeIn_37 (by decide) ?_
    refine W.widen (k := Z - kc K0) (n := Y - ks K0) (by omega) (by omega) ?_
    exact W.iret (v := (-1)) hx hb hr (fun t ht hW => ⟨⟨(-1), T, (kset K Z Y), rfl, h, hle0, (by show Z = _; omega), (by show Y = _; omega), by rw [ht]; exact hP, va_K.moved hW.alike hK⟩, hS.F ht⟩) hS.2.2 dX1_degreeIn_50
  have hcn : kc K0 + 0 = kc K0 := rfl
  have hsn : ks K0 + 0 = ks K0 := rfl
  have hzz := hZ
  have hyy := hY
  unfold wx1_degreeIn at h
  refine lv_aload_n hx hb dX1_degreeIn_0 rfl (lv_at hl 0 rfl) ?_
  refine lv_aload_n hx hb dX1_degreeIn_1 rfl (lv_at hl 0 rfl) ?_
  refine lv_iconst (v := 1) hx hb dX1_degreeIn_2 (by decide) ?_
  obtain ⟨hc1, hs1, h⟩ := h
  obtain ⟨K_7, eK_7⟩ : ∃ z : XK, z = knew K0 1 1 1 := ⟨_, rfl⟩
  obtain ⟨T_8, eT_8⟩ : ∃ z : XT, z = xnil T (kz K0) := ⟨_, rfl⟩
  have h := h K_7 eK_7 T_8 eT_8
  have hle1 : kle K0 K_7 := by rw [eK_7]; exact kle.new hP.2.2.1 _ _ _
  refine x_newai (N := 1) hx hb hts q170 hK hP hS (by decide) (by decide) (by show _ + 1 ≤ Z - kc K0; omega) (by show _ + _ ≤ Y - ks K0; omega) dX1_degreeIn_3 (fun H hP hS => ?_)
  rw [← eK_7, ← eT_8] at hP
  have hk_n7 : kd K_7 (kz K0) = 1 := by rw [eK_7]; exact knew_kd
  have hle0 := hle0.tr hle1
  have hcn : kc K0 + (0 + 1) = kc K_7 := by rw [eK_7]; show _ = kc K0 + 1; omega
  have hsn : ks K0 + (0 + 1) = ks K_7 := by rw [eK_7]; show _ = ks K0 + 1; omega
  have hzz : kc K_7 ≤ Z := by rw [eK_7]; exact hc1
  have hyy : ks K_7 ≤ Y := by rw [eK_7]; exact hs1
  refine lv_dup hx hb dX1_degreeIn_5 rfl ?_
  refine lv_iconst (v := 0) hx hb dX1_degreeIn_6 (by decide) ?_
  refine lv_iload_n hx hb dX1_degreeIn_7 rfl (lv_at hl 1 rfl) ?_
  obtain ⟨j_9, hj_9, ej_9, h⟩ := h
  obtain ⟨T_10, eT_10⟩ : ∃ z : XT, z = xwi T_8 (kz K0) j_9 p1 := ⟨_, rfl⟩
  have h := h T_10 eT_10
  refine x_iast hx hb hK hP hS hk_n7 ej_9 hj_9 dX1_degreeIn_8 (fun H locs hP hS => ?_)
  rw [← eT_10] at hP
  refine x_cS (As := [.ref (b + (kz K0))]) (rest := [.ref (b + 0), .ref (b + 0)]) ⟨hx, hb, hml, hown, hts⟩ (mx1_is l G b hole (kz K0) K_7 T_10 hk_n7 _ h) (va_cwS 1 hts (lw_S q793 q794 q118 q795) rfl rfl rfl cwx_X1_is ⟨Nat.le_of_ble_eq_true rfl, Nat.le_of_ble_eq_true rfl⟩) hK hV hb0 hP hS rfl hl.1 rfl (Nat.le_of_ble_eq_true rfl) dX1_degreeIn_9 ⟨by first | exact Nat.zero_le _ | (show _ + _ ≤ Z - kc K0; omega), by first | exact Nat.zero_le _ | (show _ + _ ≤ Y - ks K0; omega)⟩ (fun r_11 T1 K1 H locs h hle1 hc1 hs1 hP hS => ?_)
  obtain ⟨h, hTe, hKe⟩ := h
  rw [hTe, hKe] at hP
  refine lv_if_eq (tgt := 26) hx hb dX1_degreeIn_12 (by decide) (fun c_39 => ?_) (fun c_39 => ?_)
  · have h := h.1 c_39
    refine lv_iconst (v := 0) hx hb dX1_degreeIn_26 (by decide) ?_
    refine x_cV (k := 0) (As := [.int 0]) (rest := [.ref (b + 0)]) ⟨hx, hb, hml, hown, hts⟩ (mx1_why l G b hole 0 K_7 T_10  _ h) (cwV 1 hts (lw_V q769 q771 qs24 q118 q772) rfl rfl rfl cwx_X1_why ⟨Nat.le_of_ble_eq_true rfl, Nat.le_of_ble_eq_true rfl⟩) (x_recv (CC := RX1) (ci := 0) hK hP (xs_0 hP) (by decide) (by decide) rfl (xE_8 (xs_0 hP))) hK hV hb0 hP hS rfl hl.1 rfl (Nat.le_of_ble_eq_true rfl) dX1_degreeIn_27 ⟨by first | exact Nat.zero_le _ | (show _ + _ ≤ Z - kc K0; omega), by first | exact Nat.zero_le _ | (show _ + _ ≤ Y - ks K0; omega)⟩ (fun r_14 T1 K1 H locs h hle1 hc1 hs1 hP hS => ?_)
    obtain ⟨h, hTe, hKe⟩ := h
    rw [hTe, hKe] at hP
    refine x_cV (k := 0) (As := [.int r_14]) (rest := []) ⟨hx, hb, hml, hown, hts⟩ (mx1_isRefused l G b hole r_14 K_7 T_10  _ h) (cwV 1 hts (lw_V q777 q779 qs26 q118 q780) rfl rfl rfl cwx_X1_isRefused ⟨Nat.le_of_ble_eq_true rfl, Nat.le_of_ble_eq_true rfl⟩) (x_recv (CC := RX1) (ci := 0) hK hP (xs_0 hP) (by decide) (by decide) rfl (xE_8 (xs_0 hP))) hK hV hb0 hP hS rfl hl.1 rfl (Nat.le_of_ble_eq_true rfl) dX1_degreeIn_30 ⟨by first | exact Nat.zero_le _ | (show _ + _ ≤ Z - kc K0; omega), by first | exact Nat.zero_le _ | (show _ + _ ≤ Y - ks K0; omega)⟩ (fun r_17 T1 K1 H locs h hle1 hc1 hs1 hP hS => ?_)
    obtain ⟨h, hKe⟩ := h
    rw [hKe] at hP
    generalize T1 = T_18 at h hP
    refine lv_if_eq (tgt := 40) hx hb dX1_degreeIn_33 (by decide) (fun c_20 => ?_) (fun c_20 => ?_)
    · have h := h.1 c_20
      exact J40 _ _ _ _ _ _ _ h hle0 hcn hsn hzz hyy hP hS (lv_sub hl [0, 1, 2] rfl)
    · have h := h.2 c_20
      exact J36 _ _ _ _ _ _ _ h hle0 hcn hsn hzz hyy hP hS (lv_sub hl [0] rfl)
  · have h := h.2 c_39
    refine lv_iload_n hx hb dX1_degreeIn_15 rfl (lv_at hl 2 rfl) ?_
    refine x_cS (As := [.int p2]) (rest := [.ref (b + 0), .ref (b + 0)]) ⟨hx, hb, hml, hown, hts⟩ (mx1_isUnknown l G b hole p2 K_7 T_10  _ h) (va_cwS 1 hts (lw_S q816 q817 q118 q818) rfl rfl rfl cwx_X1_isUnknown ⟨Nat.le_of_ble_eq_true rfl, Nat.le_of_ble_eq_true rfl⟩) hK hV hb0 hP hS rfl hl.1 rfl (Nat.le_of_ble_eq_true rfl) dX1_degreeIn_16 ⟨by first | exact Nat.zero_le _ | (show _ + _ ≤ Z - kc K0; omega), by first | exact Nat.zero_le _ | (show _ + _ ≤ Y - ks K0; omega)⟩ (fun r_21 T1 K1 H locs h hle1 hc1 hs1 hP hS => ?_)
    obtain ⟨h, hTe, hKe⟩ := h
    rw [hTe, hKe] at hP
    refine lv_if_eq (tgt := 26) hx hb dX1_degreeIn_19 (by decide) (fun c_38 => ?_) (fun c_38 => ?_)
    · have h := h.1 c_38
      refine lv_iconst (v := 0) hx hb dX1_degreeIn_26 (by decide) ?_
      refine x_cV (k := 0) (As := [.int 0]) (rest := [.ref (b + 0)]) ⟨hx, hb, hml, hown, hts⟩ (mx1_why l G b hole 0 K_7 T_10  _ h) (cwV 1 hts (lw_V q769 q771 qs24 q118 q772) rfl rfl rfl cwx_X1_why ⟨Nat.le_of_ble_eq_true rfl, Nat.le_of_ble_eq_true rfl⟩) (x_recv (CC := RX1) (ci := 0) hK hP (xs_0 hP) (by decide) (by decide) rfl (xE_8 (xs_0 hP))) hK hV hb0 hP hS rfl hl.1 rfl (Nat.le_of_ble_eq_true rfl) dX1_degreeIn_27 ⟨by first | exact Nat.zero_le _ | (show _ + _ ≤ Z - kc K0; omega), by first | exact Nat.zero_le _ | (show _ + _ ≤ Y - ks K0; omega)⟩ (fun r_24 T1 K1 H locs h hle1 hc1 hs1 hP hS => ?_)
      obtain ⟨h, hTe, hKe⟩ := h
      rw [hTe, hKe] at hP
      refine x_cV (k := 0) (As := [.int r_24]) (rest := []) ⟨hx, hb, hml, hown, hts⟩ (mx1_isRefused l G b hole r_24 K_7 T_10  _ h) (cwV 1 hts (lw_V q777 q779 qs26 q118 q780) rfl rfl rfl cwx_X1_isRefused ⟨Nat.le_of_ble_eq_true rfl, Nat.le_of_ble_eq_true rfl⟩) (x_recv (CC := RX1) (ci := 0) hK hP (xs_0 hP) (by decide) (by decide) rfl (xE_8 (xs_0 hP))) hK hV hb0 hP hS rfl hl.1 rfl (Nat.le_of_ble_eq_true rfl) dX1_degreeIn_30 ⟨by first | exact Nat.zero_le _ | (show _ + _ ≤ Z - kc K0; omega), by first | exact Nat.zero_le _ | (show _ + _ ≤ Y - ks K0; omega)⟩ (fun r_27 T1 K1 H locs h hle1 hc1 hs1 hP hS => ?_)
      obtain ⟨h, hKe⟩ := h
      rw [hKe] at hP
      generalize T1 = T_28 at h hP
      refine lv_if_eq (tgt := 40) hx hb dX1_degreeIn_33 (by decide) (fun c_30 => ?_) (fun c_30 => ?_)
      · have h := h.1 c_30
        exact J40 _ _ _ _ _ _ _ h hle0 hcn hsn hzz hyy hP hS (lv_sub hl [0, 1, 2] rfl)
      · have h := h.2 c_30
        exact J36 _ _ _ _ _ _ _ h hle0 hcn hsn hzz hyy hP hS (lv_sub hl [0] rfl)
    · have h := h.2 c_38
      refine lv_iconst (v := 1) hx hb dX1_degreeIn_22 (by decide) ?_
      refine lv_goto (tgt := 27) hx hb dX1_degreeIn_23 (by decide) ?_
      refine x_cV (k := 0) (As := [.int 1]) (rest := [.ref (b + 0)]) ⟨hx, hb, hml, hown, hts⟩ (mx1_why l G b hole 1 K_7 T_10  _ h) (cwV 1 hts (lw_V q769 q771 qs24 q118 q772) rfl rfl rfl cwx_X1_why ⟨Nat.le_of_ble_eq_true rfl, Nat.le_of_ble_eq_true rfl⟩) (x_recv (CC := RX1) (ci := 0) hK hP (xs_0 hP) (by decide) (by decide) rfl (xE_8 (xs_0 hP))) hK hV hb0 hP hS rfl hl.1 rfl (Nat.le_of_ble_eq_true rfl) dX1_degreeIn_27 ⟨by first | exact Nat.zero_le _ | (show _ + _ ≤ Z - kc K0; omega), by first | exact Nat.zero_le _ | (show _ + _ ≤ Y - ks K0; omega)⟩ (fun r_31 T1 K1 H locs h hle1 hc1 hs1 hP hS => ?_)
      obtain ⟨h, hTe, hKe⟩ := h
      rw [hTe, hKe] at hP
      refine x_cV (k := 0) (As := [.int r_31]) (rest := []) ⟨hx, hb, hml, hown, hts⟩ (mx1_isRefused l G b hole r_31 K_7 T_10  _ h) (cwV 1 hts (lw_V q777 q779 qs26 q118 q780) rfl rfl rfl cwx_X1_isRefused ⟨Nat.le_of_ble_eq_true rfl, Nat.le_of_ble_eq_true rfl⟩) (x_recv (CC := RX1) (ci := 0) hK hP (xs_0 hP) (by decide) (by decide) rfl (xE_8 (xs_0 hP))) hK hV hb0 hP hS rfl hl.1 rfl (Nat.le_of_ble_eq_true rfl) dX1_degreeIn_30 ⟨by first | exact Nat.zero_le _ | (show _ + _ ≤ Z - kc K0; omega), by first | exact Nat.zero_le _ | (show _ + _ ≤ Y - ks K0; omega)⟩ (fun r_34 T1 K1 H locs h hle1 hc1 hs1 hP hS => ?_)
      obtain ⟨h, hKe⟩ := h
      rw [hKe] at hP
      generalize T1 = T_35 at h hP
      refine lv_if_eq (tgt := 40) hx hb dX1_degreeIn_33 (by decide) (fun c_37 => ?_) (fun c_37 => ?_)
      · have h := h.1 c_37
        exact J40 _ _ _ _ _ _ _ h hle0 hcn hsn hzz hyy hP hS (lv_sub hl [0, 1, 2] rfl)
      · have h := h.2 c_37
        exact J36 _ _ _ _ _ _ _ h hle0 hcn hsn hzz hyy hP hS (lv_sub hl [0] rfl)
theorem cwx_X1_areExponents : yX1_areExponents.cls ≠ "java/lang/invoke/MethodHandle" ∧ yX1_areExponents.cls ≠ "java/lang/invoke/VarHandle" ∧ (parseMethodDescriptor yX1_areExponents.desc).map (fun d => d.parameters.length) = some 1 := by decide +kernel
def wx1_areExponents_b7 (p1 : Nat) (post : Int32 → Prop) (R7 : Int32 → Prop) (x1 : Nat) (x2 : Int32) (x3 : Int32) (K : XK) (T : XT) : Prop :=
      ((x2 ≤ x3 →
        post 1) ∧
       (¬ (x2 ≤ x3) →
        ∃ j_1 : Nat, j_1 < kl K x1 ∧ x3 = nI j_1 ∧
        wx1_in (xi T x1 j_1) 0 15 K T (fun r_2 =>
        ((¬ r_2 = 0 →
          ∀ x3_5 : Int32, x3_5 = x3 + 1 →
          R7 x3_5) ∧
         (r_2 = 0 →
          post 0)))))
def wx1_areExponents_l7 (p1 : Nat) (post : Int32 → Prop) (x1 : Nat) (x2 : Int32) (x3 : Int32) (K : XK) (T : XT) : Prop := wLoop (fun (R : ((Int32)) → Prop) (v : (Int32)) => wx1_areExponents_b7 p1 post (fun x3 => R x3) x1 x2 v K T) x3
def wx1_areExponents (p1 : Nat) (K : XK) (T : XT) (post : Int32 → Prop) : Prop :=
  ∀ x2_8 : Int32, x2_8 = (nI (kl K p1)) →
  wx1_areExponents_l7 p1 post p1 x2_8 0 K T
set_option maxHeartbeats 4000000 in
theorem mx1_areExponents (l : Launch) (G : XG) (b : Nat) (hole : Nat → Prop) (p1 : Nat) (K : XK) (T : XT) (hk_p1 : kd K p1 = 1) (post : Int32 → Prop) (h : wx1_areExponents p1 K T post) : Met l yX1_areExponents (ws_ yX1_areExponents cX1_areExponents 5 (some .boolean)) ({ frames := 1, cells := 0, slots := 0, locals := 22 } : Room) (xPc G b hole [.ref (b + p1)] K T) (xQ G b hole K 0 0 (ρ := Int32) eI (fun r T1 K1 => post r ∧ T1 = T ∧ K1 = K)) 0 0 (xA b hole) := by
  refine Met.ofW (cc := cX1_areExponents) (maxL := 5) (ret := (some .boolean)) (by decide) rfl ?_
  intro p e s m args below meth c s₁ B hml hv
  obtain ⟨rfl, hP, hK, hV⟩ := hv
  have hx := B.exec
  have hb := B.bytes
  have hr := B.returns
  have hts := atoms_spec (ws := ws_ yX1_areExponents cX1_areExponents 5 (some .boolean)) B.pre
  have hts : ∀ w ∈ lw_all, w.before _ s = true := fun w h => hts w (List.mem_cons_of_mem _ h)
  have hown : s.vm.findClass RX1 = some m.cls := findClass_of_methodNamed B.named
  have hlocks := B.notSynchronized
  have hb0 : b ≤ s.heap.size := by rw [hP.2.2.2]; exact Nat.le_add_right _ _
  have hS : va_S (xA b hole) s.heap s.heap [] := va_S.rf
  have hl := lv_entry ([.ref (b + p1)]) (n := 5) (Nat.le_of_ble_eq_true rfl)
  rw [lg_entry_eq]
  generalize (lg_sl ([.ref (b + p1)]) ++ List.replicate (5 - (lg_sl ([.ref (b + p1)])).length) Slot.unset).toArray = ls at hl ⊢
  have hl : lv_has ls 5 [(0, .ref (b + p1))] := hl
  have L7 : ∀ (x1 : Nat) (x2 : Int32) (x3 : Int32) (H : Heap) (locs : List Loc) (ls : Array Slot), wx1_areExponents_l7 p1 post x1 x2 x3 K T → (kd K x1 = 1) → xW G b hole K T H → va_S (xA b hole) s.heap H locs → lv_has ls 5 [(1, .ref (b + x1)), (2, .int x2), (3, .int x3)] → W p l e (headSpec (ws_ yX1_areExponents cX1_areExponents 5 (some .boolean)) ({ frames := 1, cells := 0, slots := 0, locals := 22 } : Room)).room s m ([.ref (b + p1)] : List Value).toArray below meth c H locs 0 0 (MQ below (xQ G b hole K 0 0 (ρ := Int32) eI (fun r T1 K1 => post r ∧ T1 = T ∧ K1 = K)) ([.ref (b + p1)] : List Value).toArray s 0 0 (xA b hole)) (F0 m 7 ls []) := by
    intro x1 x2 x3 H locs ls h hk_x1 hP hS hl
    obtain ⟨I7, n7, hI, hstep7⟩ := h
    induction n7 using Nat.strongRecOn generalizing x3 H locs ls with
    | ind n7 ih7 =>
      have h : wx1_areExponents_b7 p1 post (fun x3 => ∃ mm, mm < n7 ∧ I7 mm x3) x1 x2 x3 K T := hstep7 n7 _ hI
      clear hI
      unfold wx1_areExponents_b7 at h
      refine lv_iload_n hx hb dX1_areExponents_7 rfl (lv_at hl 2 rfl) ?_
      refine lv_iload_n hx hb dX1_areExponents_8 rfl (lv_at hl 1 rfl) ?_
      refine lv_icmp_ge (tgt := 36) hx hb dX1_areExponents_9 (by decide) (fun c_7 => ?_) (fun c_7 => ?_)
      · have h := h.1 c_7
        refine lv_iconst (v := 1) hx hb dX1_areExponents_36 (by decide) ?_
        exact W.zret (v := 1) hx hb hr rfl (fun t ht hW => ⟨⟨1, T, K, rfl, ⟨h, rfl, rfl⟩, kle.rf, rfl, rfl, by rw [ht]; exact hP, va_K.moved hW.alike hK⟩, hS.F ht⟩) hS.2.2 dX1_areExponents_37
      · have h := h.2 c_7
        refine lv_aload_n hx hb dX1_areExponents_12 rfl (lv_at hl 0 rfl) ?_
        refine lv_iload_n hx hb dX1_areExponents_13 rfl (lv_at hl 2 rfl) ?_
        obtain ⟨j_1, hj_1, ej_1, h⟩ := h
        refine x_iald hx hb hK hP hk_x1 ej_1 hj_1 dX1_areExponents_14 ?_
        refine lv_istore (lv' := [(4, .int (xi T x1 j_1)), (1, .ref (b + x1)), (2, .int x2), (3, .int x3)]) hx hb dX1_areExponents_15 hl (by decide) rfl (fun ls hl => ?_)
        refine lv_iload hx hb dX1_areExponents_17 (lv_at hl 0 rfl) ?_
        refine lv_iconst (v := 0) hx hb dX1_areExponents_19 (by decide) ?_
        refine lv_bipush (v := 15) hx hb dX1_areExponents_20 (by decide) ?_
        refine x_cS (As := [.int (xi T x1 j_1), .int 0, .int 15]) (rest := []) ⟨hx, hb, hml, hown, hts⟩ (mx1_in l G b hole (xi T x1 j_1) 0 15 K T  _ h) (va_cwS 3 hts (lw_S q483 q484 q118 q485) rfl rfl rfl cwx_X1_in ⟨Nat.le_of_ble_eq_true rfl, Nat.le_of_ble_eq_true rfl⟩) hK hV hb0 hP hS rfl hl.1 rfl (Nat.le_of_ble_eq_true rfl) dX1_areExponents_22 ⟨by first | exact Nat.zero_le _ | (show _ + _ ≤ Z - kc K0; omega), by first | exact Nat.zero_le _ | (show _ + _ ≤ Y - ks K0; omega)⟩ (fun r_2 T1 K1 H locs h hle1 hc1 hs1 hP hS => ?_)
        obtain ⟨h, hTe, hKe⟩ := h
        rw [hTe, hKe] at hP
        refine lv_if_ne (tgt := 30) hx hb dX1_areExponents_25 (by decide) (fun c_6 => ?_) (fun c_6 => ?_)
        · have h := h.1 c_6
          obtain ⟨x3_5, ex3_5⟩ : ∃ y : Int32, y = x3 + 1 := ⟨_, rfl⟩
          have h := h x3_5 ex3_5
          refine lv_iinc (v := x3_5) (lv' := [(3, .int x3_5), (4, .int (xi T x1 j_1)), (1, .ref (b + x1)), (2, .int x2)]) hx hb dX1_areExponents_30 hl (k := 3) rfl (by rw [ex3_5]; rfl) (by decide) rfl (fun ls hl => ?_)
          refine lv_goto (tgt := 7) hx hb dX1_areExponents_33 (by decide) ?_
          obtain ⟨mm, hmm, h⟩ := h
          exact ih7 mm hmm _ _ _ _  hP hS (lv_sub hl [2, 3, 0] rfl) h
        · have h := h.2 c_6
          refine lv_iconst (v := 0) hx hb dX1_areExponents_28 (by decide) ?_
          exact W.zret (v := 0) hx hb hr rfl (fun t ht hW => ⟨⟨0, T, K, rfl, ⟨h, rfl, rfl⟩, kle.rf, rfl, rfl, by rw [ht]; exact hP, va_K.moved hW.alike hK⟩, hS.F ht⟩) hS.2.2 dX1_areExponents_29
  unfold wx1_areExponents at h
  refine lv_aload_n hx hb dX1_areExponents_0 rfl (lv_at hl 0 rfl) ?_
  refine lv_astore_n (lv' := [(1, .ref (b + p1)), (0, .ref (b + p1))]) hx hb dX1_areExponents_1 rfl hl (by decide) rfl (fun ls hl => ?_)
  refine lv_aload_n hx hb dX1_areExponents_2 rfl (lv_at hl 0 rfl) ?_
  refine x_alen1 hx hb hK hP hk_p1 dX1_areExponents_3 ?_
  refine lv_topi (fun x2_8 ex2_8 => ?_)
  have h := h x2_8 ex2_8
  refine lv_istore_n (lv' := [(2, .int x2_8), (1, .ref (b + p1)), (0, .ref (b + p1))]) hx hb dX1_areExponents_4 rfl hl (by decide) rfl (fun ls hl => ?_)
  refine lv_iconst (v := 0) hx hb dX1_areExponents_5 (by decide) ?_
  refine lv_istore_n (lv' := [(3, .int 0), (2, .int x2_8), (1, .ref (b + p1)), (0, .ref (b + p1))]) hx hb dX1_areExponents_6 rfl hl (by decide) rfl (fun ls hl => ?_)
  exact L7 _ _ _ _ _ _ h hk_p1 hP hS (lv_sub hl [2, 1, 0] rfl)
theorem cwx_X1_spread : yX1_spread.cls = RX1 ∧ yX1_spread.cls ≠ "java/lang/invoke/MethodHandle" ∧ yX1_spread.cls ≠ "java/lang/invoke/VarHandle" ∧ (parseMethodDescriptor yX1_spread.desc).map (fun d => d.parameters.length) = some 1 := by decide +kernel
def wx1_spread_b7 (p1 : Nat) (post : Nat → XT → Prop) (R7 : Int32 → XT → Prop) (x2 : Nat) (x3 : Int32) (K : XK) (T : XT) : Prop :=
      (((xi T p1 2) ≤ x3 →
        post x2 T) ∧
       (¬ ((xi T p1 2) ≤ x3) →
        ∃ v_1 : Nat, xr T p1 0 = some v_1 ∧
        ∃ j_2 : Nat, j_2 < kl K v_1 ∧ x3 = nI j_2 ∧
        ∃ v_3 : Nat, xr T p1 1 = some v_3 ∧
        ∃ j_4 : Nat, j_4 < kl K v_3 ∧ x3 = nI j_4 ∧
        ∃ j_5 : Nat, j_5 < kl K x2 ∧ (xi T v_1 j_2) = nI j_5 ∧ ∀ T_6 : XT, T_6 = xwi T x2 j_5 (xi T v_3 j_4) →
        ∀ x3_7 : Int32, x3_7 = x3 + 1 →
        R7 x3_7 T_6))
def wx1_spread_l7 (p1 : Nat) (post : Nat → XT → Prop) (x2 : Nat) (x3 : Int32) (K : XK) (T : XT) : Prop := wLoop (fun (R : ((Int32) × (XT)) → Prop) (v : (Int32) × (XT)) => wx1_spread_b7 p1 post (fun x3 T => R (x3, T)) x2 v.1 K v.2) (x3, T)
def wx1_spread (p1 : Nat) (K : XK) (T : XT) (post : Nat → XT → Prop) : Prop :=
  wx1_blank  K T (fun r_9 T_10 =>
  wx1_spread_l7 p1 post r_9 0 K T_10)
set_option maxHeartbeats 4000000 in
theorem mx1_spread (l : Launch) (G : XG) (b : Nat) (hole : Nat → Prop) (p1 : Nat) (K : XK) (T : XT) (hk_p1 : kd K p1 = 2) (post : Nat → XT → Prop) (h : wx1_spread p1 K T post) : Met l yX1_spread (ws_ yX1_spread cX1_spread 4 (some (.array .int))) ({ frames := 2, cells := 0, slots := 0, locals := 43 } : Room) (xPc G b hole [.ref (b + 0), .ref (b + p1)] K T) (xQ G b hole K 0 0 (ρ := Nat) (eR b) (fun r T1 K1 => post r T1 ∧ kd K1 r = 1 ∧ K1 = K)) 0 0 (xA b hole) := by
  refine Met.ofW (cc := cX1_spread) (maxL := 4) (ret := (some (.array .int))) (by decide) rfl ?_
  intro p e s m args below meth c s₁ B hml hv
  obtain ⟨rfl, hP, hK, hV⟩ := hv
  have hx := B.exec
  have hb := B.bytes
  have hr := B.returns
  have hts := atoms_spec (ws := ws_ yX1_spread cX1_spread 4 (some (.array .int))) B.pre
  have hts : ∀ w ∈ lw_all, w.before _ s = true := fun w h => hts w (List.mem_cons_of_mem _ h)
  have hown : s.vm.findClass RX1 = some m.cls := findClass_of_methodNamed B.named
  have hlocks := B.notSynchronized
  have hb0 : b ≤ s.heap.size := by rw [hP.2.2.2]; exact Nat.le_add_right _ _
  have hS : va_S (xA b hole) s.heap s.heap [] := va_S.rf
  have hl := lv_entry ([.ref (b + 0), .ref (b + p1)]) (n := 4) (Nat.le_of_ble_eq_true rfl)
  rw [lg_entry_eq]
  generalize (lg_sl ([.ref (b + 0), .ref (b + p1)]) ++ List.replicate (4 - (lg_sl ([.ref (b + 0), .ref (b + p1)])).length) Slot.unset).toArray = ls at hl ⊢
  have hl : lv_has ls 4 [(0, .ref (b + 0)), (1, .ref (b + p1))] := hl
  have L7 : ∀ (x2 : Nat) (x3 : Int32) (T : XT) (H : Heap) (locs : List Loc) (ls : Array Slot), wx1_spread_l7 p1 post x2 x3 K T → (kd K x2 = 1) → xW G b hole K T H → va_S (xA b hole) s.heap H locs → lv_has ls 4 [(0, .ref (b + 0)), (1, .ref (b + p1)), (2, .ref (b + x2)), (3, .int x3)] → W p l e (headSpec (ws_ yX1_spread cX1_spread 4 (some (.array .int))) ({ frames := 2, cells := 0, slots := 0, locals := 43 } : Room)).room s m ([.ref (b + 0), .ref (b + p1)] : List Value).toArray below meth c H locs 0 0 (MQ below (xQ G b hole K 0 0 (ρ := Nat) (eR b) (fun r T1 K1 => post r T1 ∧ kd K1 r = 1 ∧ K1 = K)) ([.ref (b + 0), .ref (b + p1)] : List Value).toArray s 0 0 (xA b hole)) (F0 m 7 ls []) := by
    intro x2 x3 T H locs ls h hk_x2 hP hS hl
    obtain ⟨I7, n7, hI, hstep7⟩ := h
    induction n7 using Nat.strongRecOn generalizing x3 T H locs ls with
    | ind n7 ih7 =>
      have h : wx1_spread_b7 p1 post (fun x3 T => ∃ mm, mm < n7 ∧ I7 mm (x3, T)) x2 x3 K T := hstep7 n7 _ hI
      clear hI
      unfold wx1_spread_b7 at h
      refine lv_iload_n hx hb dX1_spread_7 rfl (lv_at hl 3 rfl) ?_
      refine lv_aload_n hx hb dX1_spread_8 rfl (lv_at hl 1 rfl) ?_
      refine x_get (CC := RX6) (TT := TX6) (N := 3) (ci := 5) (v := .int (xi T p1 2)) hx hb hts in_X6 hown hK hP hk_p1 (by decide) (by decide) rfl (xE_2 hk_p1) 2 (by decide) q372 rfl rfl dX1_spread_9 ?_
      refine lv_icmp_ge (tgt := 35) hx hb dX1_spread_12 (by decide) (fun c_8 => ?_) (fun c_8 => ?_)
      · have h := h.1 c_8
        refine lv_aload_n hx hb dX1_spread_35 rfl (lv_at hl 2 rfl) ?_
        exact W.aret (v := .ref (b + x2)) hx hb hr (Or.inr ⟨_, rfl⟩) (Or.inr ⟨_, rfl⟩) (fun t ht hW => ⟨⟨x2, T, K, rfl, ⟨h, hk_x2, rfl⟩, kle.rf, rfl, rfl, by rw [ht]; exact hP, va_K.moved hW.alike hK⟩, hS.F ht⟩) hS.2.2 dX1_spread_36
      · have h := h.2 c_8
        refine lv_aload_n hx hb dX1_spread_15 rfl (lv_at hl 2 rfl) ?_
        refine lv_aload_n hx hb dX1_spread_16 rfl (lv_at hl 1 rfl) ?_
        obtain ⟨v_1, ev_1, h⟩ := h
        refine x_get (CC := RX6) (TT := TX6) (N := 3) (ci := 5) (v := rfv b (xr T p1 0)) hx hb hts in_X6 hown hK hP hk_p1 (by decide) (by decide) rfl (xE_2 hk_p1) 0 (by decide) q366 rfl rfl dX1_spread_17 ?_
        refine x_some ev_1 ?_
        have hk_v_1 : kd K v_1 = 1 := hP.ty hk_p1 (by decide) ev_1
        refine lv_iload_n hx hb dX1_spread_20 rfl (lv_at hl 3 rfl) ?_
        obtain ⟨j_2, hj_2, ej_2, h⟩ := h
        refine x_iald hx hb hK hP hk_v_1 ej_2 hj_2 dX1_spread_21 ?_
        refine lv_aload_n hx hb dX1_spread_22 rfl (lv_at hl 1 rfl) ?_
        obtain ⟨v_3, ev_3, h⟩ := h
        refine x_get (CC := RX6) (TT := TX6) (N := 3) (ci := 5) (v := rfv b (xr T p1 1)) hx hb hts in_X6 hown hK hP hk_p1 (by decide) (by decide) rfl (xE_2 hk_p1) 1 (by decide) q369 rfl rfl dX1_spread_23 ?_
        refine x_some ev_3 ?_
        have hk_v_3 : kd K v_3 = 1 := hP.ty hk_p1 (by decide) ev_3
        refine lv_iload_n hx hb dX1_spread_26 rfl (lv_at hl 3 rfl) ?_
        obtain ⟨j_4, hj_4, ej_4, h⟩ := h
        refine x_iald hx hb hK hP hk_v_3 ej_4 hj_4 dX1_spread_27 ?_
        obtain ⟨j_5, hj_5, ej_5, h⟩ := h
        obtain ⟨T_6, eT_6⟩ : ∃ z : XT, z = xwi T x2 j_5 (xi T v_3 j_4) := ⟨_, rfl⟩
        have h := h T_6 eT_6
        refine x_iast hx hb hK hP hS hk_x2 ej_5 hj_5 dX1_spread_28 (fun H locs hP hS => ?_)
        rw [← eT_6] at hP
        obtain ⟨x3_7, ex3_7⟩ : ∃ y : Int32, y = x3 + 1 := ⟨_, rfl⟩
        have h := h x3_7 ex3_7
        refine lv_iinc (v := x3_7) (lv' := [(3, .int x3_7), (0, .ref (b + 0)), (1, .ref (b + p1)), (2, .ref (b + x2))]) hx hb dX1_spread_29 hl (k := 3) rfl (by rw [ex3_7]; rfl) (by decide) rfl (fun ls hl => ?_)
        refine lv_goto (tgt := 7) hx hb dX1_spread_32 (by decide) ?_
        obtain ⟨mm, hmm, h⟩ := h
        exact ih7 mm hmm _ _ _ _ _  hP hS (lv_sub hl [1, 2, 3, 0] rfl) h
  unfold wx1_spread at h
  refine lv_aload_n hx hb dX1_spread_0 rfl (lv_at hl 0 rfl) ?_
  refine x_cV (k := 0) (As := []) (rest := []) ⟨hx, hb, hml, hown, hts⟩ (mx1_blank l G b hole  K T  _ h) (cwV 0 hts (lw_V q835 q739 qs21 q118 q740) rfl rfl rfl cwx_X1_blank ⟨Nat.le_of_ble_eq_true rfl, Nat.le_of_ble_eq_true rfl⟩) (x_recv (CC := RX1) (ci := 0) hK hP (xs_0 hP) (by decide) (by decide) rfl (xE_8 (xs_0 hP))) hK hV hb0 hP hS rfl hl.1 rfl (Nat.le_of_ble_eq_true rfl) dX1_spread_1 ⟨by first | exact Nat.zero_le _ | (show _ + _ ≤ Z - kc K0; omega), by first | exact Nat.zero_le _ | (show _ + _ ≤ Y - ks K0; omega)⟩ (fun r_9 T1 K1 H locs h hle1 hc1 hs1 hP hS => ?_)
  obtain ⟨h, hk_r_9, hKe⟩ := h
  rw [hKe] at hP
  generalize T1 = T_10 at h hP
  rw [hKe] at hk_r_9
  refine lv_astore_n (lv' := [(2, .ref (b + r_9)), (0, .ref (b + 0)), (1, .ref (b + p1))]) hx hb dX1_spread_4 rfl hl (by decide) rfl (fun ls hl => ?_)
  refine lv_iconst (v := 0) hx hb dX1_spread_5 (by decide) ?_
  refine lv_istore_n (lv' := [(3, .int 0), (2, .ref (b + r_9)), (0, .ref (b + 0)), (1, .ref (b + p1))]) hx hb dX1_spread_6 rfl hl (by decide) rfl (fun ls hl => ?_)
  exact L7 _ _ _ _ _ _ h hk_r_9 hP hS (lv_sub hl [2, 3, 1, 0] rfl)
theorem cwx_X1_packed : yX1_packed.cls ≠ "java/lang/invoke/MethodHandle" ∧ yX1_packed.cls ≠ "java/lang/invoke/VarHandle" ∧ (parseMethodDescriptor yX1_packed.desc).map (fun d => d.parameters.length) = some 3 := by decide +kernel
def wx1_packed (p1 : Int32) (p2 : Int32) (p3 : Int32) (K : XK) (T : XT) (post : Int32 → Prop) : Prop :=
  post ((p1 ||| (jshl p2 4)) ||| (jshl p3 8))
set_option maxHeartbeats 4000000 in
theorem mx1_packed (l : Launch) (G : XG) (b : Nat) (hole : Nat → Prop) (p1 : Int32) (p2 : Int32) (p3 : Int32) (K : XK) (T : XT)  (post : Int32 → Prop) (h : wx1_packed p1 p2 p3 K T post) : Met l yX1_packed (ws_ yX1_packed cX1_packed 3 (some .int)) ({ frames := 0, cells := 0, slots := 0, locals := 0 } : Room) (xPc G b hole [.int p1, .int p2, .int p3] K T) (xQ G b hole K 0 0 (ρ := Int32) eI (fun r T1 K1 => post r ∧ T1 = T ∧ K1 = K)) 0 0 (xA b hole) := by
  refine Met.ofW (cc := cX1_packed) (maxL := 3) (ret := (some .int)) (by decide) rfl ?_
  intro p e s m args below meth c s₁ B hml hv
  obtain ⟨rfl, hP, hK, hV⟩ := hv
  have hx := B.exec
  have hb := B.bytes
  have hr := B.returns
  have hts := atoms_spec (ws := ws_ yX1_packed cX1_packed 3 (some .int)) B.pre
  have hts : ∀ w ∈ lw_all, w.before _ s = true := fun w h => hts w (List.mem_cons_of_mem _ h)
  have hown : s.vm.findClass RX1 = some m.cls := findClass_of_methodNamed B.named
  have hlocks := B.notSynchronized
  have hb0 : b ≤ s.heap.size := by rw [hP.2.2.2]; exact Nat.le_add_right _ _
  have hS : va_S (xA b hole) s.heap s.heap [] := va_S.rf
  have hl := lv_entry ([.int p1, .int p2, .int p3]) (n := 3) (Nat.le_of_ble_eq_true rfl)
  rw [lg_entry_eq]
  generalize (lg_sl ([.int p1, .int p2, .int p3]) ++ List.replicate (3 - (lg_sl ([.int p1, .int p2, .int p3])).length) Slot.unset).toArray = ls at hl ⊢
  have hl : lv_has ls 3 [(0, .int p1), (1, .int p2), (2, .int p3)] := hl
  unfold wx1_packed at h
  refine lv_iload_n hx hb dX1_packed_0 rfl (lv_at hl 0 rfl) ?_
  refine lv_iload_n hx hb dX1_packed_1 rfl (lv_at hl 1 rfl) ?_
  refine lv_iconst (v := 4) hx hb dX1_packed_2 (by decide) ?_
  refine m_ishl hx hb dX1_packed_3 ?_
  refine lv_ior hx hb dX1_packed_4 ?_
  refine lv_iload_n hx hb dX1_packed_5 rfl (lv_at hl 2 rfl) ?_
  refine lv_bipush (v := 8) hx hb dX1_packed_6 (by decide) ?_
  refine m_ishl hx hb dX1_packed_8 ?_
  refine lv_ior hx hb dX1_packed_9 ?_
  exact W.iret (v := ((p1 ||| (jshl p2 4)) ||| (jshl p3 8))) hx hb hr (fun t ht hW => ⟨⟨((p1 ||| (jshl p2 4)) ||| (jshl p3 8)), T, K, rfl, ⟨h, rfl, rfl⟩, kle.rf, rfl, rfl, by rw [ht]; exact hP, va_K.moved hW.alike hK⟩, hS.F ht⟩) hS.2.2 dX1_packed_10
theorem cwx_X1_coefficient : yX1_coefficient.cls = RX1 ∧ yX1_coefficient.cls ≠ "java/lang/invoke/MethodHandle" ∧ yX1_coefficient.cls ≠ "java/lang/invoke/VarHandle" ∧ (parseMethodDescriptor yX1_coefficient.desc).map (fun d => d.parameters.length) = some 4 := by decide +kernel
def wx1_coefficient (p1 : Int32) (p2 : Int32) (p3 : Int32) (p4 : Int32) (K0 : XK) (T : XT) (Z Y : Nat) (post : Int32 → XT → XK → Prop) : Prop :=
  kc K0 + 1 ≤ Z ∧ ks K0 + 1 ≤ Y ∧ ∀ K_1 : XK, K_1 = knew K0 1 1 1 → ∀ T_2 : XT, T_2 = xnil T (kz K0) →
  ∃ j_3 : Nat, j_3 < kl K_1 (kz K0) ∧ 0 = nI j_3 ∧ ∀ T_4 : XT, T_4 = xwi T_2 (kz K0) j_3 p1 →
  wx1_is (kz K0) K_1 T_4 (fun r_5 =>
  kc K_1 + 1 ≤ Z ∧ ks K_1 + 3 ≤ Y ∧ ∀ K_8 : XK, K_8 = knew K_1 1 3 3 → ∀ T_9 : XT, T_9 = xnil T_4 (kz K_1) →
  ∃ j_10 : Nat, j_10 < kl K_8 (kz K_1) ∧ 0 = nI j_10 ∧ ∀ T_11 : XT, T_11 = xwi T_9 (kz K_1) j_10 p2 →
  ∃ j_12 : Nat, j_12 < kl K_8 (kz K_1) ∧ 1 = nI j_12 ∧ ∀ T_13 : XT, T_13 = xwi T_11 (kz K_1) j_12 p3 →
  ∃ j_14 : Nat, j_14 < kl K_8 (kz K_1) ∧ 2 = nI j_14 ∧ ∀ T_15 : XT, T_15 = xwi T_13 (kz K_1) j_14 p4 →
  wx1_areExponents (kz K_1) K_8 T_15 (fun r_16 =>
  wx1_why_2 r_5 r_16 K_8 T_15 (fun r_19 =>
  wx1_isRefused r_19 K_8 T_15 (fun r_22 T_23 =>
  ((r_22 = 0 →
    ∃ v_25 : Nat, xr T_23 0 18 = some v_25 ∧
    ∃ j_26 : Nat, j_26 < kl K_8 v_25 ∧ p1 = nI j_26 ∧ ∃ v_27 : Nat, xr T_23 v_25 j_26 = some v_27 ∧
    wx1_spread v_27 K_8 T_23 (fun r_28 T_29 =>
    wx1_packed p2 p3 p4 K_8 T_29 (fun r_31 =>
    ∃ j_34 : Nat, j_34 < kl K_8 r_28 ∧ r_31 = nI j_34 ∧
    post (xi T_29 r_28 j_34) T_29 (kset K_8 Z Y)))) ∧
   (¬ (r_22 = 0) →
    post (-1) T_23 (kset K_8 Z Y)))))))
set_option maxHeartbeats 4000000 in
theorem mx1_coefficient (l : Launch) (G : XG) (b : Nat) (hole : Nat → Prop) (p1 : Int32) (p2 : Int32) (p3 : Int32) (p4 : Int32) (K0 : XK) (T : XT) (Z Y : Nat) (hZ : kc K0 ≤ Z) (hY : ks K0 ≤ Y)  (post : Int32 → XT → XK → Prop) (h : wx1_coefficient p1 p2 p3 p4 K0 T Z Y post) : Met l yX1_coefficient (ws_ yX1_coefficient cX1_coefficient 5 (some .int)) ({ frames := 3, cells := (Z - kc K0), slots := (Y - ks K0), locals := 66 } : Room) (xPc G b hole [.ref (b + 0), .int p1, .int p2, .int p3, .int p4] K0 T) (xQ G b hole K0 (Z - kc K0) (Y - ks K0) (ρ := Int32) eI (fun r T1 K1 => post r T1 K1)) (Z - kc K0) (Y - ks K0) (xA b hole) := by
  refine Met.ofW (cc := cX1_coefficient) (maxL := 5) (ret := (some .int)) (by decide) rfl ?_
  intro p e s m args below meth c s₁ B hml hv
  obtain ⟨rfl, hP, hK, hV⟩ := hv
  have hx := B.exec
  have hb := B.bytes
  have hr := B.returns
  have hts := atoms_spec (ws := ws_ yX1_coefficient cX1_coefficient 5 (some .int)) B.pre
  have hts : ∀ w ∈ lw_all, w.before _ s = true := fun w h => hts w (List.mem_cons_of_mem _ h)
  have hown : s.vm.findClass RX1 = some m.cls := findClass_of_methodNamed B.named
  have hlocks := B.notSynchronized
  have hb0 : b ≤ s.heap.size := by rw [hP.2.2.2]; exact Nat.le_add_right _ _
  have hS : va_S (xA b hole) s.heap s.heap [] := va_S.rf
  have hl := lv_entry ([.ref (b + 0), .int p1, .int p2, .int p3, .int p4]) (n := 5) (Nat.le_of_ble_eq_true rfl)
  rw [lg_entry_eq]
  generalize (lg_sl ([.ref (b + 0), .int p1, .int p2, .int p3, .int p4]) ++ List.replicate (5 - (lg_sl ([.ref (b + 0), .int p1, .int p2, .int p3, .int p4])).length) Slot.unset).toArray = ls at hl ⊢
  have hl : lv_has ls 5 [(0, .ref (b + 0)), (1, .int p1), (2, .int p2), (3, .int p3), (4, .int p4)] := hl
  have hle0 : kle K0 K0 := kle.rf
  have hcn : kc K0 + 0 = kc K0 := rfl
  have hsn : ks K0 + 0 = ks K0 := rfl
  have hzz := hZ
  have hyy := hY
  unfold wx1_coefficient at h
  refine lv_aload_n hx hb dX1_coefficient_0 rfl (lv_at hl 0 rfl) ?_
  refine lv_aload_n hx hb dX1_coefficient_1 rfl (lv_at hl 0 rfl) ?_
  refine lv_iconst (v := 1) hx hb dX1_coefficient_2 (by decide) ?_
  obtain ⟨hc1, hs1, h⟩ := h
  obtain ⟨K_1, eK_1⟩ : ∃ z : XK, z = knew K0 1 1 1 := ⟨_, rfl⟩
  obtain ⟨T_2, eT_2⟩ : ∃ z : XT, z = xnil T (kz K0) := ⟨_, rfl⟩
  have h := h K_1 eK_1 T_2 eT_2
  have hle1 : kle K0 K_1 := by rw [eK_1]; exact kle.new hP.2.2.1 _ _ _
  refine x_newai (N := 1) hx hb hts q170 hK hP hS (by decide) (by decide) (by show _ + 1 ≤ Z - kc K0; omega) (by show _ + _ ≤ Y - ks K0; omega) dX1_coefficient_3 (fun H hP hS => ?_)
  rw [← eK_1, ← eT_2] at hP
  have hk_n1 : kd K_1 (kz K0) = 1 := by rw [eK_1]; exact knew_kd
  have hle0 := hle0.tr hle1
  have hcn : kc K0 + (0 + 1) = kc K_1 := by rw [eK_1]; show _ = kc K0 + 1; omega
  have hsn : ks K0 + (0 + 1) = ks K_1 := by rw [eK_1]; show _ = ks K0 + 1; omega
  have hzz : kc K_1 ≤ Z := by rw [eK_1]; exact hc1
  have hyy : ks K_1 ≤ Y := by rw [eK_1]; exact hs1
  refine lv_dup hx hb dX1_coefficient_5 rfl ?_
  refine lv_iconst (v := 0) hx hb dX1_coefficient_6 (by decide) ?_
  refine lv_iload_n hx hb dX1_coefficient_7 rfl (lv_at hl 1 rfl) ?_
  obtain ⟨j_3, hj_3, ej_3, h⟩ := h
  obtain ⟨T_4, eT_4⟩ : ∃ z : XT, z = xwi T_2 (kz K0) j_3 p1 := ⟨_, rfl⟩
  have h := h T_4 eT_4
  refine x_iast hx hb hK hP hS hk_n1 ej_3 hj_3 dX1_coefficient_8 (fun H locs hP hS => ?_)
  rw [← eT_4] at hP
  refine x_cS (As := [.ref (b + (kz K0))]) (rest := [.ref (b + 0), .ref (b + 0)]) ⟨hx, hb, hml, hown, hts⟩ (mx1_is l G b hole (kz K0) K_1 T_4 hk_n1 _ h) (va_cwS 1 hts (lw_S q793 q794 q118 q795) rfl rfl rfl cwx_X1_is ⟨Nat.le_of_ble_eq_true rfl, Nat.le_of_ble_eq_true rfl⟩) hK hV hb0 hP hS rfl hl.1 rfl (Nat.le_of_ble_eq_true rfl) dX1_coefficient_9 ⟨by first | exact Nat.zero_le _ | (show _ + _ ≤ Z - kc K0; omega), by first | exact Nat.zero_le _ | (show _ + _ ≤ Y - ks K0; omega)⟩ (fun r_5 T1 K1 H locs h hle1 hc1 hs1 hP hS => ?_)
  obtain ⟨h, hTe, hKe⟩ := h
  rw [hTe, hKe] at hP
  refine lv_iconst (v := 3) hx hb dX1_coefficient_12 (by decide) ?_
  obtain ⟨hc1, hs1, h⟩ := h
  obtain ⟨K_8, eK_8⟩ : ∃ z : XK, z = knew K_1 1 3 3 := ⟨_, rfl⟩
  obtain ⟨T_9, eT_9⟩ : ∃ z : XT, z = xnil T_4 (kz K_1) := ⟨_, rfl⟩
  have h := h K_8 eK_8 T_9 eT_9
  have hle1 : kle K_1 K_8 := by rw [eK_8]; exact kle.new hP.2.2.1 _ _ _
  refine x_newai (N := 3) hx hb hts q170 hK hP hS (by decide) (by decide) (by show _ + 1 ≤ Z - kc K0; omega) (by show _ + _ ≤ Y - ks K0; omega) dX1_coefficient_13 (fun H hP hS => ?_)
  rw [← eK_8, ← eT_9] at hP
  have hk_n8 : kd K_8 (kz K_1) = 1 := by rw [eK_8]; exact knew_kd
  have hle0 := hle0.tr hle1
  have hcn : kc K0 + ((0 + 1) + 1) = kc K_8 := by rw [eK_8]; show _ = kc K_1 + 1; omega
  have hsn : ks K0 + ((0 + 1) + 3) = ks K_8 := by rw [eK_8]; show _ = ks K_1 + 3; omega
  have hzz : kc K_8 ≤ Z := by rw [eK_8]; exact hc1
  have hyy : ks K_8 ≤ Y := by rw [eK_8]; exact hs1
  refine lv_dup hx hb dX1_coefficient_15 rfl ?_
  refine lv_iconst (v := 0) hx hb dX1_coefficient_16 (by decide) ?_
  refine lv_iload_n hx hb dX1_coefficient_17 rfl (lv_at hl 2 rfl) ?_
  obtain ⟨j_10, hj_10, ej_10, h⟩ := h
  obtain ⟨T_11, eT_11⟩ : ∃ z : XT, z = xwi T_9 (kz K_1) j_10 p2 := ⟨_, rfl⟩
  have h := h T_11 eT_11
  refine x_iast hx hb hK hP hS hk_n8 ej_10 hj_10 dX1_coefficient_18 (fun H locs hP hS => ?_)
  rw [← eT_11] at hP
  refine lv_dup hx hb dX1_coefficient_19 rfl ?_
  refine lv_iconst (v := 1) hx hb dX1_coefficient_20 (by decide) ?_
  refine lv_iload_n hx hb dX1_coefficient_21 rfl (lv_at hl 3 rfl) ?_
  obtain ⟨j_12, hj_12, ej_12, h⟩ := h
  obtain ⟨T_13, eT_13⟩ : ∃ z : XT, z = xwi T_11 (kz K_1) j_12 p3 := ⟨_, rfl⟩
  have h := h T_13 eT_13
  refine x_iast hx hb hK hP hS hk_n8 ej_12 hj_12 dX1_coefficient_22 (fun H locs hP hS => ?_)
  rw [← eT_13] at hP
  refine lv_dup hx hb dX1_coefficient_23 rfl ?_
  refine lv_iconst (v := 2) hx hb dX1_coefficient_24 (by decide) ?_
  refine lv_iload hx hb dX1_coefficient_25 (lv_at hl 4 rfl) ?_
  obtain ⟨j_14, hj_14, ej_14, h⟩ := h
  obtain ⟨T_15, eT_15⟩ : ∃ z : XT, z = xwi T_13 (kz K_1) j_14 p4 := ⟨_, rfl⟩
  have h := h T_15 eT_15
  refine x_iast hx hb hK hP hS hk_n8 ej_14 hj_14 dX1_coefficient_27 (fun H locs hP hS => ?_)
  rw [← eT_15] at hP
  refine x_cS (As := [.ref (b + (kz K_1))]) (rest := [.int r_5, .ref (b + 0), .ref (b + 0)]) ⟨hx, hb, hml, hown, hts⟩ (mx1_areExponents l G b hole (kz K_1) K_8 T_15 hk_n8 _ h) (va_cwS 1 hts (lw_S q828 q829 q118 q830) rfl rfl rfl cwx_X1_areExponents ⟨Nat.le_of_ble_eq_true rfl, Nat.le_of_ble_eq_true rfl⟩) hK hV hb0 hP hS rfl hl.1 rfl (Nat.le_of_ble_eq_true rfl) dX1_coefficient_28 ⟨by first | exact Nat.zero_le _ | (show _ + _ ≤ Z - kc K0; omega), by first | exact Nat.zero_le _ | (show _ + _ ≤ Y - ks K0; omega)⟩ (fun r_16 T1 K1 H locs h hle1 hc1 hs1 hP hS => ?_)
  obtain ⟨h, hTe, hKe⟩ := h
  rw [hTe, hKe] at hP
  refine x_cV (k := 0) (As := [.int r_5, .int r_16]) (rest := [.ref (b + 0)]) ⟨hx, hb, hml, hown, hts⟩ (mx1_why_2 l G b hole r_5 r_16 K_8 T_15  _ h) (cwV 2 hts (lw_V q773 q775 qs25 q118 q776) rfl rfl rfl cwx_X1_why_2 ⟨Nat.le_of_ble_eq_true rfl, Nat.le_of_ble_eq_true rfl⟩) (x_recv (CC := RX1) (ci := 0) hK hP (xs_0 hP) (by decide) (by decide) rfl (xE_8 (xs_0 hP))) hK hV hb0 hP hS rfl hl.1 rfl (Nat.le_of_ble_eq_true rfl) dX1_coefficient_31 ⟨by first | exact Nat.zero_le _ | (show _ + _ ≤ Z - kc K0; omega), by first | exact Nat.zero_le _ | (show _ + _ ≤ Y - ks K0; omega)⟩ (fun r_19 T1 K1 H locs h hle1 hc1 hs1 hP hS => ?_)
  obtain ⟨h, hTe, hKe⟩ := h
  rw [hTe, hKe] at hP
  refine x_cV (k := 0) (As := [.int r_19]) (rest := []) ⟨hx, hb, hml, hown, hts⟩ (mx1_isRefused l G b hole r_19 K_8 T_15  _ h) (cwV 1 hts (lw_V q777 q779 qs26 q118 q780) rfl rfl rfl cwx_X1_isRefused ⟨Nat.le_of_ble_eq_true rfl, Nat.le_of_ble_eq_true rfl⟩) (x_recv (CC := RX1) (ci := 0) hK hP (xs_0 hP) (by decide) (by decide) rfl (xE_8 (xs_0 hP))) hK hV hb0 hP hS rfl hl.1 rfl (Nat.le_of_ble_eq_true rfl) dX1_coefficient_34 ⟨by first | exact Nat.zero_le _ | (show _ + _ ≤ Z - kc K0; omega), by first | exact Nat.zero_le _ | (show _ + _ ≤ Y - ks K0; omega)⟩ (fun r_22 T1 K1 H locs h hle1 hc1 hs1 hP hS => ?_)
  obtain ⟨h, hKe⟩ := h
  rw [hKe] at hP
  generalize T1 = T_23 at h hP
  refine lv_if_eq (tgt := 42) hx hb dX1_coefficient_37 (by decide) (fun c_35 => ?_) (fun c_35 => ?_)
  · have h := h.1 c_35
    refine lv_aload_n hx hb dX1_coefficient_42 rfl (lv_at hl 0 rfl) ?_
    refine lv_aload_n hx hb dX1_coefficient_43 rfl (lv_at hl 0 rfl) ?_
    obtain ⟨v_25, ev_25, h⟩ := h
    refine x_get (CC := RX1) (TT := TX1) (N := 26) (ci := 0) (v := rfv b (xr T_23 0 18)) hx hb hts in_X1 hown hK hP (xs_0 hP) (by decide) (by decide) rfl (xE_8 (xs_0 hP)) 18 (by decide) q405 rfl rfl dX1_coefficient_44 ?_
    refine x_some ev_25 ?_
    have hk_v_25 : kd K_8 v_25 = 3 := hP.ty (xs_0 hP) (by decide) ev_25
    refine lv_iload_n hx hb dX1_coefficient_47 rfl (lv_at hl 1 rfl) ?_
    obtain ⟨j_26, hj_26, ej_26, v_27, ev_27, h⟩ := h
    refine x_aald3 hx hb hK hP hk_v_25 ej_26 hj_26 dX1_coefficient_48 ?_
    refine x_some ev_27 ?_
    have hk_v_27 : kd K_8 v_27 = 2 := hP.ty hk_v_25 (by decide) ev_27
    refine x_cV (k := 0) (As := [.ref (b + v_27)]) (rest := []) ⟨hx, hb, hml, hown, hts⟩ (mx1_spread l G b hole v_27 K_8 T_23 hk_v_27 _ h) (cwV 1 hts (lw_V q831 q833 qs28 q118 q834) rfl rfl rfl cwx_X1_spread ⟨Nat.le_of_ble_eq_true rfl, Nat.le_of_ble_eq_true rfl⟩) (x_recv (CC := RX1) (ci := 0) hK hP (xs_0 hP) (by decide) (by decide) rfl (xE_8 (xs_0 hP))) hK hV hb0 hP hS rfl hl.1 rfl (Nat.le_of_ble_eq_true rfl) dX1_coefficient_49 ⟨by first | exact Nat.zero_le _ | (show _ + _ ≤ Z - kc K0; omega), by first | exact Nat.zero_le _ | (show _ + _ ≤ Y - ks K0; omega)⟩ (fun r_28 T1 K1 H locs h hle1 hc1 hs1 hP hS => ?_)
    obtain ⟨h, hk_r_28, hKe⟩ := h
    rw [hKe] at hP
    generalize T1 = T_29 at h hP
    rw [hKe] at hk_r_28
    refine lv_iload_n hx hb dX1_coefficient_52 rfl (lv_at hl 2 rfl) ?_
    refine lv_iload_n hx hb dX1_coefficient_53 rfl (lv_at hl 3 rfl) ?_
    refine lv_iload hx hb dX1_coefficient_54 (lv_at hl 4 rfl) ?_
    refine x_cS (As := [.int p2, .int p3, .int p4]) (rest := [.ref (b + r_28)]) ⟨hx, hb, hml, hown, hts⟩ (mx1_packed l G b hole p2 p3 p4 K_8 T_29  _ h) (va_cwS 3 hts (lw_S q836 q837 q118 q838) rfl rfl rfl cwx_X1_packed ⟨Nat.le_of_ble_eq_true rfl, Nat.le_of_ble_eq_true rfl⟩) hK hV hb0 hP hS rfl hl.1 rfl (Nat.le_of_ble_eq_true rfl) dX1_coefficient_56 ⟨by first | exact Nat.zero_le _ | (show _ + _ ≤ Z - kc K0; omega), by first | exact Nat.zero_le _ | (show _ + _ ≤ Y - ks K0; omega)⟩ (fun r_31 T1 K1 H locs h hle1 hc1 hs1 hP hS => ?_)
    obtain ⟨h, hTe, hKe⟩ := h
    rw [hTe, hKe] at hP
    obtain ⟨j_34, hj_34, ej_34, h⟩ := h
    refine x_iald hx hb hK hP hk_r_28 ej_34 hj_34 dX1_coefficient_59 ?_
    refine W.widen (k := Z - kc K0) (n := Y - ks K0) (by omega) (by omega) ?_
    exact W.iret (v := (xi T_29 r_28 j_34)) hx hb hr (fun t ht hW => ⟨⟨(xi T_29 r_28 j_34), T_29, (kset K_8 Z Y), rfl, h, hle0, (by show Z = _; omega), (by show Y = _; omega), by rw [ht]; exact hP, va_K.moved hW.alike hK⟩, hS.F ht⟩) hS.2.2 dX1_coefficient_60
  · have h := h.2 c_35
    refine lv_iconst (v := (-1)) hx hb dX1_coefficient_40 (by decide) ?_
    refine W.widen (k := Z - kc K0) (n := Y - ks K0) (by omega) (by omega) ?_
    exact W.iret (v := (-1)) hx hb hr (fun t ht hW => ⟨⟨(-1), T_23, (kset K_8 Z Y), rfl, h, hle0, (by show Z = _; omega), (by show Y = _; omega), by rw [ht]; exact hP, va_K.moved hW.alike hK⟩, hS.F ht⟩) hS.2.2 dX1_coefficient_41
theorem cwx_X1_areValues : yX1_areValues.cls = RX1 ∧ yX1_areValues.cls ≠ "java/lang/invoke/MethodHandle" ∧ yX1_areValues.cls ≠ "java/lang/invoke/VarHandle" ∧ (parseMethodDescriptor yX1_areValues.desc).map (fun d => d.parameters.length) = some 1 := by decide +kernel
def wx1_areValues_b8 (p1 : Nat) (post : Int32 → Prop) (R8 : Int32 → Prop) (x2 : Nat) (x3 : Int32) (x4 : Int32) (K : XK) (T : XT) : Prop :=
      ((x3 ≤ x4 →
        post 1) ∧
       (¬ (x3 ≤ x4) →
        ∃ j_1 : Nat, j_1 < kl K x2 ∧ x4 = nI j_1 ∧
        wx1_in (xi T x2 j_1) 0 ((xi T 0 0) - 1) K T (fun r_2 =>
        ((¬ r_2 = 0 →
          ∀ x4_5 : Int32, x4_5 = x4 + 1 →
          R8 x4_5) ∧
         (r_2 = 0 →
          post 0)))))
def wx1_areValues_l8 (p1 : Nat) (post : Int32 → Prop) (x2 : Nat) (x3 : Int32) (x4 : Int32) (K : XK) (T : XT) : Prop := wLoop (fun (R : ((Int32)) → Prop) (v : (Int32)) => wx1_areValues_b8 p1 post (fun x4 => R x4) x2 x3 v K T) x4
def wx1_areValues (p1 : Nat) (K : XK) (T : XT) (post : Int32 → Prop) : Prop :=
  ∀ x3_8 : Int32, x3_8 = (nI (kl K p1)) →
  wx1_areValues_l8 p1 post p1 x3_8 0 K T
set_option maxHeartbeats 4000000 in
theorem mx1_areValues (l : Launch) (G : XG) (b : Nat) (hole : Nat → Prop) (p1 : Nat) (K : XK) (T : XT) (hk_p1 : kd K p1 = 1) (post : Int32 → Prop) (h : wx1_areValues p1 K T post) : Met l yX1_areValues (ws_ yX1_areValues cX1_areValues 6 (some .boolean)) ({ frames := 1, cells := 0, slots := 0, locals := 22 } : Room) (xPc G b hole [.ref (b + 0), .ref (b + p1)] K T) (xQ G b hole K 0 0 (ρ := Int32) eI (fun r T1 K1 => post r ∧ T1 = T ∧ K1 = K)) 0 0 (xA b hole) := by
  refine Met.ofW (cc := cX1_areValues) (maxL := 6) (ret := (some .boolean)) (by decide) rfl ?_
  intro p e s m args below meth c s₁ B hml hv
  obtain ⟨rfl, hP, hK, hV⟩ := hv
  have hx := B.exec
  have hb := B.bytes
  have hr := B.returns
  have hts := atoms_spec (ws := ws_ yX1_areValues cX1_areValues 6 (some .boolean)) B.pre
  have hts : ∀ w ∈ lw_all, w.before _ s = true := fun w h => hts w (List.mem_cons_of_mem _ h)
  have hown : s.vm.findClass RX1 = some m.cls := findClass_of_methodNamed B.named
  have hlocks := B.notSynchronized
  have hb0 : b ≤ s.heap.size := by rw [hP.2.2.2]; exact Nat.le_add_right _ _
  have hS : va_S (xA b hole) s.heap s.heap [] := va_S.rf
  have hl := lv_entry ([.ref (b + 0), .ref (b + p1)]) (n := 6) (Nat.le_of_ble_eq_true rfl)
  rw [lg_entry_eq]
  generalize (lg_sl ([.ref (b + 0), .ref (b + p1)]) ++ List.replicate (6 - (lg_sl ([.ref (b + 0), .ref (b + p1)])).length) Slot.unset).toArray = ls at hl ⊢
  have hl : lv_has ls 6 [(0, .ref (b + 0)), (1, .ref (b + p1))] := hl
  have L8 : ∀ (x2 : Nat) (x3 : Int32) (x4 : Int32) (H : Heap) (locs : List Loc) (ls : Array Slot), wx1_areValues_l8 p1 post x2 x3 x4 K T → (kd K x2 = 1) → xW G b hole K T H → va_S (xA b hole) s.heap H locs → lv_has ls 6 [(0, .ref (b + 0)), (2, .ref (b + x2)), (3, .int x3), (4, .int x4)] → W p l e (headSpec (ws_ yX1_areValues cX1_areValues 6 (some .boolean)) ({ frames := 1, cells := 0, slots := 0, locals := 22 } : Room)).room s m ([.ref (b + 0), .ref (b + p1)] : List Value).toArray below meth c H locs 0 0 (MQ below (xQ G b hole K 0 0 (ρ := Int32) eI (fun r T1 K1 => post r ∧ T1 = T ∧ K1 = K)) ([.ref (b + 0), .ref (b + p1)] : List Value).toArray s 0 0 (xA b hole)) (F0 m 8 ls []) := by
    intro x2 x3 x4 H locs ls h hk_x2 hP hS hl
    obtain ⟨I8, n8, hI, hstep8⟩ := h
    induction n8 using Nat.strongRecOn generalizing x4 H locs ls with
    | ind n8 ih8 =>
      have h : wx1_areValues_b8 p1 post (fun x4 => ∃ mm, mm < n8 ∧ I8 mm x4) x2 x3 x4 K T := hstep8 n8 _ hI
      clear hI
      unfold wx1_areValues_b8 at h
      refine lv_iload hx hb dX1_areValues_8 (lv_at hl 3 rfl) ?_
      refine lv_iload_n hx hb dX1_areValues_10 rfl (lv_at hl 2 rfl) ?_
      refine lv_icmp_ge (tgt := 43) hx hb dX1_areValues_11 (by decide) (fun c_7 => ?_) (fun c_7 => ?_)
      · have h := h.1 c_7
        refine lv_iconst (v := 1) hx hb dX1_areValues_43 (by decide) ?_
        exact W.zret (v := 1) hx hb hr rfl (fun t ht hW => ⟨⟨1, T, K, rfl, ⟨h, rfl, rfl⟩, kle.rf, rfl, rfl, by rw [ht]; exact hP, va_K.moved hW.alike hK⟩, hS.F ht⟩) hS.2.2 dX1_areValues_44
      · have h := h.2 c_7
        refine lv_aload_n hx hb dX1_areValues_14 rfl (lv_at hl 1 rfl) ?_
        refine lv_iload hx hb dX1_areValues_15 (lv_at hl 3 rfl) ?_
        obtain ⟨j_1, hj_1, ej_1, h⟩ := h
        refine x_iald hx hb hK hP hk_x2 ej_1 hj_1 dX1_areValues_17 ?_
        refine lv_istore (lv' := [(5, .int (xi T x2 j_1)), (0, .ref (b + 0)), (2, .ref (b + x2)), (3, .int x3), (4, .int x4)]) hx hb dX1_areValues_18 hl (by decide) rfl (fun ls hl => ?_)
        refine lv_iload hx hb dX1_areValues_20 (lv_at hl 0 rfl) ?_
        refine lv_iconst (v := 0) hx hb dX1_areValues_22 (by decide) ?_
        refine lv_aload_n hx hb dX1_areValues_23 rfl (lv_at hl 1 rfl) ?_
        refine x_get (CC := RX1) (TT := TX1) (N := 26) (ci := 0) (v := .int (xi T 0 0)) hx hb hts in_X1 hown hK hP (xs_0 hP) (by decide) (by decide) rfl (xE_8 (xs_0 hP)) 0 (by decide) q384 rfl rfl dX1_areValues_24 ?_
        refine lv_iconst (v := 1) hx hb dX1_areValues_27 (by decide) ?_
        refine lv_isub hx hb dX1_areValues_28 ?_
        refine x_cS (As := [.int (xi T x2 j_1), .int 0, .int ((xi T 0 0) - 1)]) (rest := []) ⟨hx, hb, hml, hown, hts⟩ (mx1_in l G b hole (xi T x2 j_1) 0 ((xi T 0 0) - 1) K T  _ h) (va_cwS 3 hts (lw_S q483 q484 q118 q485) rfl rfl rfl cwx_X1_in ⟨Nat.le_of_ble_eq_true rfl, Nat.le_of_ble_eq_true rfl⟩) hK hV hb0 hP hS rfl hl.1 rfl (Nat.le_of_ble_eq_true rfl) dX1_areValues_29 ⟨by first | exact Nat.zero_le _ | (show _ + _ ≤ Z - kc K0; omega), by first | exact Nat.zero_le _ | (show _ + _ ≤ Y - ks K0; omega)⟩ (fun r_2 T1 K1 H locs h hle1 hc1 hs1 hP hS => ?_)
        obtain ⟨h, hTe, hKe⟩ := h
        rw [hTe, hKe] at hP
        refine lv_if_ne (tgt := 37) hx hb dX1_areValues_32 (by decide) (fun c_6 => ?_) (fun c_6 => ?_)
        · have h := h.1 c_6
          obtain ⟨x4_5, ex4_5⟩ : ∃ y : Int32, y = x4 + 1 := ⟨_, rfl⟩
          have h := h x4_5 ex4_5
          refine lv_iinc (v := x4_5) (lv' := [(4, .int x4_5), (5, .int (xi T x2 j_1)), (0, .ref (b + 0)), (2, .ref (b + x2)), (3, .int x3)]) hx hb dX1_areValues_37 hl (k := 4) rfl (by rw [ex4_5]; rfl) (by decide) rfl (fun ls hl => ?_)
          refine lv_goto (tgt := 8) hx hb dX1_areValues_40 (by decide) ?_
          obtain ⟨mm, hmm, h⟩ := h
          exact ih8 mm hmm _ _ _ _  hP hS (lv_sub hl [2, 3, 4, 0] rfl) h
        · have h := h.2 c_6
          refine lv_iconst (v := 0) hx hb dX1_areValues_35 (by decide) ?_
          exact W.zret (v := 0) hx hb hr rfl (fun t ht hW => ⟨⟨0, T, K, rfl, ⟨h, rfl, rfl⟩, kle.rf, rfl, rfl, by rw [ht]; exact hP, va_K.moved hW.alike hK⟩, hS.F ht⟩) hS.2.2 dX1_areValues_36
  unfold wx1_areValues at h
  refine lv_aload_n hx hb dX1_areValues_0 rfl (lv_at hl 1 rfl) ?_
  refine lv_astore_n (lv' := [(2, .ref (b + p1)), (0, .ref (b + 0)), (1, .ref (b + p1))]) hx hb dX1_areValues_1 rfl hl (by decide) rfl (fun ls hl => ?_)
  refine lv_aload_n hx hb dX1_areValues_2 rfl (lv_at hl 0 rfl) ?_
  refine x_alen1 hx hb hK hP hk_p1 dX1_areValues_3 ?_
  refine lv_topi (fun x3_8 ex3_8 => ?_)
  have h := h x3_8 ex3_8
  refine lv_istore_n (lv' := [(3, .int x3_8), (2, .ref (b + p1)), (0, .ref (b + 0)), (1, .ref (b + p1))]) hx hb dX1_areValues_4 rfl hl (by decide) rfl (fun ls hl => ?_)
  refine lv_iconst (v := 0) hx hb dX1_areValues_5 (by decide) ?_
  refine lv_istore (lv' := [(4, .int 0), (3, .int x3_8), (2, .ref (b + p1)), (0, .ref (b + 0)), (1, .ref (b + p1))]) hx hb dX1_areValues_6 hl (by decide) rfl (fun ls hl => ?_)
  exact L8 _ _ _ _ _ _ h hk_p1 hP hS (lv_sub hl [3, 2, 1, 0] rfl)
theorem cwx_X1_power : yX1_power.cls = RX1 ∧ yX1_power.cls ≠ "java/lang/invoke/MethodHandle" ∧ yX1_power.cls ≠ "java/lang/invoke/VarHandle" ∧ (parseMethodDescriptor yX1_power.desc).map (fun d => d.parameters.length) = some 2 := by decide +kernel
def wx1_power_b5 (p1 : Int32) (p2 : Int32) (post : Int32 → Prop) (R5 : Int32 → Int32 → Prop)  (x3 : Int32) (x4 : Int32) (K : XK) (T : XT) : Prop :=
      ((p2 ≤ x4 →
        post x3) ∧
       (¬ (p2 ≤ x4) →
        ¬ (xi T 0 0) = 0 ∧
        ∀ x3_1 : Int32, x3_1 = (jrem (x3 * p1) (xi T 0 0)) →
        ∀ x4_2 : Int32, x4_2 = x4 + 1 →
        R5 x3_1 x4_2))
def wx1_power_l5 (p1 : Int32) (p2 : Int32) (post : Int32 → Prop)  (x3 : Int32) (x4 : Int32) (K : XK) (T : XT) : Prop := wLoop (fun (R : ((Int32) × (Int32)) → Prop) (v : (Int32) × (Int32)) => wx1_power_b5 p1 p2 post (fun x3 x4 => R (x3, x4))  v.1 v.2 K T) (x3, x4)
def wx1_power (p1 : Int32) (p2 : Int32) (K : XK) (T : XT) (post : Int32 → Prop) : Prop :=
  wx1_power_l5 p1 p2 post 1 0 K T
set_option maxHeartbeats 4000000 in
theorem mx1_power (l : Launch) (G : XG) (b : Nat) (hole : Nat → Prop) (p1 : Int32) (p2 : Int32) (K : XK) (T : XT)  (post : Int32 → Prop) (h : wx1_power p1 p2 K T post) : Met l yX1_power (ws_ yX1_power cX1_power 5 (some .int)) ({ frames := 0, cells := 0, slots := 0, locals := 0 } : Room) (xPc G b hole [.ref (b + 0), .int p1, .int p2] K T) (xQ G b hole K 0 0 (ρ := Int32) eI (fun r T1 K1 => post r ∧ T1 = T ∧ K1 = K)) 0 0 (xA b hole) := by
  refine Met.ofW (cc := cX1_power) (maxL := 5) (ret := (some .int)) (by decide) rfl ?_
  intro p e s m args below meth c s₁ B hml hv
  obtain ⟨rfl, hP, hK, hV⟩ := hv
  have hx := B.exec
  have hb := B.bytes
  have hr := B.returns
  have hts := atoms_spec (ws := ws_ yX1_power cX1_power 5 (some .int)) B.pre
  have hts : ∀ w ∈ lw_all, w.before _ s = true := fun w h => hts w (List.mem_cons_of_mem _ h)
  have hown : s.vm.findClass RX1 = some m.cls := findClass_of_methodNamed B.named
  have hlocks := B.notSynchronized
  have hb0 : b ≤ s.heap.size := by rw [hP.2.2.2]; exact Nat.le_add_right _ _
  have hS : va_S (xA b hole) s.heap s.heap [] := va_S.rf
  have hl := lv_entry ([.ref (b + 0), .int p1, .int p2]) (n := 5) (Nat.le_of_ble_eq_true rfl)
  rw [lg_entry_eq]
  generalize (lg_sl ([.ref (b + 0), .int p1, .int p2]) ++ List.replicate (5 - (lg_sl ([.ref (b + 0), .int p1, .int p2])).length) Slot.unset).toArray = ls at hl ⊢
  have hl : lv_has ls 5 [(0, .ref (b + 0)), (1, .int p1), (2, .int p2)] := hl
  have L5 : ∀ (x3 : Int32) (x4 : Int32) (H : Heap) (locs : List Loc) (ls : Array Slot), wx1_power_l5 p1 p2 post  x3 x4 K T → xW G b hole K T H → va_S (xA b hole) s.heap H locs → lv_has ls 5 [(0, .ref (b + 0)), (1, .int p1), (2, .int p2), (3, .int x3), (4, .int x4)] → W p l e (headSpec (ws_ yX1_power cX1_power 5 (some .int)) ({ frames := 0, cells := 0, slots := 0, locals := 0 } : Room)).room s m ([.ref (b + 0), .int p1, .int p2] : List Value).toArray below meth c H locs 0 0 (MQ below (xQ G b hole K 0 0 (ρ := Int32) eI (fun r T1 K1 => post r ∧ T1 = T ∧ K1 = K)) ([.ref (b + 0), .int p1, .int p2] : List Value).toArray s 0 0 (xA b hole)) (F0 m 5 ls []) := by
    intro x3 x4 H locs ls h hP hS hl
    obtain ⟨I5, n5, hI, hstep5⟩ := h
    induction n5 using Nat.strongRecOn generalizing x3 x4 H locs ls with
    | ind n5 ih5 =>
      have h : wx1_power_b5 p1 p2 post (fun x3 x4 => ∃ mm, mm < n5 ∧ I5 mm (x3, x4))  x3 x4 K T := hstep5 n5 _ hI
      clear hI
      unfold wx1_power_b5 at h
      refine lv_iload hx hb dX1_power_5 (lv_at hl 4 rfl) ?_
      refine lv_iload_n hx hb dX1_power_7 rfl (lv_at hl 2 rfl) ?_
      refine lv_icmp_ge (tgt := 26) hx hb dX1_power_8 (by decide) (fun c_3 => ?_) (fun c_3 => ?_)
      · have h := h.1 c_3
        refine lv_iload_n hx hb dX1_power_26 rfl (lv_at hl 3 rfl) ?_
        exact W.iret (v := x3) hx hb hr (fun t ht hW => ⟨⟨x3, T, K, rfl, ⟨h, rfl, rfl⟩, kle.rf, rfl, rfl, by rw [ht]; exact hP, va_K.moved hW.alike hK⟩, hS.F ht⟩) hS.2.2 dX1_power_27
      · have h := h.2 c_3
        refine lv_iload_n hx hb dX1_power_11 rfl (lv_at hl 3 rfl) ?_
        refine lv_iload_n hx hb dX1_power_12 rfl (lv_at hl 1 rfl) ?_
        refine lv_imul hx hb dX1_power_13 ?_
        refine lv_aload_n hx hb dX1_power_14 rfl (lv_at hl 0 rfl) ?_
        refine x_get (CC := RX1) (TT := TX1) (N := 26) (ci := 0) (v := .int (xi T 0 0)) hx hb hts in_X1 hown hK hP (xs_0 hP) (by decide) (by decide) rfl (xE_8 (xs_0 hP)) 0 (by decide) q384 rfl rfl dX1_power_15 ?_
        obtain ⟨hne, h⟩ := h
        refine m_irem hx hb dX1_power_18 hne ?_
        refine lv_topi (fun x3_1 ex3_1 => ?_)
        have h := h x3_1 ex3_1
        refine lv_istore_n (lv' := [(3, .int x3_1), (0, .ref (b + 0)), (1, .int p1), (2, .int p2), (4, .int x4)]) hx hb dX1_power_19 rfl hl (by decide) rfl (fun ls hl => ?_)
        obtain ⟨x4_2, ex4_2⟩ : ∃ y : Int32, y = x4 + 1 := ⟨_, rfl⟩
        have h := h x4_2 ex4_2
        refine lv_iinc (v := x4_2) (lv' := [(4, .int x4_2), (3, .int x3_1), (0, .ref (b + 0)), (1, .int p1), (2, .int p2)]) hx hb dX1_power_20 hl (k := 4) rfl (by rw [ex4_2]; rfl) (by decide) rfl (fun ls hl => ?_)
        refine lv_goto (tgt := 5) hx hb dX1_power_23 (by decide) ?_
        obtain ⟨mm, hmm, h⟩ := h
        exact ih5 mm hmm _ _ _ _ _  hP hS (lv_sub hl [2, 3, 4, 1, 0] rfl) h
  unfold wx1_power at h
  refine lv_iconst (v := 1) hx hb dX1_power_0 (by decide) ?_
  refine lv_istore_n (lv' := [(3, .int 1), (0, .ref (b + 0)), (1, .int p1), (2, .int p2)]) hx hb dX1_power_1 rfl hl (by decide) rfl (fun ls hl => ?_)
  refine lv_iconst (v := 0) hx hb dX1_power_2 (by decide) ?_
  refine lv_istore (lv' := [(4, .int 0), (3, .int 1), (0, .ref (b + 0)), (1, .int p1), (2, .int p2)]) hx hb dX1_power_3 hl (by decide) rfl (fun ls hl => ?_)
  exact L5 _ _ _ _ _ h  hP hS (lv_sub hl [2, 3, 4, 1, 0] rfl)
theorem cwx_X1_valueOf : yX1_valueOf.cls = RX1 ∧ yX1_valueOf.cls ≠ "java/lang/invoke/MethodHandle" ∧ yX1_valueOf.cls ≠ "java/lang/invoke/VarHandle" ∧ (parseMethodDescriptor yX1_valueOf.desc).map (fun d => d.parameters.length) = some 4 := by decide +kernel
def wx1_valueOf_b6 (p1 : Nat) (p2 : Int32) (p3 : Int32) (p4 : Int32) (post : Int32 → Prop) (R6 : Int32 → Int32 → Prop)  (x5 : Int32) (x6 : Int32) (K : XK) (T : XT) : Prop :=
      (((xi T p1 2) ≤ x6 →
        post x5) ∧
       (¬ ((xi T p1 2) ≤ x6) →
        ∃ v_1 : Nat, xr T p1 1 = some v_1 ∧
        ∃ j_2 : Nat, j_2 < kl K v_1 ∧ x6 = nI j_2 ∧
        ∃ v_3 : Nat, xr T p1 0 = some v_3 ∧
        ∃ j_4 : Nat, j_4 < kl K v_3 ∧ x6 = nI j_4 ∧
        wx1_exponent (xi T v_3 j_4) 0 K T (fun r_5 =>
        wx1_power p2 r_5 K T (fun r_8 =>
        ¬ (xi T 0 0) = 0 ∧
        ∃ v_11 : Nat, xr T p1 0 = some v_11 ∧
        ∃ j_12 : Nat, j_12 < kl K v_11 ∧ x6 = nI j_12 ∧
        wx1_exponent (xi T v_11 j_12) 1 K T (fun r_13 =>
        wx1_power p3 r_13 K T (fun r_16 =>
        ¬ (xi T 0 0) = 0 ∧
        ∃ v_19 : Nat, xr T p1 0 = some v_19 ∧
        ∃ j_20 : Nat, j_20 < kl K v_19 ∧ x6 = nI j_20 ∧
        wx1_exponent (xi T v_19 j_20) 2 K T (fun r_21 =>
        wx1_power p4 r_21 K T (fun r_24 =>
        ¬ (xi T 0 0) = 0 ∧
        ∀ x5_27 : Int32, x5_27 = (jrem (x5 + ((jrem ((jrem ((xi T v_1 j_2) * r_8) (xi T 0 0)) * r_16) (xi T 0 0)) * r_24)) (xi T 0 0)) →
        ∀ x6_28 : Int32, x6_28 = x6 + 1 →
        R6 x5_27 x6_28))))))))
def wx1_valueOf_l6 (p1 : Nat) (p2 : Int32) (p3 : Int32) (p4 : Int32) (post : Int32 → Prop)  (x5 : Int32) (x6 : Int32) (K : XK) (T : XT) : Prop := wLoop (fun (R : ((Int32) × (Int32)) → Prop) (v : (Int32) × (Int32)) => wx1_valueOf_b6 p1 p2 p3 p4 post (fun x5 x6 => R (x5, x6))  v.1 v.2 K T) (x5, x6)
def wx1_valueOf (p1 : Nat) (p2 : Int32) (p3 : Int32) (p4 : Int32) (K : XK) (T : XT) (post : Int32 → Prop) : Prop :=
  wx1_valueOf_l6 p1 p2 p3 p4 post 0 0 K T
set_option maxHeartbeats 4000000 in
theorem mx1_valueOf (l : Launch) (G : XG) (b : Nat) (hole : Nat → Prop) (p1 : Nat) (p2 : Int32) (p3 : Int32) (p4 : Int32) (K : XK) (T : XT) (hk_p1 : kd K p1 = 2) (post : Int32 → Prop) (h : wx1_valueOf p1 p2 p3 p4 K T post) : Met l yX1_valueOf (ws_ yX1_valueOf cX1_valueOf 7 (some .int)) ({ frames := 1, cells := 0, slots := 0, locals := 24 } : Room) (xPc G b hole [.ref (b + 0), .ref (b + p1), .int p2, .int p3, .int p4] K T) (xQ G b hole K 0 0 (ρ := Int32) eI (fun r T1 K1 => post r ∧ T1 = T ∧ K1 = K)) 0 0 (xA b hole) := by
  refine Met.ofW (cc := cX1_valueOf) (maxL := 7) (ret := (some .int)) (by decide) rfl ?_
  intro p e s m args below meth c s₁ B hml hv
  obtain ⟨rfl, hP, hK, hV⟩ := hv
  have hx := B.exec
  have hb := B.bytes
  have hr := B.returns
  have hts := atoms_spec (ws := ws_ yX1_valueOf cX1_valueOf 7 (some .int)) B.pre
  have hts : ∀ w ∈ lw_all, w.before _ s = true := fun w h => hts w (List.mem_cons_of_mem _ h)
  have hown : s.vm.findClass RX1 = some m.cls := findClass_of_methodNamed B.named
  have hlocks := B.notSynchronized
  have hb0 : b ≤ s.heap.size := by rw [hP.2.2.2]; exact Nat.le_add_right _ _
  have hS : va_S (xA b hole) s.heap s.heap [] := va_S.rf
  have hl := lv_entry ([.ref (b + 0), .ref (b + p1), .int p2, .int p3, .int p4]) (n := 7) (Nat.le_of_ble_eq_true rfl)
  rw [lg_entry_eq]
  generalize (lg_sl ([.ref (b + 0), .ref (b + p1), .int p2, .int p3, .int p4]) ++ List.replicate (7 - (lg_sl ([.ref (b + 0), .ref (b + p1), .int p2, .int p3, .int p4])).length) Slot.unset).toArray = ls at hl ⊢
  have hl : lv_has ls 7 [(0, .ref (b + 0)), (1, .ref (b + p1)), (2, .int p2), (3, .int p3), (4, .int p4)] := hl
  have L6 : ∀ (x5 : Int32) (x6 : Int32) (H : Heap) (locs : List Loc) (ls : Array Slot), wx1_valueOf_l6 p1 p2 p3 p4 post  x5 x6 K T → xW G b hole K T H → va_S (xA b hole) s.heap H locs → lv_has ls 7 [(0, .ref (b + 0)), (1, .ref (b + p1)), (2, .int p2), (3, .int p3), (4, .int p4), (5, .int x5), (6, .int x6)] → W p l e (headSpec (ws_ yX1_valueOf cX1_valueOf 7 (some .int)) ({ frames := 1, cells := 0, slots := 0, locals := 24 } : Room)).room s m ([.ref (b + 0), .ref (b + p1), .int p2, .int p3, .int p4] : List Value).toArray below meth c H locs 0 0 (MQ below (xQ G b hole K 0 0 (ρ := Int32) eI (fun r T1 K1 => post r ∧ T1 = T ∧ K1 = K)) ([.ref (b + 0), .ref (b + p1), .int p2, .int p3, .int p4] : List Value).toArray s 0 0 (xA b hole)) (F0 m 6 ls []) := by
    intro x5 x6 H locs ls h hP hS hl
    obtain ⟨I6, n6, hI, hstep6⟩ := h
    induction n6 using Nat.strongRecOn generalizing x5 x6 H locs ls with
    | ind n6 ih6 =>
      have h : wx1_valueOf_b6 p1 p2 p3 p4 post (fun x5 x6 => ∃ mm, mm < n6 ∧ I6 mm (x5, x6))  x5 x6 K T := hstep6 n6 _ hI
      clear hI
      unfold wx1_valueOf_b6 at h
      refine lv_iload hx hb dX1_valueOf_6 (lv_at hl 6 rfl) ?_
      refine lv_aload_n hx hb dX1_valueOf_8 rfl (lv_at hl 1 rfl) ?_
      refine x_get (CC := RX6) (TT := TX6) (N := 3) (ci := 5) (v := .int (xi T p1 2)) hx hb hts in_X6 hown hK hP hk_p1 (by decide) (by decide) rfl (xE_2 hk_p1) 2 (by decide) q372 rfl rfl dX1_valueOf_9 ?_
      refine lv_icmp_ge (tgt := 100) hx hb dX1_valueOf_12 (by decide) (fun c_29 => ?_) (fun c_29 => ?_)
      · have h := h.1 c_29
        refine lv_iload hx hb dX1_valueOf_100 (lv_at hl 5 rfl) ?_
        exact W.iret (v := x5) hx hb hr (fun t ht hW => ⟨⟨x5, T, K, rfl, ⟨h, rfl, rfl⟩, kle.rf, rfl, rfl, by rw [ht]; exact hP, va_K.moved hW.alike hK⟩, hS.F ht⟩) hS.2.2 dX1_valueOf_102
      · have h := h.2 c_29
        refine lv_iload hx hb dX1_valueOf_15 (lv_at hl 5 rfl) ?_
        refine lv_aload_n hx hb dX1_valueOf_17 rfl (lv_at hl 1 rfl) ?_
        obtain ⟨v_1, ev_1, h⟩ := h
        refine x_get (CC := RX6) (TT := TX6) (N := 3) (ci := 5) (v := rfv b (xr T p1 1)) hx hb hts in_X6 hown hK hP hk_p1 (by decide) (by decide) rfl (xE_2 hk_p1) 1 (by decide) q369 rfl rfl dX1_valueOf_18 ?_
        refine x_some ev_1 ?_
        have hk_v_1 : kd K v_1 = 1 := hP.ty hk_p1 (by decide) ev_1
        refine lv_iload hx hb dX1_valueOf_21 (lv_at hl 6 rfl) ?_
        obtain ⟨j_2, hj_2, ej_2, h⟩ := h
        refine x_iald hx hb hK hP hk_v_1 ej_2 hj_2 dX1_valueOf_23 ?_
        refine lv_aload_n hx hb dX1_valueOf_24 rfl (lv_at hl 0 rfl) ?_
        refine lv_iload_n hx hb dX1_valueOf_25 rfl (lv_at hl 2 rfl) ?_
        refine lv_aload_n hx hb dX1_valueOf_26 rfl (lv_at hl 1 rfl) ?_
        obtain ⟨v_3, ev_3, h⟩ := h
        refine x_get (CC := RX6) (TT := TX6) (N := 3) (ci := 5) (v := rfv b (xr T p1 0)) hx hb hts in_X6 hown hK hP hk_p1 (by decide) (by decide) rfl (xE_2 hk_p1) 0 (by decide) q366 rfl rfl dX1_valueOf_27 ?_
        refine x_some ev_3 ?_
        have hk_v_3 : kd K v_3 = 1 := hP.ty hk_p1 (by decide) ev_3
        refine lv_iload hx hb dX1_valueOf_30 (lv_at hl 6 rfl) ?_
        obtain ⟨j_4, hj_4, ej_4, h⟩ := h
        refine x_iald hx hb hK hP hk_v_3 ej_4 hj_4 dX1_valueOf_32 ?_
        refine lv_iconst (v := 0) hx hb dX1_valueOf_33 (by decide) ?_
        refine x_cS (As := [.int (xi T v_3 j_4), .int 0]) (rest := [.int p2, .ref (b + 0), .int (xi T v_1 j_2), .int x5]) ⟨hx, hb, hml, hown, hts⟩ (mx1_exponent l G b hole (xi T v_3 j_4) 0 K T  _ h) (va_cwS 2 hts (lw_S q723 q724 q118 q725) rfl rfl rfl cwx_X1_exponent ⟨Nat.le_of_ble_eq_true rfl, Nat.le_of_ble_eq_true rfl⟩) hK hV hb0 hP hS rfl hl.1 rfl (Nat.le_of_ble_eq_true rfl) dX1_valueOf_34 ⟨by first | exact Nat.zero_le _ | (show _ + _ ≤ Z - kc K0; omega), by first | exact Nat.zero_le _ | (show _ + _ ≤ Y - ks K0; omega)⟩ (fun r_5 T1 K1 H locs h hle1 hc1 hs1 hP hS => ?_)
        obtain ⟨h, hTe, hKe⟩ := h
        rw [hTe, hKe] at hP
        refine x_cV (k := 0) (As := [.int p2, .int r_5]) (rest := [.int (xi T v_1 j_2), .int x5]) ⟨hx, hb, hml, hown, hts⟩ (mx1_power l G b hole p2 r_5 K T  _ h) (cwV 2 hts (lw_V q851 q853 qs31 q118 q854) rfl rfl rfl cwx_X1_power ⟨Nat.le_of_ble_eq_true rfl, Nat.le_of_ble_eq_true rfl⟩) (x_recv (CC := RX1) (ci := 0) hK hP (xs_0 hP) (by decide) (by decide) rfl (xE_8 (xs_0 hP))) hK hV hb0 hP hS rfl hl.1 rfl (Nat.le_of_ble_eq_true rfl) dX1_valueOf_37 ⟨by first | exact Nat.zero_le _ | (show _ + _ ≤ Z - kc K0; omega), by first | exact Nat.zero_le _ | (show _ + _ ≤ Y - ks K0; omega)⟩ (fun r_8 T1 K1 H locs h hle1 hc1 hs1 hP hS => ?_)
        obtain ⟨h, hTe, hKe⟩ := h
        rw [hTe, hKe] at hP
        refine lv_imul hx hb dX1_valueOf_40 ?_
        refine lv_aload_n hx hb dX1_valueOf_41 rfl (lv_at hl 0 rfl) ?_
        refine x_get (CC := RX1) (TT := TX1) (N := 26) (ci := 0) (v := .int (xi T 0 0)) hx hb hts in_X1 hown hK hP (xs_0 hP) (by decide) (by decide) rfl (xE_8 (xs_0 hP)) 0 (by decide) q384 rfl rfl dX1_valueOf_42 ?_
        obtain ⟨hne, h⟩ := h
        refine m_irem hx hb dX1_valueOf_45 hne ?_
        refine lv_aload_n hx hb dX1_valueOf_46 rfl (lv_at hl 0 rfl) ?_
        refine lv_iload_n hx hb dX1_valueOf_47 rfl (lv_at hl 3 rfl) ?_
        refine lv_aload_n hx hb dX1_valueOf_48 rfl (lv_at hl 1 rfl) ?_
        obtain ⟨v_11, ev_11, h⟩ := h
        refine x_get (CC := RX6) (TT := TX6) (N := 3) (ci := 5) (v := rfv b (xr T p1 0)) hx hb hts in_X6 hown hK hP hk_p1 (by decide) (by decide) rfl (xE_2 hk_p1) 0 (by decide) q366 rfl rfl dX1_valueOf_49 ?_
        refine x_some ev_11 ?_
        have hk_v_11 : kd K v_11 = 1 := hP.ty hk_p1 (by decide) ev_11
        refine lv_iload hx hb dX1_valueOf_52 (lv_at hl 6 rfl) ?_
        obtain ⟨j_12, hj_12, ej_12, h⟩ := h
        refine x_iald hx hb hK hP hk_v_11 ej_12 hj_12 dX1_valueOf_54 ?_
        refine lv_iconst (v := 1) hx hb dX1_valueOf_55 (by decide) ?_
        refine x_cS (As := [.int (xi T v_11 j_12), .int 1]) (rest := [.int p3, .ref (b + 0), .int (jrem ((xi T v_1 j_2) * r_8) (xi T 0 0)), .int x5]) ⟨hx, hb, hml, hown, hts⟩ (mx1_exponent l G b hole (xi T v_11 j_12) 1 K T  _ h) (va_cwS 2 hts (lw_S q723 q724 q118 q725) rfl rfl rfl cwx_X1_exponent ⟨Nat.le_of_ble_eq_true rfl, Nat.le_of_ble_eq_true rfl⟩) hK hV hb0 hP hS rfl hl.1 rfl (Nat.le_of_ble_eq_true rfl) dX1_valueOf_56 ⟨by first | exact Nat.zero_le _ | (show _ + _ ≤ Z - kc K0; omega), by first | exact Nat.zero_le _ | (show _ + _ ≤ Y - ks K0; omega)⟩ (fun r_13 T1 K1 H locs h hle1 hc1 hs1 hP hS => ?_)
        obtain ⟨h, hTe, hKe⟩ := h
        rw [hTe, hKe] at hP
        refine x_cV (k := 0) (As := [.int p3, .int r_13]) (rest := [.int (jrem ((xi T v_1 j_2) * r_8) (xi T 0 0)), .int x5]) ⟨hx, hb, hml, hown, hts⟩ (mx1_power l G b hole p3 r_13 K T  _ h) (cwV 2 hts (lw_V q851 q853 qs31 q118 q854) rfl rfl rfl cwx_X1_power ⟨Nat.le_of_ble_eq_true rfl, Nat.le_of_ble_eq_true rfl⟩) (x_recv (CC := RX1) (ci := 0) hK hP (xs_0 hP) (by decide) (by decide) rfl (xE_8 (xs_0 hP))) hK hV hb0 hP hS rfl hl.1 rfl (Nat.le_of_ble_eq_true rfl) dX1_valueOf_59 ⟨by first | exact Nat.zero_le _ | (show _ + _ ≤ Z - kc K0; omega), by first | exact Nat.zero_le _ | (show _ + _ ≤ Y - ks K0; omega)⟩ (fun r_16 T1 K1 H locs h hle1 hc1 hs1 hP hS => ?_)
        obtain ⟨h, hTe, hKe⟩ := h
        rw [hTe, hKe] at hP
        refine lv_imul hx hb dX1_valueOf_62 ?_
        refine lv_aload_n hx hb dX1_valueOf_63 rfl (lv_at hl 0 rfl) ?_
        refine x_get (CC := RX1) (TT := TX1) (N := 26) (ci := 0) (v := .int (xi T 0 0)) hx hb hts in_X1 hown hK hP (xs_0 hP) (by decide) (by decide) rfl (xE_8 (xs_0 hP)) 0 (by decide) q384 rfl rfl dX1_valueOf_64 ?_
        obtain ⟨hne, h⟩ := h
        refine m_irem hx hb dX1_valueOf_67 hne ?_
        refine lv_aload_n hx hb dX1_valueOf_68 rfl (lv_at hl 0 rfl) ?_
        refine lv_iload hx hb dX1_valueOf_69 (lv_at hl 4 rfl) ?_
        refine lv_aload_n hx hb dX1_valueOf_71 rfl (lv_at hl 1 rfl) ?_
        obtain ⟨v_19, ev_19, h⟩ := h
        refine x_get (CC := RX6) (TT := TX6) (N := 3) (ci := 5) (v := rfv b (xr T p1 0)) hx hb hts in_X6 hown hK hP hk_p1 (by decide) (by decide) rfl (xE_2 hk_p1) 0 (by decide) q366 rfl rfl dX1_valueOf_72 ?_
        refine x_some ev_19 ?_
        have hk_v_19 : kd K v_19 = 1 := hP.ty hk_p1 (by decide) ev_19
        refine lv_iload hx hb dX1_valueOf_75 (lv_at hl 6 rfl) ?_
        obtain ⟨j_20, hj_20, ej_20, h⟩ := h
        refine x_iald hx hb hK hP hk_v_19 ej_20 hj_20 dX1_valueOf_77 ?_
        refine lv_iconst (v := 2) hx hb dX1_valueOf_78 (by decide) ?_
        refine x_cS (As := [.int (xi T v_19 j_20), .int 2]) (rest := [.int p4, .ref (b + 0), .int (jrem ((jrem ((xi T v_1 j_2) * r_8) (xi T 0 0)) * r_16) (xi T 0 0)), .int x5]) ⟨hx, hb, hml, hown, hts⟩ (mx1_exponent l G b hole (xi T v_19 j_20) 2 K T  _ h) (va_cwS 2 hts (lw_S q723 q724 q118 q725) rfl rfl rfl cwx_X1_exponent ⟨Nat.le_of_ble_eq_true rfl, Nat.le_of_ble_eq_true rfl⟩) hK hV hb0 hP hS rfl hl.1 rfl (Nat.le_of_ble_eq_true rfl) dX1_valueOf_79 ⟨by first | exact Nat.zero_le _ | (show _ + _ ≤ Z - kc K0; omega), by first | exact Nat.zero_le _ | (show _ + _ ≤ Y - ks K0; omega)⟩ (fun r_21 T1 K1 H locs h hle1 hc1 hs1 hP hS => ?_)
        obtain ⟨h, hTe, hKe⟩ := h
        rw [hTe, hKe] at hP
        refine x_cV (k := 0) (As := [.int p4, .int r_21]) (rest := [.int (jrem ((jrem ((xi T v_1 j_2) * r_8) (xi T 0 0)) * r_16) (xi T 0 0)), .int x5]) ⟨hx, hb, hml, hown, hts⟩ (mx1_power l G b hole p4 r_21 K T  _ h) (cwV 2 hts (lw_V q851 q853 qs31 q118 q854) rfl rfl rfl cwx_X1_power ⟨Nat.le_of_ble_eq_true rfl, Nat.le_of_ble_eq_true rfl⟩) (x_recv (CC := RX1) (ci := 0) hK hP (xs_0 hP) (by decide) (by decide) rfl (xE_8 (xs_0 hP))) hK hV hb0 hP hS rfl hl.1 rfl (Nat.le_of_ble_eq_true rfl) dX1_valueOf_82 ⟨by first | exact Nat.zero_le _ | (show _ + _ ≤ Z - kc K0; omega), by first | exact Nat.zero_le _ | (show _ + _ ≤ Y - ks K0; omega)⟩ (fun r_24 T1 K1 H locs h hle1 hc1 hs1 hP hS => ?_)
        obtain ⟨h, hTe, hKe⟩ := h
        rw [hTe, hKe] at hP
        refine lv_imul hx hb dX1_valueOf_85 ?_
        refine lv_iadd hx hb dX1_valueOf_86 ?_
        refine lv_aload_n hx hb dX1_valueOf_87 rfl (lv_at hl 0 rfl) ?_
        refine x_get (CC := RX1) (TT := TX1) (N := 26) (ci := 0) (v := .int (xi T 0 0)) hx hb hts in_X1 hown hK hP (xs_0 hP) (by decide) (by decide) rfl (xE_8 (xs_0 hP)) 0 (by decide) q384 rfl rfl dX1_valueOf_88 ?_
        obtain ⟨hne, h⟩ := h
        refine m_irem hx hb dX1_valueOf_91 hne ?_
        refine lv_topi (fun x5_27 ex5_27 => ?_)
        have h := h x5_27 ex5_27
        refine lv_istore (lv' := [(5, .int x5_27), (0, .ref (b + 0)), (1, .ref (b + p1)), (2, .int p2), (3, .int p3), (4, .int p4), (6, .int x6)]) hx hb dX1_valueOf_92 hl (by decide) rfl (fun ls hl => ?_)
        obtain ⟨x6_28, ex6_28⟩ : ∃ y : Int32, y = x6 + 1 := ⟨_, rfl⟩
        have h := h x6_28 ex6_28
        refine lv_iinc (v := x6_28) (lv' := [(6, .int x6_28), (5, .int x5_27), (0, .ref (b + 0)), (1, .ref (b + p1)), (2, .int p2), (3, .int p3), (4, .int p4)]) hx hb dX1_valueOf_94 hl (k := 6) rfl (by rw [ex6_28]; rfl) (by decide) rfl (fun ls hl => ?_)
        refine lv_goto (tgt := 6) hx hb dX1_valueOf_97 (by decide) ?_
        obtain ⟨mm, hmm, h⟩ := h
        exact ih6 mm hmm _ _ _ _ _  hP hS (lv_sub hl [2, 3, 4, 5, 6, 1, 0] rfl) h
  unfold wx1_valueOf at h
  refine lv_iconst (v := 0) hx hb dX1_valueOf_0 (by decide) ?_
  refine lv_istore (lv' := [(5, .int 0), (0, .ref (b + 0)), (1, .ref (b + p1)), (2, .int p2), (3, .int p3), (4, .int p4)]) hx hb dX1_valueOf_1 hl (by decide) rfl (fun ls hl => ?_)
  refine lv_iconst (v := 0) hx hb dX1_valueOf_3 (by decide) ?_
  refine lv_istore (lv' := [(6, .int 0), (5, .int 0), (0, .ref (b + 0)), (1, .ref (b + p1)), (2, .int p2), (3, .int p3), (4, .int p4)]) hx hb dX1_valueOf_4 hl (by decide) rfl (fun ls hl => ?_)
  exact L6 _ _ _ _ _ h  hP hS (lv_sub hl [2, 3, 4, 5, 6, 1, 0] rfl)
theorem cwx_X1_value : yX1_value.cls = RX1 ∧ yX1_value.cls ≠ "java/lang/invoke/MethodHandle" ∧ yX1_value.cls ≠ "java/lang/invoke/VarHandle" ∧ (parseMethodDescriptor yX1_value.desc).map (fun d => d.parameters.length) = some 4 := by decide +kernel
def wx1_value (p1 : Int32) (p2 : Int32) (p3 : Int32) (p4 : Int32) (K0 : XK) (T : XT) (Z Y : Nat) (post : Int32 → XT → XK → Prop) : Prop :=
  kc K0 + 1 ≤ Z ∧ ks K0 + 1 ≤ Y ∧ ∀ K_1 : XK, K_1 = knew K0 1 1 1 → ∀ T_2 : XT, T_2 = xnil T (kz K0) →
  ∃ j_3 : Nat, j_3 < kl K_1 (kz K0) ∧ 0 = nI j_3 ∧ ∀ T_4 : XT, T_4 = xwi T_2 (kz K0) j_3 p1 →
  wx1_is (kz K0) K_1 T_4 (fun r_5 =>
  kc K_1 + 1 ≤ Z ∧ ks K_1 + 3 ≤ Y ∧ ∀ K_8 : XK, K_8 = knew K_1 1 3 3 → ∀ T_9 : XT, T_9 = xnil T_4 (kz K_1) →
  ∃ j_10 : Nat, j_10 < kl K_8 (kz K_1) ∧ 0 = nI j_10 ∧ ∀ T_11 : XT, T_11 = xwi T_9 (kz K_1) j_10 p2 →
  ∃ j_12 : Nat, j_12 < kl K_8 (kz K_1) ∧ 1 = nI j_12 ∧ ∀ T_13 : XT, T_13 = xwi T_11 (kz K_1) j_12 p3 →
  ∃ j_14 : Nat, j_14 < kl K_8 (kz K_1) ∧ 2 = nI j_14 ∧ ∀ T_15 : XT, T_15 = xwi T_13 (kz K_1) j_14 p4 →
  wx1_areValues (kz K_1) K_8 T_15 (fun r_16 =>
  wx1_why_2 r_5 r_16 K_8 T_15 (fun r_19 =>
  wx1_isRefused r_19 K_8 T_15 (fun r_22 T_23 =>
  ((r_22 = 0 →
    ∃ v_25 : Nat, xr T_23 0 18 = some v_25 ∧
    ∃ j_26 : Nat, j_26 < kl K_8 v_25 ∧ p1 = nI j_26 ∧ ∃ v_27 : Nat, xr T_23 v_25 j_26 = some v_27 ∧
    wx1_valueOf v_27 p2 p3 p4 K_8 T_23 (fun r_28 =>
    post r_28 T_23 (kset K_8 Z Y))) ∧
   (¬ (r_22 = 0) →
    post (-1) T_23 (kset K_8 Z Y)))))))
set_option maxHeartbeats 4000000 in
theorem mx1_value (l : Launch) (G : XG) (b : Nat) (hole : Nat → Prop) (p1 : Int32) (p2 : Int32) (p3 : Int32) (p4 : Int32) (K0 : XK) (T : XT) (Z Y : Nat) (hZ : kc K0 ≤ Z) (hY : ks K0 ≤ Y)  (post : Int32 → XT → XK → Prop) (h : wx1_value p1 p2 p3 p4 K0 T Z Y post) : Met l yX1_value (ws_ yX1_value cX1_value 5 (some .int)) ({ frames := 2, cells := (Z - kc K0), slots := (Y - ks K0), locals := 50 } : Room) (xPc G b hole [.ref (b + 0), .int p1, .int p2, .int p3, .int p4] K0 T) (xQ G b hole K0 (Z - kc K0) (Y - ks K0) (ρ := Int32) eI (fun r T1 K1 => post r T1 K1)) (Z - kc K0) (Y - ks K0) (xA b hole) := by
  refine Met.ofW (cc := cX1_value) (maxL := 5) (ret := (some .int)) (by decide) rfl ?_
  intro p e s m args below meth c s₁ B hml hv
  obtain ⟨rfl, hP, hK, hV⟩ := hv
  have hx := B.exec
  have hb := B.bytes
  have hr := B.returns
  have hts := atoms_spec (ws := ws_ yX1_value cX1_value 5 (some .int)) B.pre
  have hts : ∀ w ∈ lw_all, w.before _ s = true := fun w h => hts w (List.mem_cons_of_mem _ h)
  have hown : s.vm.findClass RX1 = some m.cls := findClass_of_methodNamed B.named
  have hlocks := B.notSynchronized
  have hb0 : b ≤ s.heap.size := by rw [hP.2.2.2]; exact Nat.le_add_right _ _
  have hS : va_S (xA b hole) s.heap s.heap [] := va_S.rf
  have hl := lv_entry ([.ref (b + 0), .int p1, .int p2, .int p3, .int p4]) (n := 5) (Nat.le_of_ble_eq_true rfl)
  rw [lg_entry_eq]
  generalize (lg_sl ([.ref (b + 0), .int p1, .int p2, .int p3, .int p4]) ++ List.replicate (5 - (lg_sl ([.ref (b + 0), .int p1, .int p2, .int p3, .int p4])).length) Slot.unset).toArray = ls at hl ⊢
  have hl : lv_has ls 5 [(0, .ref (b + 0)), (1, .int p1), (2, .int p2), (3, .int p3), (4, .int p4)] := hl
  have hle0 : kle K0 K0 := kle.rf
  have hcn : kc K0 + 0 = kc K0 := rfl
  have hsn : ks K0 + 0 = ks K0 := rfl
  have hzz := hZ
  have hyy := hY
  unfold wx1_value at h
  refine lv_aload_n hx hb dX1_value_0 rfl (lv_at hl 0 rfl) ?_
  refine lv_aload_n hx hb dX1_value_1 rfl (lv_at hl 0 rfl) ?_
  refine lv_iconst (v := 1) hx hb dX1_value_2 (by decide) ?_
  obtain ⟨hc1, hs1, h⟩ := h
  obtain ⟨K_1, eK_1⟩ : ∃ z : XK, z = knew K0 1 1 1 := ⟨_, rfl⟩
  obtain ⟨T_2, eT_2⟩ : ∃ z : XT, z = xnil T (kz K0) := ⟨_, rfl⟩
  have h := h K_1 eK_1 T_2 eT_2
  have hle1 : kle K0 K_1 := by rw [eK_1]; exact kle.new hP.2.2.1 _ _ _
  refine x_newai (N := 1) hx hb hts q170 hK hP hS (by decide) (by decide) (by show _ + 1 ≤ Z - kc K0; omega) (by show _ + _ ≤ Y - ks K0; omega) dX1_value_3 (fun H hP hS => ?_)
  rw [← eK_1, ← eT_2] at hP
  have hk_n1 : kd K_1 (kz K0) = 1 := by rw [eK_1]; exact knew_kd
  have hle0 := hle0.tr hle1
  have hcn : kc K0 + (0 + 1) = kc K_1 := by rw [eK_1]; show _ = kc K0 + 1; omega
  have hsn : ks K0 + (0 + 1) = ks K_1 := by rw [eK_1]; show _ = ks K0 + 1; omega
  have hzz : kc K_1 ≤ Z := by rw [eK_1]; exact hc1
  have hyy : ks K_1 ≤ Y := by rw [eK_1]; exact hs1
  refine lv_dup hx hb dX1_value_5 rfl ?_
  refine lv_iconst (v := 0) hx hb dX1_value_6 (by decide) ?_
  refine lv_iload_n hx hb dX1_value_7 rfl (lv_at hl 1 rfl) ?_
  obtain ⟨j_3, hj_3, ej_3, h⟩ := h
  obtain ⟨T_4, eT_4⟩ : ∃ z : XT, z = xwi T_2 (kz K0) j_3 p1 := ⟨_, rfl⟩
  have h := h T_4 eT_4
  refine x_iast hx hb hK hP hS hk_n1 ej_3 hj_3 dX1_value_8 (fun H locs hP hS => ?_)
  rw [← eT_4] at hP
  refine x_cS (As := [.ref (b + (kz K0))]) (rest := [.ref (b + 0), .ref (b + 0)]) ⟨hx, hb, hml, hown, hts⟩ (mx1_is l G b hole (kz K0) K_1 T_4 hk_n1 _ h) (va_cwS 1 hts (lw_S q793 q794 q118 q795) rfl rfl rfl cwx_X1_is ⟨Nat.le_of_ble_eq_true rfl, Nat.le_of_ble_eq_true rfl⟩) hK hV hb0 hP hS rfl hl.1 rfl (Nat.le_of_ble_eq_true rfl) dX1_value_9 ⟨by first | exact Nat.zero_le _ | (show _ + _ ≤ Z - kc K0; omega), by first | exact Nat.zero_le _ | (show _ + _ ≤ Y - ks K0; omega)⟩ (fun r_5 T1 K1 H locs h hle1 hc1 hs1 hP hS => ?_)
  obtain ⟨h, hTe, hKe⟩ := h
  rw [hTe, hKe] at hP
  refine lv_aload_n hx hb dX1_value_12 rfl (lv_at hl 0 rfl) ?_
  refine lv_iconst (v := 3) hx hb dX1_value_13 (by decide) ?_
  obtain ⟨hc1, hs1, h⟩ := h
  obtain ⟨K_8, eK_8⟩ : ∃ z : XK, z = knew K_1 1 3 3 := ⟨_, rfl⟩
  obtain ⟨T_9, eT_9⟩ : ∃ z : XT, z = xnil T_4 (kz K_1) := ⟨_, rfl⟩
  have h := h K_8 eK_8 T_9 eT_9
  have hle1 : kle K_1 K_8 := by rw [eK_8]; exact kle.new hP.2.2.1 _ _ _
  refine x_newai (N := 3) hx hb hts q170 hK hP hS (by decide) (by decide) (by show _ + 1 ≤ Z - kc K0; omega) (by show _ + _ ≤ Y - ks K0; omega) dX1_value_14 (fun H hP hS => ?_)
  rw [← eK_8, ← eT_9] at hP
  have hk_n8 : kd K_8 (kz K_1) = 1 := by rw [eK_8]; exact knew_kd
  have hle0 := hle0.tr hle1
  have hcn : kc K0 + ((0 + 1) + 1) = kc K_8 := by rw [eK_8]; show _ = kc K_1 + 1; omega
  have hsn : ks K0 + ((0 + 1) + 3) = ks K_8 := by rw [eK_8]; show _ = ks K_1 + 3; omega
  have hzz : kc K_8 ≤ Z := by rw [eK_8]; exact hc1
  have hyy : ks K_8 ≤ Y := by rw [eK_8]; exact hs1
  refine lv_dup hx hb dX1_value_16 rfl ?_
  refine lv_iconst (v := 0) hx hb dX1_value_17 (by decide) ?_
  refine lv_iload_n hx hb dX1_value_18 rfl (lv_at hl 2 rfl) ?_
  obtain ⟨j_10, hj_10, ej_10, h⟩ := h
  obtain ⟨T_11, eT_11⟩ : ∃ z : XT, z = xwi T_9 (kz K_1) j_10 p2 := ⟨_, rfl⟩
  have h := h T_11 eT_11
  refine x_iast hx hb hK hP hS hk_n8 ej_10 hj_10 dX1_value_19 (fun H locs hP hS => ?_)
  rw [← eT_11] at hP
  refine lv_dup hx hb dX1_value_20 rfl ?_
  refine lv_iconst (v := 1) hx hb dX1_value_21 (by decide) ?_
  refine lv_iload_n hx hb dX1_value_22 rfl (lv_at hl 3 rfl) ?_
  obtain ⟨j_12, hj_12, ej_12, h⟩ := h
  obtain ⟨T_13, eT_13⟩ : ∃ z : XT, z = xwi T_11 (kz K_1) j_12 p3 := ⟨_, rfl⟩
  have h := h T_13 eT_13
  refine x_iast hx hb hK hP hS hk_n8 ej_12 hj_12 dX1_value_23 (fun H locs hP hS => ?_)
  rw [← eT_13] at hP
  refine lv_dup hx hb dX1_value_24 rfl ?_
  refine lv_iconst (v := 2) hx hb dX1_value_25 (by decide) ?_
  refine lv_iload hx hb dX1_value_26 (lv_at hl 4 rfl) ?_
  obtain ⟨j_14, hj_14, ej_14, h⟩ := h
  obtain ⟨T_15, eT_15⟩ : ∃ z : XT, z = xwi T_13 (kz K_1) j_14 p4 := ⟨_, rfl⟩
  have h := h T_15 eT_15
  refine x_iast hx hb hK hP hS hk_n8 ej_14 hj_14 dX1_value_28 (fun H locs hP hS => ?_)
  rw [← eT_15] at hP
  refine x_cV (k := 0) (As := [.ref (b + (kz K_1))]) (rest := [.int r_5, .ref (b + 0), .ref (b + 0)]) ⟨hx, hb, hml, hown, hts⟩ (mx1_areValues l G b hole (kz K_1) K_8 T_15 hk_n8 _ h) (cwV 1 hts (lw_V q843 q845 qs29 q118 q846) rfl rfl rfl cwx_X1_areValues ⟨Nat.le_of_ble_eq_true rfl, Nat.le_of_ble_eq_true rfl⟩) (x_recv (CC := RX1) (ci := 0) hK hP (xs_0 hP) (by decide) (by decide) rfl (xE_8 (xs_0 hP))) hK hV hb0 hP hS rfl hl.1 rfl (Nat.le_of_ble_eq_true rfl) dX1_value_29 ⟨by first | exact Nat.zero_le _ | (show _ + _ ≤ Z - kc K0; omega), by first | exact Nat.zero_le _ | (show _ + _ ≤ Y - ks K0; omega)⟩ (fun r_16 T1 K1 H locs h hle1 hc1 hs1 hP hS => ?_)
  obtain ⟨h, hTe, hKe⟩ := h
  rw [hTe, hKe] at hP
  refine x_cV (k := 0) (As := [.int r_5, .int r_16]) (rest := [.ref (b + 0)]) ⟨hx, hb, hml, hown, hts⟩ (mx1_why_2 l G b hole r_5 r_16 K_8 T_15  _ h) (cwV 2 hts (lw_V q773 q775 qs25 q118 q776) rfl rfl rfl cwx_X1_why_2 ⟨Nat.le_of_ble_eq_true rfl, Nat.le_of_ble_eq_true rfl⟩) (x_recv (CC := RX1) (ci := 0) hK hP (xs_0 hP) (by decide) (by decide) rfl (xE_8 (xs_0 hP))) hK hV hb0 hP hS rfl hl.1 rfl (Nat.le_of_ble_eq_true rfl) dX1_value_32 ⟨by first | exact Nat.zero_le _ | (show _ + _ ≤ Z - kc K0; omega), by first | exact Nat.zero_le _ | (show _ + _ ≤ Y - ks K0; omega)⟩ (fun r_19 T1 K1 H locs h hle1 hc1 hs1 hP hS => ?_)
  obtain ⟨h, hTe, hKe⟩ := h
  rw [hTe, hKe] at hP
  refine x_cV (k := 0) (As := [.int r_19]) (rest := []) ⟨hx, hb, hml, hown, hts⟩ (mx1_isRefused l G b hole r_19 K_8 T_15  _ h) (cwV 1 hts (lw_V q777 q779 qs26 q118 q780) rfl rfl rfl cwx_X1_isRefused ⟨Nat.le_of_ble_eq_true rfl, Nat.le_of_ble_eq_true rfl⟩) (x_recv (CC := RX1) (ci := 0) hK hP (xs_0 hP) (by decide) (by decide) rfl (xE_8 (xs_0 hP))) hK hV hb0 hP hS rfl hl.1 rfl (Nat.le_of_ble_eq_true rfl) dX1_value_35 ⟨by first | exact Nat.zero_le _ | (show _ + _ ≤ Z - kc K0; omega), by first | exact Nat.zero_le _ | (show _ + _ ≤ Y - ks K0; omega)⟩ (fun r_22 T1 K1 H locs h hle1 hc1 hs1 hP hS => ?_)
  obtain ⟨h, hKe⟩ := h
  rw [hKe] at hP
  generalize T1 = T_23 at h hP
  refine lv_if_eq (tgt := 45) hx hb dX1_value_38 (by decide) (fun c_31 => ?_) (fun c_31 => ?_)
  · have h := h.1 c_31
    refine lv_aload_n hx hb dX1_value_45 rfl (lv_at hl 0 rfl) ?_
    refine lv_aload_n hx hb dX1_value_46 rfl (lv_at hl 0 rfl) ?_
    obtain ⟨v_25, ev_25, h⟩ := h
    refine x_get (CC := RX1) (TT := TX1) (N := 26) (ci := 0) (v := rfv b (xr T_23 0 18)) hx hb hts in_X1 hown hK hP (xs_0 hP) (by decide) (by decide) rfl (xE_8 (xs_0 hP)) 18 (by decide) q405 rfl rfl dX1_value_47 ?_
    refine x_some ev_25 ?_
    have hk_v_25 : kd K_8 v_25 = 3 := hP.ty (xs_0 hP) (by decide) ev_25
    refine lv_iload_n hx hb dX1_value_50 rfl (lv_at hl 1 rfl) ?_
    obtain ⟨j_26, hj_26, ej_26, v_27, ev_27, h⟩ := h
    refine x_aald3 hx hb hK hP hk_v_25 ej_26 hj_26 dX1_value_51 ?_
    refine x_some ev_27 ?_
    have hk_v_27 : kd K_8 v_27 = 2 := hP.ty hk_v_25 (by decide) ev_27
    refine lv_iload_n hx hb dX1_value_52 rfl (lv_at hl 2 rfl) ?_
    refine lv_iload_n hx hb dX1_value_53 rfl (lv_at hl 3 rfl) ?_
    refine lv_iload hx hb dX1_value_54 (lv_at hl 4 rfl) ?_
    refine x_cV (k := 0) (As := [.ref (b + v_27), .int p2, .int p3, .int p4]) (rest := []) ⟨hx, hb, hml, hown, hts⟩ (mx1_valueOf l G b hole v_27 p2 p3 p4 K_8 T_23 hk_v_27 _ h) (cwV 4 hts (lw_V q847 q849 qs30 q118 q850) rfl rfl rfl cwx_X1_valueOf ⟨Nat.le_of_ble_eq_true rfl, Nat.le_of_ble_eq_true rfl⟩) (x_recv (CC := RX1) (ci := 0) hK hP (xs_0 hP) (by decide) (by decide) rfl (xE_8 (xs_0 hP))) hK hV hb0 hP hS rfl hl.1 rfl (Nat.le_of_ble_eq_true rfl) dX1_value_56 ⟨by first | exact Nat.zero_le _ | (show _ + _ ≤ Z - kc K0; omega), by first | exact Nat.zero_le _ | (show _ + _ ≤ Y - ks K0; omega)⟩ (fun r_28 T1 K1 H locs h hle1 hc1 hs1 hP hS => ?_)
    obtain ⟨h, hTe, hKe⟩ := h
    rw [hTe, hKe] at hP
    refine W.widen (k := Z - kc K0) (n := Y - ks K0) (by omega) (by omega) ?_
    exact W.iret (v := r_28) hx hb hr (fun t ht hW => ⟨⟨r_28, T_23, (kset K_8 Z Y), rfl, h, hle0, (by show Z = _; omega), (by show Y = _; omega), by rw [ht]; exact hP, va_K.moved hW.alike hK⟩, hS.F ht⟩) hS.2.2 dX1_value_59
  · have h := h.2 c_31
    refine lv_iconst (v := (-1)) hx hb dX1_value_41 (by decide) ?_
    refine lv_goto (tgt := 59) hx hb dX1_value_42 (by decide) ?_
    refine W.widen (k := Z - kc K0) (n := Y - ks K0) (by omega) (by omega) ?_
    exact W.iret (v := (-1)) hx hb hr (fun t ht hW => ⟨⟨(-1), T_23, (kset K_8 Z Y), rfl, h, hle0, (by show Z = _; omega), (by show Y = _; omega), by rw [ht]; exact hP, va_K.moved hW.alike hK⟩, hS.F ht⟩) hS.2.2 dX1_value_59
theorem cwx_X1_roots : yX1_roots.cls = RX1 ∧ yX1_roots.cls ≠ "java/lang/invoke/MethodHandle" ∧ yX1_roots.cls ≠ "java/lang/invoke/VarHandle" ∧ (parseMethodDescriptor yX1_roots.desc).map (fun d => d.parameters.length) = some 1 := by decide +kernel
def wx1_roots_j156 (p1 : Int32) (Z Y : Nat) (post : Int32 → XT → XK → Prop) (R108 : Int32 → Int32 → Prop) (x2 : Nat) (x3 : Int32) (x4 : Int32) (x5 : Int32) (x6 : Int32) (x7 : Int32) (K : XK) (T : XT) : Prop :=
        ∀ x7_1 : Int32, x7_1 = x7 + 1 →
        R108 x6 x7_1
def wx1_roots_b108 (p1 : Int32) (Z Y : Nat) (post : Int32 → XT → XK → Prop) (R108 : Int32 → Int32 → Prop) (x2 : Nat) (x3 : Int32) (x4 : Int32) (x5 : Int32) (x6 : Int32) (x7 : Int32) (K : XK) (T : XT) : Prop :=
      ((((x3 * x4) * x5) ≤ x7 →
        post x6 T (kset K Z Y)) ∧
       (¬ (((x3 * x4) * x5) ≤ x7) →
        ¬ x3 = 0 ∧
        ¬ x3 = 0 ∧
        ¬ x4 = 0 ∧
        ¬ x3 = 0 ∧
        ¬ x4 = 0 ∧
        wx1_valueOf x2 (jrem x7 x3) (jrem (x7 / x3) x4) ((x7 / x3) / x4) K T (fun r_2 =>
        ((¬ r_2 = 0 →
          ∀ x6_5 : Int32, x6_5 = (x6 + 0) →
          wx1_roots_j156 p1 Z Y post R108 x2 x3 x4 x5 x6_5 x7 K T) ∧
         (r_2 = 0 →
          ∀ x6_6 : Int32, x6_6 = (x6 + 1) →
          wx1_roots_j156 p1 Z Y post R108 x2 x3 x4 x5 x6_6 x7 K T)))))
def wx1_roots_l108 (p1 : Int32) (Z Y : Nat) (post : Int32 → XT → XK → Prop) (x2 : Nat) (x3 : Int32) (x4 : Int32) (x5 : Int32) (x6 : Int32) (x7 : Int32) (K : XK) (T : XT) : Prop := wLoop (fun (R : ((Int32) × (Int32)) → Prop) (v : (Int32) × (Int32)) => wx1_roots_b108 p1 Z Y post (fun x6 x7 => R (x6, x7)) x2 x3 x4 x5 v.1 v.2 K T) (x6, x7)
def wx1_roots_j83 (p1 : Int32) (Z Y : Nat) (post : Int32 → XT → XK → Prop) (x2 : Nat) (x3 : Int32) (x4 : Int32) (x5 : Int32) (K : XK) (T : XT) : Prop :=
    ((((x3 * x4) * x5) ≤ 10000 →
      wx1_roots_l108 p1 Z Y post x2 x3 x4 x5 0 0 K T) ∧
     (¬ (((x3 * x4) * x5) ≤ 10000) →
      wx1_no 5 K T (fun r_9 T_10 =>
      post r_9 T_10 (kset K Z Y))))
def wx1_roots_j65 (p1 : Int32) (Z Y : Nat) (post : Int32 → XT → XK → Prop) (x2 : Nat) (x3 : Int32) (x4 : Int32) (K : XK) (T : XT) : Prop :=
    wx6_most x2 2 K T (fun r_13 =>
    ((r_13 ≤ 0 →
      wx1_roots_j83 p1 Z Y post x2 x3 x4 1 K T) ∧
     (¬ (r_13 ≤ 0) →
      wx1_roots_j83 p1 Z Y post x2 x3 x4 (xi T 0 0) K T)))
def wx1_roots_j47 (p1 : Int32) (Z Y : Nat) (post : Int32 → XT → XK → Prop) (x2 : Nat) (x3 : Int32) (K : XK) (T : XT) : Prop :=
    wx6_most x2 1 K T (fun r_17 =>
    ((r_17 ≤ 0 →
      wx1_roots_j65 p1 Z Y post x2 x3 1 K T) ∧
     (¬ (r_17 ≤ 0) →
      wx1_roots_j65 p1 Z Y post x2 x3 (xi T 0 0) K T)))
def wx1_roots (p1 : Int32) (K0 : XK) (T : XT) (Z Y : Nat) (post : Int32 → XT → XK → Prop) : Prop :=
  kc K0 + 1 ≤ Z ∧ ks K0 + 1 ≤ Y ∧ ∀ K_21 : XK, K_21 = knew K0 1 1 1 → ∀ T_22 : XT, T_22 = xnil T (kz K0) →
  ∃ j_23 : Nat, j_23 < kl K_21 (kz K0) ∧ 0 = nI j_23 ∧ ∀ T_24 : XT, T_24 = xwi T_22 (kz K0) j_23 p1 →
  wx1_is (kz K0) K_21 T_24 (fun r_25 =>
  wx1_why r_25 K_21 T_24 (fun r_28 =>
  wx1_isRefused r_28 K_21 T_24 (fun r_31 T_32 =>
  ((r_31 = 0 →
    ∃ v_34 : Nat, xr T_32 0 18 = some v_34 ∧
    ∃ j_35 : Nat, j_35 < kl K_21 v_34 ∧ p1 = nI j_35 ∧ ∃ v_36 : Nat, xr T_32 v_34 j_35 = some v_36 ∧
    wx6_most v_36 0 K_21 T_32 (fun r_37 =>
    ((r_37 ≤ 0 →
      wx1_roots_j47 p1 Z Y post v_36 1 K_21 T_32) ∧
     (¬ (r_37 ≤ 0) →
      wx1_roots_j47 p1 Z Y post v_36 (xi T_32 0 0) K_21 T_32)))) ∧
   (¬ (r_31 = 0) →
    post (-1) T_32 (kset K_21 Z Y))))))
set_option maxHeartbeats 4000000 in
theorem mx1_roots (l : Launch) (G : XG) (b : Nat) (hole : Nat → Prop) (p1 : Int32) (K0 : XK) (T : XT) (Z Y : Nat) (hZ : kc K0 ≤ Z) (hY : ks K0 ≤ Y)  (post : Int32 → XT → XK → Prop) (h : wx1_roots p1 K0 T Z Y post) : Met l yX1_roots (ws_ yX1_roots cX1_roots 8 (some .int)) ({ frames := 2, cells := (Z - kc K0), slots := (Y - ks K0), locals := 83 } : Room) (xPc G b hole [.ref (b + 0), .int p1] K0 T) (xQ G b hole K0 (Z - kc K0) (Y - ks K0) (ρ := Int32) eI (fun r T1 K1 => post r T1 K1)) (Z - kc K0) (Y - ks K0) (xA b hole) := by
  refine Met.ofW (cc := cX1_roots) (maxL := 8) (ret := (some .int)) (by decide) rfl ?_
  intro p e s m args below meth c s₁ B hml hv
  obtain ⟨rfl, hP, hK, hV⟩ := hv
  have hx := B.exec
  have hb := B.bytes
  have hr := B.returns
  have hts := atoms_spec (ws := ws_ yX1_roots cX1_roots 8 (some .int)) B.pre
  have hts : ∀ w ∈ lw_all, w.before _ s = true := fun w h => hts w (List.mem_cons_of_mem _ h)
  have hown : s.vm.findClass RX1 = some m.cls := findClass_of_methodNamed B.named
  have hlocks := B.notSynchronized
  have hb0 : b ≤ s.heap.size := by rw [hP.2.2.2]; exact Nat.le_add_right _ _
  have hS : va_S (xA b hole) s.heap s.heap [] := va_S.rf
  have hl := lv_entry ([.ref (b + 0), .int p1]) (n := 8) (Nat.le_of_ble_eq_true rfl)
  rw [lg_entry_eq]
  generalize (lg_sl ([.ref (b + 0), .int p1]) ++ List.replicate (8 - (lg_sl ([.ref (b + 0), .int p1])).length) Slot.unset).toArray = ls at hl ⊢
  have hl : lv_has ls 8 [(0, .ref (b + 0)), (1, .int p1)] := hl
  have hle0 : kle K0 K0 := kle.rf
  have L108 : ∀ (x2 : Nat) (x3 : Int32) (x4 : Int32) (x5 : Int32) (x6 : Int32) (x7 : Int32) (T : XT) (K : XK) (cn sn : Nat) (H : Heap) (locs : List Loc) (ls : Array Slot), wx1_roots_l108 p1 Z Y post x2 x3 x4 x5 x6 x7 K T → kle K0 K → kc K0 + cn = kc K → ks K0 + sn = ks K → kc K ≤ Z → ks K ≤ Y → (kd K x2 = 2) → xW G b hole K T H → va_S (xA b hole) s.heap H locs → lv_has ls 8 [(0, .ref (b + 0)), (2, .ref (b + x2)), (3, .int x3), (4, .int x4), (5, .int x5), (6, .int x6), (7, .int x7)] → W p l e (headSpec (ws_ yX1_roots cX1_roots 8 (some .int)) ({ frames := 2, cells := (Z - kc K0), slots := (Y - ks K0), locals := 83 } : Room)).room s m ([.ref (b + 0), .int p1] : List Value).toArray below meth c H locs cn sn (MQ below (xQ G b hole K0 (Z - kc K0) (Y - ks K0) (ρ := Int32) eI (fun r T1 K1 => post r T1 K1)) ([.ref (b + 0), .int p1] : List Value).toArray s (Z - kc K0) (Y - ks K0) (xA b hole)) (F0 m 108 ls []) := by
    intro x2 x3 x4 x5 x6 x7 T K cn sn H locs ls h hle0 hcn hsn hzz hyy hk_x2 hP hS hl
    obtain ⟨I108, n108, hI, hstep108⟩ := h
    induction n108 using Nat.strongRecOn generalizing x6 x7 H locs ls with
    | ind n108 ih108 =>
      have h : wx1_roots_b108 p1 Z Y post (fun x6 x7 => ∃ mm, mm < n108 ∧ I108 mm (x6, x7)) x2 x3 x4 x5 x6 x7 K T := hstep108 n108 _ hI
      clear hI
      have J156 : ∀ (x6 : Int32) (x7 : Int32) (H : Heap) (locs : List Loc) (ls : Array Slot), wx1_roots_j156 p1 Z Y post (fun x6 x7 => ∃ mm, mm < n108 ∧ I108 mm (x6, x7)) x2 x3 x4 x5 x6 x7 K T → xW G b hole K T H → va_S (xA b hole) s.heap H locs → lv_has ls 8 [(0, .ref (b + 0)), (2, .ref (b + x2)), (3, .int x3), (4, .int x4), (5, .int x5), (6, .int x6), (7, .int x7)] → W p l e (headSpec (ws_ yX1_roots cX1_roots 8 (some .int)) ({ frames := 2, cells := (Z - kc K0), slots := (Y - ks K0), locals := 83 } : Room)).room s m ([.ref (b + 0), .int p1] : List Value).toArray below meth c H locs cn sn (MQ below (xQ G b hole K0 (Z - kc K0) (Y - ks K0) (ρ := Int32) eI (fun r T1 K1 => post r T1 K1)) ([.ref (b + 0), .int p1] : List Value).toArray s (Z - kc K0) (Y - ks K0) (xA b hole)) (F0 m 156 ls []) := by
        intro x6 x7 H locs ls h hP hS hl
        unfold wx1_roots_j156 at h
        obtain ⟨x7_1, ex7_1⟩ : ∃ y : Int32, y = x7 + 1 := ⟨_, rfl⟩
        have h := h x7_1 ex7_1
        refine lv_iinc (v := x7_1) (lv' := [(7, .int x7_1), (0, .ref (b + 0)), (2, .ref (b + x2)), (3, .int x3), (4, .int x4), (5, .int x5), (6, .int x6)]) hx hb dX1_roots_156 hl (k := 6) rfl (by rw [ex7_1]; rfl) (by decide) rfl (fun ls hl => ?_)
        refine lv_goto (tgt := 108) hx hb dX1_roots_159 (by decide) ?_
        obtain ⟨mm, hmm, h⟩ := h
        exact ih108 mm hmm _ _ _ _ _  hP hS (lv_sub hl [1, 2, 3, 4, 5, 6, 0] rfl) h
      unfold wx1_roots_b108 at h
      refine lv_iload hx hb dX1_roots_108 (lv_at hl 6 rfl) ?_
      refine lv_iload_n hx hb dX1_roots_110 rfl (lv_at hl 2 rfl) ?_
      refine lv_iload hx hb dX1_roots_111 (lv_at hl 3 rfl) ?_
      refine lv_imul hx hb dX1_roots_113 ?_
      refine lv_iload hx hb dX1_roots_114 (lv_at hl 4 rfl) ?_
      refine lv_imul hx hb dX1_roots_116 ?_
      refine lv_icmp_ge (tgt := 162) hx hb dX1_roots_117 (by decide) (fun c_8 => ?_) (fun c_8 => ?_)
      · have h := h.1 c_8
        refine lv_iload hx hb dX1_roots_162 (lv_at hl 5 rfl) ?_
        refine W.widen (k := Z - kc K0) (n := Y - ks K0) (by omega) (by omega) ?_
        exact W.iret (v := x6) hx hb hr (fun t ht hW => ⟨⟨x6, T, (kset K Z Y), rfl, h, hle0, (by show Z = _; omega), (by show Y = _; omega), by rw [ht]; exact hP, va_K.moved hW.alike hK⟩, hS.F ht⟩) hS.2.2 dX1_roots_164
      · have h := h.2 c_8
        refine lv_iload hx hb dX1_roots_120 (lv_at hl 5 rfl) ?_
        refine lv_aload_n hx hb dX1_roots_122 rfl (lv_at hl 0 rfl) ?_
        refine lv_aload_n hx hb dX1_roots_123 rfl (lv_at hl 1 rfl) ?_
        refine lv_iload hx hb dX1_roots_124 (lv_at hl 6 rfl) ?_
        refine lv_iload_n hx hb dX1_roots_126 rfl (lv_at hl 2 rfl) ?_
        obtain ⟨hne, h⟩ := h
        refine m_irem hx hb dX1_roots_127 hne ?_
        refine lv_iload hx hb dX1_roots_128 (lv_at hl 6 rfl) ?_
        refine lv_iload_n hx hb dX1_roots_130 rfl (lv_at hl 2 rfl) ?_
        obtain ⟨hne, h⟩ := h
        refine lv_idiv hx hb dX1_roots_131 hne ?_
        refine lv_iload hx hb dX1_roots_132 (lv_at hl 3 rfl) ?_
        obtain ⟨hne, h⟩ := h
        refine m_irem hx hb dX1_roots_134 hne ?_
        refine lv_iload hx hb dX1_roots_135 (lv_at hl 6 rfl) ?_
        refine lv_iload_n hx hb dX1_roots_137 rfl (lv_at hl 2 rfl) ?_
        obtain ⟨hne, h⟩ := h
        refine lv_idiv hx hb dX1_roots_138 hne ?_
        refine lv_iload hx hb dX1_roots_139 (lv_at hl 3 rfl) ?_
        obtain ⟨hne, h⟩ := h
        refine lv_idiv hx hb dX1_roots_141 hne ?_
        refine x_cV (k := 0) (As := [.ref (b + x2), .int (jrem x7 x3), .int (jrem (x7 / x3) x4), .int ((x7 / x3) / x4)]) (rest := [.int x6]) ⟨hx, hb, hml, hown, hts⟩ (mx1_valueOf l G b hole x2 (jrem x7 x3) (jrem (x7 / x3) x4) ((x7 / x3) / x4) K T hk_x2 _ h) (cwV 4 hts (lw_V q847 q849 qs30 q118 q850) rfl rfl rfl cwx_X1_valueOf ⟨Nat.le_of_ble_eq_true rfl, Nat.le_of_ble_eq_true rfl⟩) (x_recv (CC := RX1) (ci := 0) hK hP (xs_0 hP) (by decide) (by decide) rfl (xE_8 (xs_0 hP))) hK hV hb0 hP hS rfl hl.1 rfl (Nat.le_of_ble_eq_true rfl) dX1_roots_142 ⟨by first | exact Nat.zero_le _ | (show _ + _ ≤ Z - kc K0; omega), by first | exact Nat.zero_le _ | (show _ + _ ≤ Y - ks K0; omega)⟩ (fun r_2 T1 K1 H locs h hle1 hc1 hs1 hP hS => ?_)
        obtain ⟨h, hTe, hKe⟩ := h
        rw [hTe, hKe] at hP
        refine lv_if_ne (tgt := 152) hx hb dX1_roots_145 (by decide) (fun c_7 => ?_) (fun c_7 => ?_)
        · have h := h.1 c_7
          refine lv_iconst (v := 0) hx hb dX1_roots_152 (by decide) ?_
          refine lv_iadd hx hb dX1_roots_153 ?_
          refine lv_topi (fun x6_5 ex6_5 => ?_)
          have h := h x6_5 ex6_5
          refine lv_istore (lv' := [(6, .int x6_5), (0, .ref (b + 0)), (2, .ref (b + x2)), (3, .int x3), (4, .int x4), (5, .int x5), (7, .int x7)]) hx hb dX1_roots_154 hl (by decide) rfl (fun ls hl => ?_)
          exact J156 _ _ _ _ _ h  hP hS (lv_sub hl [1, 2, 3, 4, 5, 0, 6] rfl)
        · have h := h.2 c_7
          refine lv_iconst (v := 1) hx hb dX1_roots_148 (by decide) ?_
          refine lv_goto (tgt := 153) hx hb dX1_roots_149 (by decide) ?_
          refine lv_iadd hx hb dX1_roots_153 ?_
          refine lv_topi (fun x6_6 ex6_6 => ?_)
          have h := h x6_6 ex6_6
          refine lv_istore (lv' := [(6, .int x6_6), (0, .ref (b + 0)), (2, .ref (b + x2)), (3, .int x3), (4, .int x4), (5, .int x5), (7, .int x7)]) hx hb dX1_roots_154 hl (by decide) rfl (fun ls hl => ?_)
          exact J156 _ _ _ _ _ h  hP hS (lv_sub hl [1, 2, 3, 4, 5, 0, 6] rfl)
  have J83 : ∀ (x2 : Nat) (x3 : Int32) (x4 : Int32) (x5 : Int32) (T : XT) (K : XK) (cn sn : Nat) (H : Heap) (locs : List Loc) (ls : Array Slot), wx1_roots_j83 p1 Z Y post x2 x3 x4 x5 K T → kle K0 K → kc K0 + cn = kc K → ks K0 + sn = ks K → kc K ≤ Z → ks K ≤ Y → (kd K x2 = 2) → xW G b hole K T H → va_S (xA b hole) s.heap H locs → lv_has ls 8 [(0, .ref (b + 0)), (2, .ref (b + x2)), (3, .int x3), (4, .int x4), (5, .int x5)] → W p l e (headSpec (ws_ yX1_roots cX1_roots 8 (some .int)) ({ frames := 2, cells := (Z - kc K0), slots := (Y - ks K0), locals := 83 } : Room)).room s m ([.ref (b + 0), .int p1] : List Value).toArray below meth c H locs cn sn (MQ below (xQ G b hole K0 (Z - kc K0) (Y - ks K0) (ρ := Int32) eI (fun r T1 K1 => post r T1 K1)) ([.ref (b + 0), .int p1] : List Value).toArray s (Z - kc K0) (Y - ks K0) (xA b hole)) (F0 m 83 ls []) := by
    intro x2 x3 x4 x5 T K cn sn H locs ls h hle0 hcn hsn hzz hyy hk_x2 hP hS hl
    unfold wx1_roots_j83 at h
    refine lv_iconst (v := 0) hx hb dX1_roots_83 (by decide) ?_
    refine lv_istore (lv' := [(6, .int 0), (0, .ref (b + 0)), (2, .ref (b + x2)), (3, .int x3), (4, .int x4), (5, .int x5)]) hx hb dX1_roots_84 hl (by decide) rfl (fun ls hl => ?_)
    refine lv_iload_n hx hb dX1_roots_86 rfl (lv_at hl 3 rfl) ?_
    refine lv_iload hx hb dX1_roots_87 (lv_at hl 4 rfl) ?_
    refine lv_imul hx hb dX1_roots_89 ?_
    refine lv_iload hx hb dX1_roots_90 (lv_at hl 5 rfl) ?_
    refine lv_imul hx hb dX1_roots_92 ?_
    refine lv_sipush (v := 10000) hx hb dX1_roots_93 (by decide) ?_
    refine lv_icmp_le (tgt := 105) hx hb dX1_roots_96 (by decide) (fun c_12 => ?_) (fun c_12 => ?_)
    · have h := h.1 c_12
      refine lv_iconst (v := 0) hx hb dX1_roots_105 (by decide) ?_
      refine lv_istore (lv' := [(7, .int 0), (6, .int 0), (0, .ref (b + 0)), (2, .ref (b + x2)), (3, .int x3), (4, .int x4), (5, .int x5)]) hx hb dX1_roots_106 hl (by decide) rfl (fun ls hl => ?_)
      exact L108 _ _ _ _ _ _ _ _ _ _ _ _ _ h hle0 hcn hsn hzz hyy hk_x2 hP hS (lv_sub hl [2, 3, 4, 5, 6, 1, 0] rfl)
    · have h := h.2 c_12
      refine lv_aload_n hx hb dX1_roots_99 rfl (lv_at hl 1 rfl) ?_
      refine lv_iconst (v := 5) hx hb dX1_roots_100 (by decide) ?_
      refine x_cV (k := 0) (As := [.int 5]) (rest := []) ⟨hx, hb, hml, hown, hts⟩ (mx1_no l G b hole 5 K T  _ h) (cwV 1 hts (lw_V q486 q488 qs3 q118 q489) rfl rfl rfl cwx_X1_no ⟨Nat.le_of_ble_eq_true rfl, Nat.le_of_ble_eq_true rfl⟩) (x_recv (CC := RX1) (ci := 0) hK hP (xs_0 hP) (by decide) (by decide) rfl (xE_8 (xs_0 hP))) hK hV hb0 hP hS rfl hl.1 rfl (Nat.le_of_ble_eq_true rfl) dX1_roots_101 ⟨by first | exact Nat.zero_le _ | (show _ + _ ≤ Z - kc K0; omega), by first | exact Nat.zero_le _ | (show _ + _ ≤ Y - ks K0; omega)⟩ (fun r_9 T1 K1 H locs h hle1 hc1 hs1 hP hS => ?_)
      obtain ⟨h, hKe⟩ := h
      rw [hKe] at hP
      generalize T1 = T_10 at h hP
      refine W.widen (k := Z - kc K0) (n := Y - ks K0) (by omega) (by omega) ?_
      exact W.iret (v := r_9) hx hb hr (fun t ht hW => ⟨⟨r_9, T_10, (kset K Z Y), rfl, h, hle0, (by show Z = _; omega), (by show Y = _; omega), by rw [ht]; exact hP, va_K.moved hW.alike hK⟩, hS.F ht⟩) hS.2.2 dX1_roots_104
  have J65 : ∀ (x2 : Nat) (x3 : Int32) (x4 : Int32) (T : XT) (K : XK) (cn sn : Nat) (H : Heap) (locs : List Loc) (ls : Array Slot), wx1_roots_j65 p1 Z Y post x2 x3 x4 K T → kle K0 K → kc K0 + cn = kc K → ks K0 + sn = ks K → kc K ≤ Z → ks K ≤ Y → (kd K x2 = 2) → xW G b hole K T H → va_S (xA b hole) s.heap H locs → lv_has ls 8 [(0, .ref (b + 0)), (2, .ref (b + x2)), (3, .int x3), (4, .int x4)] → W p l e (headSpec (ws_ yX1_roots cX1_roots 8 (some .int)) ({ frames := 2, cells := (Z - kc K0), slots := (Y - ks K0), locals := 83 } : Room)).room s m ([.ref (b + 0), .int p1] : List Value).toArray below meth c H locs cn sn (MQ below (xQ G b hole K0 (Z - kc K0) (Y - ks K0) (ρ := Int32) eI (fun r T1 K1 => post r T1 K1)) ([.ref (b + 0), .int p1] : List Value).toArray s (Z - kc K0) (Y - ks K0) (xA b hole)) (F0 m 65 ls []) := by
    intro x2 x3 x4 T K cn sn H locs ls h hle0 hcn hsn hzz hyy hk_x2 hP hS hl
    unfold wx1_roots_j65 at h
    refine lv_aload_n hx hb dX1_roots_65 rfl (lv_at hl 1 rfl) ?_
    refine lv_iconst (v := 2) hx hb dX1_roots_66 (by decide) ?_
    refine x_cV (k := x2) (As := [.int 2]) (rest := []) ⟨hx, hb, hml, hown, hts⟩ (mx6_most l G b hole x2 2 K T hk_x2 _ h) (cwV 1 hts (lw_V q819 q820 q821 q126 q822) rfl rfl rfl cwx_X6_most ⟨Nat.le_of_ble_eq_true rfl, Nat.le_of_ble_eq_true rfl⟩) (x_recv (CC := RX6) (ci := 5) hK hP hk_x2 (by decide) (by decide) rfl (xE_2 hk_x2)) hK hV hb0 hP hS rfl hl.1 rfl (Nat.le_of_ble_eq_true rfl) dX1_roots_67 ⟨by first | exact Nat.zero_le _ | (show _ + _ ≤ Z - kc K0; omega), by first | exact Nat.zero_le _ | (show _ + _ ≤ Y - ks K0; omega)⟩ (fun r_13 T1 K1 H locs h hle1 hc1 hs1 hP hS => ?_)
    obtain ⟨h, hTe, hKe⟩ := h
    rw [hTe, hKe] at hP
    refine lv_if_le (tgt := 80) hx hb dX1_roots_70 (by decide) (fun c_16 => ?_) (fun c_16 => ?_)
    · have h := h.1 c_16
      refine lv_iconst (v := 1) hx hb dX1_roots_80 (by decide) ?_
      refine lv_istore (lv' := [(5, .int 1), (0, .ref (b + 0)), (2, .ref (b + x2)), (3, .int x3), (4, .int x4)]) hx hb dX1_roots_81 hl (by decide) rfl (fun ls hl => ?_)
      exact J83 _ _ _ _ _ _ _ _ _ _ _ h hle0 hcn hsn hzz hyy hk_x2 hP hS (lv_sub hl [1, 2, 3, 4, 0] rfl)
    · have h := h.2 c_16
      refine lv_aload_n hx hb dX1_roots_73 rfl (lv_at hl 0 rfl) ?_
      refine x_get (CC := RX1) (TT := TX1) (N := 26) (ci := 0) (v := .int (xi T 0 0)) hx hb hts in_X1 hown hK hP (xs_0 hP) (by decide) (by decide) rfl (xE_8 (xs_0 hP)) 0 (by decide) q384 rfl rfl dX1_roots_74 ?_
      refine lv_goto (tgt := 81) hx hb dX1_roots_77 (by decide) ?_
      refine lv_istore (lv' := [(5, .int (xi T 0 0)), (0, .ref (b + 0)), (2, .ref (b + x2)), (3, .int x3), (4, .int x4)]) hx hb dX1_roots_81 hl (by decide) rfl (fun ls hl => ?_)
      exact J83 _ _ _ _ _ _ _ _ _ _ _ h hle0 hcn hsn hzz hyy hk_x2 hP hS (lv_sub hl [1, 2, 3, 4, 0] rfl)
  have J47 : ∀ (x2 : Nat) (x3 : Int32) (T : XT) (K : XK) (cn sn : Nat) (H : Heap) (locs : List Loc) (ls : Array Slot), wx1_roots_j47 p1 Z Y post x2 x3 K T → kle K0 K → kc K0 + cn = kc K → ks K0 + sn = ks K → kc K ≤ Z → ks K ≤ Y → (kd K x2 = 2) → xW G b hole K T H → va_S (xA b hole) s.heap H locs → lv_has ls 8 [(0, .ref (b + 0)), (2, .ref (b + x2)), (3, .int x3)] → W p l e (headSpec (ws_ yX1_roots cX1_roots 8 (some .int)) ({ frames := 2, cells := (Z - kc K0), slots := (Y - ks K0), locals := 83 } : Room)).room s m ([.ref (b + 0), .int p1] : List Value).toArray below meth c H locs cn sn (MQ below (xQ G b hole K0 (Z - kc K0) (Y - ks K0) (ρ := Int32) eI (fun r T1 K1 => post r T1 K1)) ([.ref (b + 0), .int p1] : List Value).toArray s (Z - kc K0) (Y - ks K0) (xA b hole)) (F0 m 47 ls []) := by
    intro x2 x3 T K cn sn H locs ls h hle0 hcn hsn hzz hyy hk_x2 hP hS hl
    unfold wx1_roots_j47 at h
    refine lv_aload_n hx hb dX1_roots_47 rfl (lv_at hl 1 rfl) ?_
    refine lv_iconst (v := 1) hx hb dX1_roots_48 (by decide) ?_
    refine x_cV (k := x2) (As := [.int 1]) (rest := []) ⟨hx, hb, hml, hown, hts⟩ (mx6_most l G b hole x2 1 K T hk_x2 _ h) (cwV 1 hts (lw_V q819 q820 q821 q126 q822) rfl rfl rfl cwx_X6_most ⟨Nat.le_of_ble_eq_true rfl, Nat.le_of_ble_eq_true rfl⟩) (x_recv (CC := RX6) (ci := 5) hK hP hk_x2 (by decide) (by decide) rfl (xE_2 hk_x2)) hK hV hb0 hP hS rfl hl.1 rfl (Nat.le_of_ble_eq_true rfl) dX1_roots_49 ⟨by first | exact Nat.zero_le _ | (show _ + _ ≤ Z - kc K0; omega), by first | exact Nat.zero_le _ | (show _ + _ ≤ Y - ks K0; omega)⟩ (fun r_17 T1 K1 H locs h hle1 hc1 hs1 hP hS => ?_)
    obtain ⟨h, hTe, hKe⟩ := h
    rw [hTe, hKe] at hP
    refine lv_if_le (tgt := 62) hx hb dX1_roots_52 (by decide) (fun c_20 => ?_) (fun c_20 => ?_)
    · have h := h.1 c_20
      refine lv_iconst (v := 1) hx hb dX1_roots_62 (by decide) ?_
      refine lv_istore (lv' := [(4, .int 1), (0, .ref (b + 0)), (2, .ref (b + x2)), (3, .int x3)]) hx hb dX1_roots_63 hl (by decide) rfl (fun ls hl => ?_)
      exact J65 _ _ _ _ _ _ _ _ _ _ h hle0 hcn hsn hzz hyy hk_x2 hP hS (lv_sub hl [1, 2, 3, 0] rfl)
    · have h := h.2 c_20
      refine lv_aload_n hx hb dX1_roots_55 rfl (lv_at hl 0 rfl) ?_
      refine x_get (CC := RX1) (TT := TX1) (N := 26) (ci := 0) (v := .int (xi T 0 0)) hx hb hts in_X1 hown hK hP (xs_0 hP) (by decide) (by decide) rfl (xE_8 (xs_0 hP)) 0 (by decide) q384 rfl rfl dX1_roots_56 ?_
      refine lv_goto (tgt := 63) hx hb dX1_roots_59 (by decide) ?_
      refine lv_istore (lv' := [(4, .int (xi T 0 0)), (0, .ref (b + 0)), (2, .ref (b + x2)), (3, .int x3)]) hx hb dX1_roots_63 hl (by decide) rfl (fun ls hl => ?_)
      exact J65 _ _ _ _ _ _ _ _ _ _ h hle0 hcn hsn hzz hyy hk_x2 hP hS (lv_sub hl [1, 2, 3, 0] rfl)
  have hcn : kc K0 + 0 = kc K0 := rfl
  have hsn : ks K0 + 0 = ks K0 := rfl
  have hzz := hZ
  have hyy := hY
  unfold wx1_roots at h
  refine lv_aload_n hx hb dX1_roots_0 rfl (lv_at hl 0 rfl) ?_
  refine lv_aload_n hx hb dX1_roots_1 rfl (lv_at hl 0 rfl) ?_
  refine lv_iconst (v := 1) hx hb dX1_roots_2 (by decide) ?_
  obtain ⟨hc1, hs1, h⟩ := h
  obtain ⟨K_21, eK_21⟩ : ∃ z : XK, z = knew K0 1 1 1 := ⟨_, rfl⟩
  obtain ⟨T_22, eT_22⟩ : ∃ z : XT, z = xnil T (kz K0) := ⟨_, rfl⟩
  have h := h K_21 eK_21 T_22 eT_22
  have hle1 : kle K0 K_21 := by rw [eK_21]; exact kle.new hP.2.2.1 _ _ _
  refine x_newai (N := 1) hx hb hts q170 hK hP hS (by decide) (by decide) (by show _ + 1 ≤ Z - kc K0; omega) (by show _ + _ ≤ Y - ks K0; omega) dX1_roots_3 (fun H hP hS => ?_)
  rw [← eK_21, ← eT_22] at hP
  have hk_n21 : kd K_21 (kz K0) = 1 := by rw [eK_21]; exact knew_kd
  have hle0 := hle0.tr hle1
  have hcn : kc K0 + (0 + 1) = kc K_21 := by rw [eK_21]; show _ = kc K0 + 1; omega
  have hsn : ks K0 + (0 + 1) = ks K_21 := by rw [eK_21]; show _ = ks K0 + 1; omega
  have hzz : kc K_21 ≤ Z := by rw [eK_21]; exact hc1
  have hyy : ks K_21 ≤ Y := by rw [eK_21]; exact hs1
  refine lv_dup hx hb dX1_roots_5 rfl ?_
  refine lv_iconst (v := 0) hx hb dX1_roots_6 (by decide) ?_
  refine lv_iload_n hx hb dX1_roots_7 rfl (lv_at hl 1 rfl) ?_
  obtain ⟨j_23, hj_23, ej_23, h⟩ := h
  obtain ⟨T_24, eT_24⟩ : ∃ z : XT, z = xwi T_22 (kz K0) j_23 p1 := ⟨_, rfl⟩
  have h := h T_24 eT_24
  refine x_iast hx hb hK hP hS hk_n21 ej_23 hj_23 dX1_roots_8 (fun H locs hP hS => ?_)
  rw [← eT_24] at hP
  refine x_cS (As := [.ref (b + (kz K0))]) (rest := [.ref (b + 0), .ref (b + 0)]) ⟨hx, hb, hml, hown, hts⟩ (mx1_is l G b hole (kz K0) K_21 T_24 hk_n21 _ h) (va_cwS 1 hts (lw_S q793 q794 q118 q795) rfl rfl rfl cwx_X1_is ⟨Nat.le_of_ble_eq_true rfl, Nat.le_of_ble_eq_true rfl⟩) hK hV hb0 hP hS rfl hl.1 rfl (Nat.le_of_ble_eq_true rfl) dX1_roots_9 ⟨by first | exact Nat.zero_le _ | (show _ + _ ≤ Z - kc K0; omega), by first | exact Nat.zero_le _ | (show _ + _ ≤ Y - ks K0; omega)⟩ (fun r_25 T1 K1 H locs h hle1 hc1 hs1 hP hS => ?_)
  obtain ⟨h, hTe, hKe⟩ := h
  rw [hTe, hKe] at hP
  refine x_cV (k := 0) (As := [.int r_25]) (rest := [.ref (b + 0)]) ⟨hx, hb, hml, hown, hts⟩ (mx1_why l G b hole r_25 K_21 T_24  _ h) (cwV 1 hts (lw_V q769 q771 qs24 q118 q772) rfl rfl rfl cwx_X1_why ⟨Nat.le_of_ble_eq_true rfl, Nat.le_of_ble_eq_true rfl⟩) (x_recv (CC := RX1) (ci := 0) hK hP (xs_0 hP) (by decide) (by decide) rfl (xE_8 (xs_0 hP))) hK hV hb0 hP hS rfl hl.1 rfl (Nat.le_of_ble_eq_true rfl) dX1_roots_12 ⟨by first | exact Nat.zero_le _ | (show _ + _ ≤ Z - kc K0; omega), by first | exact Nat.zero_le _ | (show _ + _ ≤ Y - ks K0; omega)⟩ (fun r_28 T1 K1 H locs h hle1 hc1 hs1 hP hS => ?_)
  obtain ⟨h, hTe, hKe⟩ := h
  rw [hTe, hKe] at hP
  refine x_cV (k := 0) (As := [.int r_28]) (rest := []) ⟨hx, hb, hml, hown, hts⟩ (mx1_isRefused l G b hole r_28 K_21 T_24  _ h) (cwV 1 hts (lw_V q777 q779 qs26 q118 q780) rfl rfl rfl cwx_X1_isRefused ⟨Nat.le_of_ble_eq_true rfl, Nat.le_of_ble_eq_true rfl⟩) (x_recv (CC := RX1) (ci := 0) hK hP (xs_0 hP) (by decide) (by decide) rfl (xE_8 (xs_0 hP))) hK hV hb0 hP hS rfl hl.1 rfl (Nat.le_of_ble_eq_true rfl) dX1_roots_15 ⟨by first | exact Nat.zero_le _ | (show _ + _ ≤ Z - kc K0; omega), by first | exact Nat.zero_le _ | (show _ + _ ≤ Y - ks K0; omega)⟩ (fun r_31 T1 K1 H locs h hle1 hc1 hs1 hP hS => ?_)
  obtain ⟨h, hKe⟩ := h
  rw [hKe] at hP
  generalize T1 = T_32 at h hP
  refine lv_if_eq (tgt := 23) hx hb dX1_roots_18 (by decide) (fun c_41 => ?_) (fun c_41 => ?_)
  · have h := h.1 c_41
    refine lv_aload_n hx hb dX1_roots_23 rfl (lv_at hl 0 rfl) ?_
    obtain ⟨v_34, ev_34, h⟩ := h
    refine x_get (CC := RX1) (TT := TX1) (N := 26) (ci := 0) (v := rfv b (xr T_32 0 18)) hx hb hts in_X1 hown hK hP (xs_0 hP) (by decide) (by decide) rfl (xE_8 (xs_0 hP)) 18 (by decide) q405 rfl rfl dX1_roots_24 ?_
    refine x_some ev_34 ?_
    have hk_v_34 : kd K_21 v_34 = 3 := hP.ty (xs_0 hP) (by decide) ev_34
    refine lv_iload_n hx hb dX1_roots_27 rfl (lv_at hl 1 rfl) ?_
    obtain ⟨j_35, hj_35, ej_35, v_36, ev_36, h⟩ := h
    refine x_aald3 hx hb hK hP hk_v_34 ej_35 hj_35 dX1_roots_28 ?_
    refine x_some ev_36 ?_
    have hk_v_36 : kd K_21 v_36 = 2 := hP.ty hk_v_34 (by decide) ev_36
    refine lv_astore_n (lv' := [(2, .ref (b + v_36)), (0, .ref (b + 0)), (1, .int p1)]) hx hb dX1_roots_29 rfl hl (by decide) rfl (fun ls hl => ?_)
    refine lv_aload_n hx hb dX1_roots_30 rfl (lv_at hl 0 rfl) ?_
    refine lv_iconst (v := 0) hx hb dX1_roots_31 (by decide) ?_
    refine x_cV (k := v_36) (As := [.int 0]) (rest := []) ⟨hx, hb, hml, hown, hts⟩ (mx6_most l G b hole v_36 0 K_21 T_32 hk_v_36 _ h) (cwV 1 hts (lw_V q819 q820 q821 q126 q822) rfl rfl rfl cwx_X6_most ⟨Nat.le_of_ble_eq_true rfl, Nat.le_of_ble_eq_true rfl⟩) (x_recv (CC := RX6) (ci := 5) hK hP hk_v_36 (by decide) (by decide) rfl (xE_2 hk_v_36)) hK hV hb0 hP hS rfl hl.1 rfl (Nat.le_of_ble_eq_true rfl) dX1_roots_32 ⟨by first | exact Nat.zero_le _ | (show _ + _ ≤ Z - kc K0; omega), by first | exact Nat.zero_le _ | (show _ + _ ≤ Y - ks K0; omega)⟩ (fun r_37 T1 K1 H locs h hle1 hc1 hs1 hP hS => ?_)
    obtain ⟨h, hTe, hKe⟩ := h
    rw [hTe, hKe] at hP
    refine lv_if_le (tgt := 45) hx hb dX1_roots_35 (by decide) (fun c_40 => ?_) (fun c_40 => ?_)
    · have h := h.1 c_40
      refine lv_iconst (v := 1) hx hb dX1_roots_45 (by decide) ?_
      refine lv_istore_n (lv' := [(3, .int 1), (2, .ref (b + v_36)), (0, .ref (b + 0)), (1, .int p1)]) hx hb dX1_roots_46 rfl hl (by decide) rfl (fun ls hl => ?_)
      exact J47 _ _ _ _ _ _ _ _ _ h hle0 hcn hsn hzz hyy hk_v_36 hP hS (lv_sub hl [2, 1, 0] rfl)
    · have h := h.2 c_40
      refine lv_aload_n hx hb dX1_roots_38 rfl (lv_at hl 1 rfl) ?_
      refine x_get (CC := RX1) (TT := TX1) (N := 26) (ci := 0) (v := .int (xi T_32 0 0)) hx hb hts in_X1 hown hK hP (xs_0 hP) (by decide) (by decide) rfl (xE_8 (xs_0 hP)) 0 (by decide) q384 rfl rfl dX1_roots_39 ?_
      refine lv_goto (tgt := 46) hx hb dX1_roots_42 (by decide) ?_
      refine lv_istore_n (lv' := [(3, .int (xi T_32 0 0)), (2, .ref (b + v_36)), (0, .ref (b + 0)), (1, .int p1)]) hx hb dX1_roots_46 rfl hl (by decide) rfl (fun ls hl => ?_)
      exact J47 _ _ _ _ _ _ _ _ _ h hle0 hcn hsn hzz hyy hk_v_36 hP hS (lv_sub hl [2, 1, 0] rfl)
  · have h := h.2 c_41
    refine lv_iconst (v := (-1)) hx hb dX1_roots_21 (by decide) ?_
    refine W.widen (k := Z - kc K0) (n := Y - ks K0) (by omega) (by omega) ?_
    exact W.iret (v := (-1)) hx hb hr (fun t ht hW => ⟨⟨(-1), T_32, (kset K_21 Z Y), rfl, h, hle0, (by show Z = _; omega), (by show Y = _; omega), by rw [ht]; exact hP, va_K.moved hW.alike hK⟩, hS.F ht⟩) hS.2.2 dX1_roots_22
theorem cwx_X6_isLike : yX6_isLike.cls = RX6 ∧ yX6_isLike.cls ≠ "java/lang/invoke/MethodHandle" ∧ yX6_isLike.cls ≠ "java/lang/invoke/VarHandle" ∧ (parseMethodDescriptor yX6_isLike.desc).map (fun d => d.parameters.length) = some 1 := by decide +kernel
def wx6_isLike_b15 (p0 : Nat) (p1 : Nat) (post : Int32 → Prop) (R15 : Int32 → Prop)  (x2 : Int32) (K : XK) (T : XT) : Prop :=
      (((xi T p0 2) ≤ x2 →
        post 1) ∧
       (¬ ((xi T p0 2) ≤ x2) →
        ∃ v_1 : Nat, xr T p0 0 = some v_1 ∧
        ∃ j_2 : Nat, j_2 < kl K v_1 ∧ x2 = nI j_2 ∧
        ∃ v_3 : Nat, xr T p1 0 = some v_3 ∧
        ∃ j_4 : Nat, j_4 < kl K v_3 ∧ x2 = nI j_4 ∧
        ((¬ (xi T v_1 j_2) = (xi T v_3 j_4) →
          post 0) ∧
         ((xi T v_1 j_2) = (xi T v_3 j_4) →
          ∃ v_5 : Nat, xr T p0 1 = some v_5 ∧
          ∃ j_6 : Nat, j_6 < kl K v_5 ∧ x2 = nI j_6 ∧
          ∃ v_7 : Nat, xr T p1 1 = some v_7 ∧
          ∃ j_8 : Nat, j_8 < kl K v_7 ∧ x2 = nI j_8 ∧
          (((xi T v_5 j_6) = (xi T v_7 j_8) →
            ∀ x2_9 : Int32, x2_9 = x2 + 1 →
            R15 x2_9) ∧
           (¬ ((xi T v_5 j_6) = (xi T v_7 j_8)) →
            post 0))))))
def wx6_isLike_l15 (p0 : Nat) (p1 : Nat) (post : Int32 → Prop)  (x2 : Int32) (K : XK) (T : XT) : Prop := wLoop (fun (R : ((Int32)) → Prop) (v : (Int32)) => wx6_isLike_b15 p0 p1 post (fun x2 => R x2)  v K T) x2
def wx6_isLike (p0 : Nat) (p1 : Nat) (K : XK) (T : XT) (post : Int32 → Prop) : Prop :=
  (((xi T p0 2) = (xi T p1 2) →
    wx6_isLike_l15 p0 p1 post 0 K T) ∧
   (¬ ((xi T p0 2) = (xi T p1 2)) →
    post 0))
set_option maxHeartbeats 4000000 in
theorem mx6_isLike (l : Launch) (G : XG) (b : Nat) (hole : Nat → Prop) (p0 : Nat) (p1 : Nat) (K : XK) (T : XT) (hk_p0 : kd K p0 = 2) (hk_p1 : kd K p1 = 2) (post : Int32 → Prop) (h : wx6_isLike p0 p1 K T post) : Met l yX6_isLike (ws_ yX6_isLike cX6_isLike 3 (some .boolean)) ({ frames := 0, cells := 0, slots := 0, locals := 0 } : Room) (xPc G b hole [.ref (b + p0), .ref (b + p1)] K T) (xQ G b hole K 0 0 (ρ := Int32) eI (fun r T1 K1 => post r ∧ T1 = T ∧ K1 = K)) 0 0 (xA b hole) := by
  refine Met.ofW (cc := cX6_isLike) (maxL := 3) (ret := (some .boolean)) (by decide) rfl ?_
  intro p e s m args below meth c s₁ B hml hv
  obtain ⟨rfl, hP, hK, hV⟩ := hv
  have hx := B.exec
  have hb := B.bytes
  have hr := B.returns
  have hts := atoms_spec (ws := ws_ yX6_isLike cX6_isLike 3 (some .boolean)) B.pre
  have hts : ∀ w ∈ lw_all, w.before _ s = true := fun w h => hts w (List.mem_cons_of_mem _ h)
  have hown : s.vm.findClass RX6 = some m.cls := findClass_of_methodNamed B.named
  have hlocks := B.notSynchronized
  have hb0 : b ≤ s.heap.size := by rw [hP.2.2.2]; exact Nat.le_add_right _ _
  have hS : va_S (xA b hole) s.heap s.heap [] := va_S.rf
  have hl := lv_entry ([.ref (b + p0), .ref (b + p1)]) (n := 3) (Nat.le_of_ble_eq_true rfl)
  rw [lg_entry_eq]
  generalize (lg_sl ([.ref (b + p0), .ref (b + p1)]) ++ List.replicate (3 - (lg_sl ([.ref (b + p0), .ref (b + p1)])).length) Slot.unset).toArray = ls at hl ⊢
  have hl : lv_has ls 3 [(0, .ref (b + p0)), (1, .ref (b + p1))] := hl
  have L15 : ∀ (x2 : Int32) (H : Heap) (locs : List Loc) (ls : Array Slot), wx6_isLike_l15 p0 p1 post  x2 K T → xW G b hole K T H → va_S (xA b hole) s.heap H locs → lv_has ls 3 [(0, .ref (b + p0)), (1, .ref (b + p1)), (2, .int x2)] → W p l e (headSpec (ws_ yX6_isLike cX6_isLike 3 (some .boolean)) ({ frames := 0, cells := 0, slots := 0, locals := 0 } : Room)).room s m ([.ref (b + p0), .ref (b + p1)] : List Value).toArray below meth c H locs 0 0 (MQ below (xQ G b hole K 0 0 (ρ := Int32) eI (fun r T1 K1 => post r ∧ T1 = T ∧ K1 = K)) ([.ref (b + p0), .ref (b + p1)] : List Value).toArray s 0 0 (xA b hole)) (F0 m 15 ls []) := by
    intro x2 H locs ls h hP hS hl
    obtain ⟨I15, n15, hI, hstep15⟩ := h
    induction n15 using Nat.strongRecOn generalizing x2 H locs ls with
    | ind n15 ih15 =>
      have h : wx6_isLike_b15 p0 p1 post (fun x2 => ∃ mm, mm < n15 ∧ I15 mm x2)  x2 K T := hstep15 n15 _ hI
      clear hI
      unfold wx6_isLike_b15 at h
      refine lv_iload_n hx hb dX6_isLike_15 rfl (lv_at hl 2 rfl) ?_
      refine lv_aload_n hx hb dX6_isLike_16 rfl (lv_at hl 0 rfl) ?_
      refine x_get (CC := RX6) (TT := TX6) (N := 3) (ci := 5) (v := .int (xi T p0 2)) hx hb hts in_X6 hown hK hP hk_p0 (by decide) (by decide) rfl (xE_2 hk_p0) 2 (by decide) q370 rfl rfl dX6_isLike_17 ?_
      refine lv_icmp_ge (tgt := 61) hx hb dX6_isLike_20 (by decide) (fun c_12 => ?_) (fun c_12 => ?_)
      · have h := h.1 c_12
        refine lv_iconst (v := 1) hx hb dX6_isLike_61 (by decide) ?_
        exact W.zret (v := 1) hx hb hr rfl (fun t ht hW => ⟨⟨1, T, K, rfl, ⟨h, rfl, rfl⟩, kle.rf, rfl, rfl, by rw [ht]; exact hP, va_K.moved hW.alike hK⟩, hS.F ht⟩) hS.2.2 dX6_isLike_62
      · have h := h.2 c_12
        refine lv_aload_n hx hb dX6_isLike_23 rfl (lv_at hl 0 rfl) ?_
        obtain ⟨v_1, ev_1, h⟩ := h
        refine x_get (CC := RX6) (TT := TX6) (N := 3) (ci := 5) (v := rfv b (xr T p0 0)) hx hb hts in_X6 hown hK hP hk_p0 (by decide) (by decide) rfl (xE_2 hk_p0) 0 (by decide) q364 rfl rfl dX6_isLike_24 ?_
        refine x_some ev_1 ?_
        have hk_v_1 : kd K v_1 = 1 := hP.ty hk_p0 (by decide) ev_1
        refine lv_iload_n hx hb dX6_isLike_27 rfl (lv_at hl 2 rfl) ?_
        obtain ⟨j_2, hj_2, ej_2, h⟩ := h
        refine x_iald hx hb hK hP hk_v_1 ej_2 hj_2 dX6_isLike_28 ?_
        refine lv_aload_n hx hb dX6_isLike_29 rfl (lv_at hl 1 rfl) ?_
        obtain ⟨v_3, ev_3, h⟩ := h
        refine x_get (CC := RX6) (TT := TX6) (N := 3) (ci := 5) (v := rfv b (xr T p1 0)) hx hb hts in_X6 hown hK hP hk_p1 (by decide) (by decide) rfl (xE_2 hk_p1) 0 (by decide) q364 rfl rfl dX6_isLike_30 ?_
        refine x_some ev_3 ?_
        have hk_v_3 : kd K v_3 = 1 := hP.ty hk_p1 (by decide) ev_3
        refine lv_iload_n hx hb dX6_isLike_33 rfl (lv_at hl 2 rfl) ?_
        obtain ⟨j_4, hj_4, ej_4, h⟩ := h
        refine x_iald hx hb hK hP hk_v_3 ej_4 hj_4 dX6_isLike_34 ?_
        refine lv_icmp_ne (tgt := 53) hx hb dX6_isLike_35 (by decide) (fun c_11 => ?_) (fun c_11 => ?_)
        · have h := h.1 c_11
          refine lv_iconst (v := 0) hx hb dX6_isLike_53 (by decide) ?_
          exact W.zret (v := 0) hx hb hr rfl (fun t ht hW => ⟨⟨0, T, K, rfl, ⟨h, rfl, rfl⟩, kle.rf, rfl, rfl, by rw [ht]; exact hP, va_K.moved hW.alike hK⟩, hS.F ht⟩) hS.2.2 dX6_isLike_54
        · have h := h.2 c_11
          refine lv_aload_n hx hb dX6_isLike_38 rfl (lv_at hl 0 rfl) ?_
          obtain ⟨v_5, ev_5, h⟩ := h
          refine x_get (CC := RX6) (TT := TX6) (N := 3) (ci := 5) (v := rfv b (xr T p0 1)) hx hb hts in_X6 hown hK hP hk_p0 (by decide) (by decide) rfl (xE_2 hk_p0) 1 (by decide) q367 rfl rfl dX6_isLike_39 ?_
          refine x_some ev_5 ?_
          have hk_v_5 : kd K v_5 = 1 := hP.ty hk_p0 (by decide) ev_5
          refine lv_iload_n hx hb dX6_isLike_42 rfl (lv_at hl 2 rfl) ?_
          obtain ⟨j_6, hj_6, ej_6, h⟩ := h
          refine x_iald hx hb hK hP hk_v_5 ej_6 hj_6 dX6_isLike_43 ?_
          refine lv_aload_n hx hb dX6_isLike_44 rfl (lv_at hl 1 rfl) ?_
          obtain ⟨v_7, ev_7, h⟩ := h
          refine x_get (CC := RX6) (TT := TX6) (N := 3) (ci := 5) (v := rfv b (xr T p1 1)) hx hb hts in_X6 hown hK hP hk_p1 (by decide) (by decide) rfl (xE_2 hk_p1) 1 (by decide) q367 rfl rfl dX6_isLike_45 ?_
          refine x_some ev_7 ?_
          have hk_v_7 : kd K v_7 = 1 := hP.ty hk_p1 (by decide) ev_7
          refine lv_iload_n hx hb dX6_isLike_48 rfl (lv_at hl 2 rfl) ?_
          obtain ⟨j_8, hj_8, ej_8, h⟩ := h
          refine x_iald hx hb hK hP hk_v_7 ej_8 hj_8 dX6_isLike_49 ?_
          refine lv_icmp_eq (tgt := 55) hx hb dX6_isLike_50 (by decide) (fun c_10 => ?_) (fun c_10 => ?_)
          · have h := h.1 c_10
            obtain ⟨x2_9, ex2_9⟩ : ∃ y : Int32, y = x2 + 1 := ⟨_, rfl⟩
            have h := h x2_9 ex2_9
            refine lv_iinc (v := x2_9) (lv' := [(2, .int x2_9), (0, .ref (b + p0)), (1, .ref (b + p1))]) hx hb dX6_isLike_55 hl (k := 2) rfl (by rw [ex2_9]; rfl) (by decide) rfl (fun ls hl => ?_)
            refine lv_goto (tgt := 15) hx hb dX6_isLike_58 (by decide) ?_
            obtain ⟨mm, hmm, h⟩ := h
            exact ih15 mm hmm _ _ _ _  hP hS (lv_sub hl [1, 2, 0] rfl) h
          · have h := h.2 c_10
            refine lv_iconst (v := 0) hx hb dX6_isLike_53 (by decide) ?_
            exact W.zret (v := 0) hx hb hr rfl (fun t ht hW => ⟨⟨0, T, K, rfl, ⟨h, rfl, rfl⟩, kle.rf, rfl, rfl, by rw [ht]; exact hP, va_K.moved hW.alike hK⟩, hS.F ht⟩) hS.2.2 dX6_isLike_54
  unfold wx6_isLike at h
  refine lv_aload_n hx hb dX6_isLike_0 rfl (lv_at hl 0 rfl) ?_
  refine x_get (CC := RX6) (TT := TX6) (N := 3) (ci := 5) (v := .int (xi T p0 2)) hx hb hts in_X6 hown hK hP hk_p0 (by decide) (by decide) rfl (xE_2 hk_p0) 2 (by decide) q370 rfl rfl dX6_isLike_1 ?_
  refine lv_aload_n hx hb dX6_isLike_4 rfl (lv_at hl 1 rfl) ?_
  refine x_get (CC := RX6) (TT := TX6) (N := 3) (ci := 5) (v := .int (xi T p1 2)) hx hb hts in_X6 hown hK hP hk_p1 (by decide) (by decide) rfl (xE_2 hk_p1) 2 (by decide) q370 rfl rfl dX6_isLike_5 ?_
  refine lv_icmp_eq (tgt := 13) hx hb dX6_isLike_8 (by decide) (fun c_13 => ?_) (fun c_13 => ?_)
  · have h := h.1 c_13
    refine lv_iconst (v := 0) hx hb dX6_isLike_13 (by decide) ?_
    refine lv_istore_n (lv' := [(2, .int 0), (0, .ref (b + p0)), (1, .ref (b + p1))]) hx hb dX6_isLike_14 rfl hl (by decide) rfl (fun ls hl => ?_)
    exact L15 _ _ _ _ h  hP hS (lv_sub hl [1, 2, 0] rfl)
  · have h := h.2 c_13
    refine lv_iconst (v := 0) hx hb dX6_isLike_11 (by decide) ?_
    exact W.zret (v := 0) hx hb hr rfl (fun t ht hW => ⟨⟨0, T, K, rfl, ⟨h, rfl, rfl⟩, kle.rf, rfl, rfl, by rw [ht]; exact hP, va_K.moved hW.alike hK⟩, hS.F ht⟩) hS.2.2 dX6_isLike_12
theorem cwx_X1_same : yX1_same.cls = RX1 ∧ yX1_same.cls ≠ "java/lang/invoke/MethodHandle" ∧ yX1_same.cls ≠ "java/lang/invoke/VarHandle" ∧ (parseMethodDescriptor yX1_same.desc).map (fun d => d.parameters.length) = some 2 := by decide +kernel
def wx1_same (p1 : Int32) (p2 : Int32) (K0 : XK) (T : XT) (Z Y : Nat) (post : Int32 → XT → XK → Prop) : Prop :=
  kc K0 + 1 ≤ Z ∧ ks K0 + 2 ≤ Y ∧ ∀ K_1 : XK, K_1 = knew K0 1 2 2 → ∀ T_2 : XT, T_2 = xnil T (kz K0) →
  ∃ j_3 : Nat, j_3 < kl K_1 (kz K0) ∧ 0 = nI j_3 ∧ ∀ T_4 : XT, T_4 = xwi T_2 (kz K0) j_3 p1 →
  ∃ j_5 : Nat, j_5 < kl K_1 (kz K0) ∧ 1 = nI j_5 ∧ ∀ T_6 : XT, T_6 = xwi T_4 (kz K0) j_5 p2 →
  wx1_is (kz K0) K_1 T_6 (fun r_7 =>
  wx1_why r_7 K_1 T_6 (fun r_10 =>
  wx1_isRefused r_10 K_1 T_6 (fun r_13 T_14 =>
  ((r_13 = 0 →
    ∃ v_16 : Nat, xr T_14 0 18 = some v_16 ∧
    ∃ j_17 : Nat, j_17 < kl K_1 v_16 ∧ p1 = nI j_17 ∧ ∃ v_18 : Nat, xr T_14 v_16 j_17 = some v_18 ∧
    ∃ v_19 : Nat, xr T_14 0 18 = some v_19 ∧
    ∃ j_20 : Nat, j_20 < kl K_1 v_19 ∧ p2 = nI j_20 ∧ ∃ v_21 : Nat, xr T_14 v_19 j_20 = some v_21 ∧
    wx6_isLike v_18 v_21 K_1 T_14 (fun r_22 =>
    ((r_22 = 0 →
      post 0 T_14 (kset K_1 Z Y)) ∧
     (¬ (r_22 = 0) →
      post 1 T_14 (kset K_1 Z Y))))) ∧
   (¬ (r_13 = 0) →
    post (-1) T_14 (kset K_1 Z Y))))))
set_option maxHeartbeats 4000000 in
theorem mx1_same (l : Launch) (G : XG) (b : Nat) (hole : Nat → Prop) (p1 : Int32) (p2 : Int32) (K0 : XK) (T : XT) (Z Y : Nat) (hZ : kc K0 ≤ Z) (hY : ks K0 ≤ Y)  (post : Int32 → XT → XK → Prop) (h : wx1_same p1 p2 K0 T Z Y post) : Met l yX1_same (ws_ yX1_same cX1_same 3 (some .int)) ({ frames := 2, cells := (Z - kc K0), slots := (Y - ks K0), locals := 46 } : Room) (xPc G b hole [.ref (b + 0), .int p1, .int p2] K0 T) (xQ G b hole K0 (Z - kc K0) (Y - ks K0) (ρ := Int32) eI (fun r T1 K1 => post r T1 K1)) (Z - kc K0) (Y - ks K0) (xA b hole) := by
  refine Met.ofW (cc := cX1_same) (maxL := 3) (ret := (some .int)) (by decide) rfl ?_
  intro p e s m args below meth c s₁ B hml hv
  obtain ⟨rfl, hP, hK, hV⟩ := hv
  have hx := B.exec
  have hb := B.bytes
  have hr := B.returns
  have hts := atoms_spec (ws := ws_ yX1_same cX1_same 3 (some .int)) B.pre
  have hts : ∀ w ∈ lw_all, w.before _ s = true := fun w h => hts w (List.mem_cons_of_mem _ h)
  have hown : s.vm.findClass RX1 = some m.cls := findClass_of_methodNamed B.named
  have hlocks := B.notSynchronized
  have hb0 : b ≤ s.heap.size := by rw [hP.2.2.2]; exact Nat.le_add_right _ _
  have hS : va_S (xA b hole) s.heap s.heap [] := va_S.rf
  have hl := lv_entry ([.ref (b + 0), .int p1, .int p2]) (n := 3) (Nat.le_of_ble_eq_true rfl)
  rw [lg_entry_eq]
  generalize (lg_sl ([.ref (b + 0), .int p1, .int p2]) ++ List.replicate (3 - (lg_sl ([.ref (b + 0), .int p1, .int p2])).length) Slot.unset).toArray = ls at hl ⊢
  have hl : lv_has ls 3 [(0, .ref (b + 0)), (1, .int p1), (2, .int p2)] := hl
  have hle0 : kle K0 K0 := kle.rf
  have hcn : kc K0 + 0 = kc K0 := rfl
  have hsn : ks K0 + 0 = ks K0 := rfl
  have hzz := hZ
  have hyy := hY
  unfold wx1_same at h
  refine lv_aload_n hx hb dX1_same_0 rfl (lv_at hl 0 rfl) ?_
  refine lv_aload_n hx hb dX1_same_1 rfl (lv_at hl 0 rfl) ?_
  refine lv_iconst (v := 2) hx hb dX1_same_2 (by decide) ?_
  obtain ⟨hc1, hs1, h⟩ := h
  obtain ⟨K_1, eK_1⟩ : ∃ z : XK, z = knew K0 1 2 2 := ⟨_, rfl⟩
  obtain ⟨T_2, eT_2⟩ : ∃ z : XT, z = xnil T (kz K0) := ⟨_, rfl⟩
  have h := h K_1 eK_1 T_2 eT_2
  have hle1 : kle K0 K_1 := by rw [eK_1]; exact kle.new hP.2.2.1 _ _ _
  refine x_newai (N := 2) hx hb hts q170 hK hP hS (by decide) (by decide) (by show _ + 1 ≤ Z - kc K0; omega) (by show _ + _ ≤ Y - ks K0; omega) dX1_same_3 (fun H hP hS => ?_)
  rw [← eK_1, ← eT_2] at hP
  have hk_n1 : kd K_1 (kz K0) = 1 := by rw [eK_1]; exact knew_kd
  have hle0 := hle0.tr hle1
  have hcn : kc K0 + (0 + 1) = kc K_1 := by rw [eK_1]; show _ = kc K0 + 1; omega
  have hsn : ks K0 + (0 + 2) = ks K_1 := by rw [eK_1]; show _ = ks K0 + 2; omega
  have hzz : kc K_1 ≤ Z := by rw [eK_1]; exact hc1
  have hyy : ks K_1 ≤ Y := by rw [eK_1]; exact hs1
  refine lv_dup hx hb dX1_same_5 rfl ?_
  refine lv_iconst (v := 0) hx hb dX1_same_6 (by decide) ?_
  refine lv_iload_n hx hb dX1_same_7 rfl (lv_at hl 1 rfl) ?_
  obtain ⟨j_3, hj_3, ej_3, h⟩ := h
  obtain ⟨T_4, eT_4⟩ : ∃ z : XT, z = xwi T_2 (kz K0) j_3 p1 := ⟨_, rfl⟩
  have h := h T_4 eT_4
  refine x_iast hx hb hK hP hS hk_n1 ej_3 hj_3 dX1_same_8 (fun H locs hP hS => ?_)
  rw [← eT_4] at hP
  refine lv_dup hx hb dX1_same_9 rfl ?_
  refine lv_iconst (v := 1) hx hb dX1_same_10 (by decide) ?_
  refine lv_iload_n hx hb dX1_same_11 rfl (lv_at hl 2 rfl) ?_
  obtain ⟨j_5, hj_5, ej_5, h⟩ := h
  obtain ⟨T_6, eT_6⟩ : ∃ z : XT, z = xwi T_4 (kz K0) j_5 p2 := ⟨_, rfl⟩
  have h := h T_6 eT_6
  refine x_iast hx hb hK hP hS hk_n1 ej_5 hj_5 dX1_same_12 (fun H locs hP hS => ?_)
  rw [← eT_6] at hP
  refine x_cS (As := [.ref (b + (kz K0))]) (rest := [.ref (b + 0), .ref (b + 0)]) ⟨hx, hb, hml, hown, hts⟩ (mx1_is l G b hole (kz K0) K_1 T_6 hk_n1 _ h) (va_cwS 1 hts (lw_S q793 q794 q118 q795) rfl rfl rfl cwx_X1_is ⟨Nat.le_of_ble_eq_true rfl, Nat.le_of_ble_eq_true rfl⟩) hK hV hb0 hP hS rfl hl.1 rfl (Nat.le_of_ble_eq_true rfl) dX1_same_13 ⟨by first | exact Nat.zero_le _ | (show _ + _ ≤ Z - kc K0; omega), by first | exact Nat.zero_le _ | (show _ + _ ≤ Y - ks K0; omega)⟩ (fun r_7 T1 K1 H locs h hle1 hc1 hs1 hP hS => ?_)
  obtain ⟨h, hTe, hKe⟩ := h
  rw [hTe, hKe] at hP
  refine x_cV (k := 0) (As := [.int r_7]) (rest := [.ref (b + 0)]) ⟨hx, hb, hml, hown, hts⟩ (mx1_why l G b hole r_7 K_1 T_6  _ h) (cwV 1 hts (lw_V q769 q771 qs24 q118 q772) rfl rfl rfl cwx_X1_why ⟨Nat.le_of_ble_eq_true rfl, Nat.le_of_ble_eq_true rfl⟩) (x_recv (CC := RX1) (ci := 0) hK hP (xs_0 hP) (by decide) (by decide) rfl (xE_8 (xs_0 hP))) hK hV hb0 hP hS rfl hl.1 rfl (Nat.le_of_ble_eq_true rfl) dX1_same_16 ⟨by first | exact Nat.zero_le _ | (show _ + _ ≤ Z - kc K0; omega), by first | exact Nat.zero_le _ | (show _ + _ ≤ Y - ks K0; omega)⟩ (fun r_10 T1 K1 H locs h hle1 hc1 hs1 hP hS => ?_)
  obtain ⟨h, hTe, hKe⟩ := h
  rw [hTe, hKe] at hP
  refine x_cV (k := 0) (As := [.int r_10]) (rest := []) ⟨hx, hb, hml, hown, hts⟩ (mx1_isRefused l G b hole r_10 K_1 T_6  _ h) (cwV 1 hts (lw_V q777 q779 qs26 q118 q780) rfl rfl rfl cwx_X1_isRefused ⟨Nat.le_of_ble_eq_true rfl, Nat.le_of_ble_eq_true rfl⟩) (x_recv (CC := RX1) (ci := 0) hK hP (xs_0 hP) (by decide) (by decide) rfl (xE_8 (xs_0 hP))) hK hV hb0 hP hS rfl hl.1 rfl (Nat.le_of_ble_eq_true rfl) dX1_same_19 ⟨by first | exact Nat.zero_le _ | (show _ + _ ≤ Z - kc K0; omega), by first | exact Nat.zero_le _ | (show _ + _ ≤ Y - ks K0; omega)⟩ (fun r_13 T1 K1 H locs h hle1 hc1 hs1 hP hS => ?_)
  obtain ⟨h, hKe⟩ := h
  rw [hKe] at hP
  generalize T1 = T_14 at h hP
  refine lv_if_eq (tgt := 29) hx hb dX1_same_22 (by decide) (fun c_26 => ?_) (fun c_26 => ?_)
  · have h := h.1 c_26
    refine lv_aload_n hx hb dX1_same_29 rfl (lv_at hl 0 rfl) ?_
    obtain ⟨v_16, ev_16, h⟩ := h
    refine x_get (CC := RX1) (TT := TX1) (N := 26) (ci := 0) (v := rfv b (xr T_14 0 18)) hx hb hts in_X1 hown hK hP (xs_0 hP) (by decide) (by decide) rfl (xE_8 (xs_0 hP)) 18 (by decide) q405 rfl rfl dX1_same_30 ?_
    refine x_some ev_16 ?_
    have hk_v_16 : kd K_1 v_16 = 3 := hP.ty (xs_0 hP) (by decide) ev_16
    refine lv_iload_n hx hb dX1_same_33 rfl (lv_at hl 1 rfl) ?_
    obtain ⟨j_17, hj_17, ej_17, v_18, ev_18, h⟩ := h
    refine x_aald3 hx hb hK hP hk_v_16 ej_17 hj_17 dX1_same_34 ?_
    refine x_some ev_18 ?_
    have hk_v_18 : kd K_1 v_18 = 2 := hP.ty hk_v_16 (by decide) ev_18
    refine lv_aload_n hx hb dX1_same_35 rfl (lv_at hl 0 rfl) ?_
    obtain ⟨v_19, ev_19, h⟩ := h
    refine x_get (CC := RX1) (TT := TX1) (N := 26) (ci := 0) (v := rfv b (xr T_14 0 18)) hx hb hts in_X1 hown hK hP (xs_0 hP) (by decide) (by decide) rfl (xE_8 (xs_0 hP)) 18 (by decide) q405 rfl rfl dX1_same_36 ?_
    refine x_some ev_19 ?_
    have hk_v_19 : kd K_1 v_19 = 3 := hP.ty (xs_0 hP) (by decide) ev_19
    refine lv_iload_n hx hb dX1_same_39 rfl (lv_at hl 2 rfl) ?_
    obtain ⟨j_20, hj_20, ej_20, v_21, ev_21, h⟩ := h
    refine x_aald3 hx hb hK hP hk_v_19 ej_20 hj_20 dX1_same_40 ?_
    refine x_some ev_21 ?_
    have hk_v_21 : kd K_1 v_21 = 2 := hP.ty hk_v_19 (by decide) ev_21
    refine x_cV (k := v_18) (As := [.ref (b + v_21)]) (rest := []) ⟨hx, hb, hml, hown, hts⟩ (mx6_isLike l G b hole v_18 v_21 K_1 T_14 hk_v_18 hk_v_21 _ h) (cwV 1 hts (lw_V q863 q864 q865 q126 q866) rfl rfl rfl cwx_X6_isLike ⟨Nat.le_of_ble_eq_true rfl, Nat.le_of_ble_eq_true rfl⟩) (x_recv (CC := RX6) (ci := 5) hK hP hk_v_18 (by decide) (by decide) rfl (xE_2 hk_v_18)) hK hV hb0 hP hS rfl hl.1 rfl (Nat.le_of_ble_eq_true rfl) dX1_same_41 ⟨by first | exact Nat.zero_le _ | (show _ + _ ≤ Z - kc K0; omega), by first | exact Nat.zero_le _ | (show _ + _ ≤ Y - ks K0; omega)⟩ (fun r_22 T1 K1 H locs h hle1 hc1 hs1 hP hS => ?_)
    obtain ⟨h, hTe, hKe⟩ := h
    rw [hTe, hKe] at hP
    refine lv_if_eq (tgt := 51) hx hb dX1_same_44 (by decide) (fun c_25 => ?_) (fun c_25 => ?_)
    · have h := h.1 c_25
      refine lv_iconst (v := 0) hx hb dX1_same_51 (by decide) ?_
      refine W.widen (k := Z - kc K0) (n := Y - ks K0) (by omega) (by omega) ?_
      exact W.iret (v := 0) hx hb hr (fun t ht hW => ⟨⟨0, T_14, (kset K_1 Z Y), rfl, h, hle0, (by show Z = _; omega), (by show Y = _; omega), by rw [ht]; exact hP, va_K.moved hW.alike hK⟩, hS.F ht⟩) hS.2.2 dX1_same_52
    · have h := h.2 c_25
      refine lv_iconst (v := 1) hx hb dX1_same_47 (by decide) ?_
      refine lv_goto (tgt := 52) hx hb dX1_same_48 (by decide) ?_
      refine W.widen (k := Z - kc K0) (n := Y - ks K0) (by omega) (by omega) ?_
      exact W.iret (v := 1) hx hb hr (fun t ht hW => ⟨⟨1, T_14, (kset K_1 Z Y), rfl, h, hle0, (by show Z = _; omega), (by show Y = _; omega), by rw [ht]; exact hP, va_K.moved hW.alike hK⟩, hS.F ht⟩) hS.2.2 dX1_same_52
  · have h := h.2 c_26
    refine lv_iconst (v := (-1)) hx hb dX1_same_25 (by decide) ?_
    refine lv_goto (tgt := 52) hx hb dX1_same_26 (by decide) ?_
    refine W.widen (k := Z - kc K0) (n := Y - ks K0) (by omega) (by omega) ?_
    exact W.iret (v := (-1)) hx hb hr (fun t ht hW => ⟨⟨(-1), T_14, (kset K_1 Z Y), rfl, h, hle0, (by show Z = _; omega), (by show Y = _; omega), by rw [ht]; exact hP, va_K.moved hW.alike hK⟩, hS.F ht⟩) hS.2.2 dX1_same_52
theorem cwx_J10_compare : yJ10_compare.cls ≠ "java/lang/invoke/MethodHandle" ∧ yJ10_compare.cls ≠ "java/lang/invoke/VarHandle" ∧ (parseMethodDescriptor yJ10_compare.desc).map (fun d => d.parameters.length) = some 2 := by decide +kernel
def wxJ10_compare (p1 : Int32) (p2 : Int32) (K : XK) (T : XT) (post : Int32 → Prop) : Prop :=
  ((p2 ≤ p1 →
    ((¬ p1 = p2 →
      post 1) ∧
     (p1 = p2 →
      post 0))) ∧
   (¬ (p2 ≤ p1) →
    post (-1)))
set_option maxHeartbeats 4000000 in
theorem mxJ10_compare (l : Launch) (G : XG) (b : Nat) (hole : Nat → Prop) (p1 : Int32) (p2 : Int32) (K : XK) (T : XT)  (post : Int32 → Prop) (h : wxJ10_compare p1 p2 K T post) : Met l yJ10_compare (ws_ yJ10_compare cJ10_compare 2 (some .int)) ({ frames := 0, cells := 0, slots := 0, locals := 0 } : Room) (xPc G b hole [.int p1, .int p2] K T) (xQ G b hole K 0 0 (ρ := Int32) eI (fun r T1 K1 => post r ∧ T1 = T ∧ K1 = K)) 0 0 (xA b hole) := by
  refine Met.ofW (cc := cJ10_compare) (maxL := 2) (ret := (some .int)) (by decide) rfl ?_
  intro p e s m args below meth c s₁ B hml hv
  obtain ⟨rfl, hP, hK, hV⟩ := hv
  have hx := B.exec
  have hb := B.bytes
  have hr := B.returns
  have hts := atoms_spec (ws := ws_ yJ10_compare cJ10_compare 2 (some .int)) B.pre
  have hts : ∀ w ∈ lw_all, w.before _ s = true := fun w h => hts w (List.mem_cons_of_mem _ h)
  have hown : s.vm.findClass RJ10 = some m.cls := findClass_of_methodNamed B.named
  have hlocks := B.notSynchronized
  have hb0 : b ≤ s.heap.size := by rw [hP.2.2.2]; exact Nat.le_add_right _ _
  have hS : va_S (xA b hole) s.heap s.heap [] := va_S.rf
  have hl := lv_entry ([.int p1, .int p2]) (n := 2) (Nat.le_of_ble_eq_true rfl)
  rw [lg_entry_eq]
  generalize (lg_sl ([.int p1, .int p2]) ++ List.replicate (2 - (lg_sl ([.int p1, .int p2])).length) Slot.unset).toArray = ls at hl ⊢
  have hl : lv_has ls 2 [(0, .int p1), (1, .int p2)] := hl
  unfold wxJ10_compare at h
  refine lv_iload_n hx hb dJ10_compare_0 rfl (lv_at hl 0 rfl) ?_
  refine lv_iload_n hx hb dJ10_compare_1 rfl (lv_at hl 1 rfl) ?_
  refine lv_icmp_ge (tgt := 9) hx hb dJ10_compare_2 (by decide) (fun c_2 => ?_) (fun c_2 => ?_)
  · have h := h.1 c_2
    refine lv_iload_n hx hb dJ10_compare_9 rfl (lv_at hl 0 rfl) ?_
    refine lv_iload_n hx hb dJ10_compare_10 rfl (lv_at hl 1 rfl) ?_
    refine lv_icmp_ne (tgt := 18) hx hb dJ10_compare_11 (by decide) (fun c_1 => ?_) (fun c_1 => ?_)
    · have h := h.1 c_1
      refine lv_iconst (v := 1) hx hb dJ10_compare_18 (by decide) ?_
      exact W.iret (v := 1) hx hb hr (fun t ht hW => ⟨⟨1, T, K, rfl, ⟨h, rfl, rfl⟩, kle.rf, rfl, rfl, by rw [ht]; exact hP, va_K.moved hW.alike hK⟩, hS.F ht⟩) hS.2.2 dJ10_compare_19
    · have h := h.2 c_1
      refine lv_iconst (v := 0) hx hb dJ10_compare_14 (by decide) ?_
      refine lv_goto (tgt := 19) hx hb dJ10_compare_15 (by decide) ?_
      exact W.iret (v := 0) hx hb hr (fun t ht hW => ⟨⟨0, T, K, rfl, ⟨h, rfl, rfl⟩, kle.rf, rfl, rfl, by rw [ht]; exact hP, va_K.moved hW.alike hK⟩, hS.F ht⟩) hS.2.2 dJ10_compare_19
  · have h := h.2 c_2
    refine lv_iconst (v := (-1)) hx hb dJ10_compare_5 (by decide) ?_
    refine lv_goto (tgt := 19) hx hb dJ10_compare_6 (by decide) ?_
    exact W.iret (v := (-1)) hx hb hr (fun t ht hW => ⟨⟨(-1), T, K, rfl, ⟨h, rfl, rfl⟩, kle.rf, rfl, rfl, by rw [ht]; exact hP, va_K.moved hW.alike hK⟩, hS.F ht⟩) hS.2.2 dJ10_compare_19
theorem cwx_X1_ahead : yX1_ahead.cls = RX1 ∧ yX1_ahead.cls ≠ "java/lang/invoke/MethodHandle" ∧ yX1_ahead.cls ≠ "java/lang/invoke/VarHandle" ∧ (parseMethodDescriptor yX1_ahead.desc).map (fun d => d.parameters.length) = some 6 := by decide +kernel
def wx1_ahead (p1 : Int32) (p2 : Int32) (p3 : Int32) (p4 : Int32) (p5 : Int32) (p6 : Int32) (K0 : XK) (T : XT) (Z Y : Nat) (post : Int32 → XT → XK → Prop) : Prop :=
  kc K0 + 1 ≤ Z ∧ ks K0 + 6 ≤ Y ∧ ∀ K_1 : XK, K_1 = knew K0 1 6 6 → ∀ T_2 : XT, T_2 = xnil T (kz K0) →
  ∃ j_3 : Nat, j_3 < kl K_1 (kz K0) ∧ 0 = nI j_3 ∧ ∀ T_4 : XT, T_4 = xwi T_2 (kz K0) j_3 p1 →
  ∃ j_5 : Nat, j_5 < kl K_1 (kz K0) ∧ 1 = nI j_5 ∧ ∀ T_6 : XT, T_6 = xwi T_4 (kz K0) j_5 p2 →
  ∃ j_7 : Nat, j_7 < kl K_1 (kz K0) ∧ 2 = nI j_7 ∧ ∀ T_8 : XT, T_8 = xwi T_6 (kz K0) j_7 p3 →
  ∃ j_9 : Nat, j_9 < kl K_1 (kz K0) ∧ 3 = nI j_9 ∧ ∀ T_10 : XT, T_10 = xwi T_8 (kz K0) j_9 p4 →
  ∃ j_11 : Nat, j_11 < kl K_1 (kz K0) ∧ 4 = nI j_11 ∧ ∀ T_12 : XT, T_12 = xwi T_10 (kz K0) j_11 p5 →
  ∃ j_13 : Nat, j_13 < kl K_1 (kz K0) ∧ 5 = nI j_13 ∧ ∀ T_14 : XT, T_14 = xwi T_12 (kz K0) j_13 p6 →
  wx1_areExponents (kz K0) K_1 T_14 (fun r_15 =>
  wx1_why_2 1 r_15 K_1 T_14 (fun r_18 =>
  wx1_isRefused r_18 K_1 T_14 (fun r_21 T_22 =>
  ((r_21 = 0 →
    ∃ v_24 : Nat, xr T_22 0 4 = some v_24 ∧
    wx1_packed p1 p2 p3 K_1 T_22 (fun r_25 =>
    wx_key v_24 r_25 K_1 T_22 (fun r_28 =>
    ∃ v_29 : Nat, xr T_22 0 4 = some v_29 ∧
    wx1_packed p4 p5 p6 K_1 T_22 (fun r_30 =>
    wx_key v_29 r_30 K_1 T_22 (fun r_33 =>
    wxJ10_compare r_28 r_33 K_1 T_22 (fun r_34 =>
    post r_34 T_22 (kset K_1 Z Y))))))) ∧
   (¬ (r_21 = 0) →
    post (-2) T_22 (kset K_1 Z Y))))))
set_option maxHeartbeats 4000000 in
theorem mx1_ahead (l : Launch) (G : XG) (b : Nat) (hole : Nat → Prop) (p1 : Int32) (p2 : Int32) (p3 : Int32) (p4 : Int32) (p5 : Int32) (p6 : Int32) (K0 : XK) (T : XT) (Z Y : Nat) (hZ : kc K0 ≤ Z) (hY : ks K0 ≤ Y)  (post : Int32 → XT → XK → Prop) (h : wx1_ahead p1 p2 p3 p4 p5 p6 K0 T Z Y post) : Met l yX1_ahead (ws_ yX1_ahead cX1_ahead 7 (some .int)) ({ frames := 4, cells := (Z - kc K0), slots := (Y - ks K0), locals := 88 } : Room) (xPc G b hole [.ref (b + 0), .int p1, .int p2, .int p3, .int p4, .int p5, .int p6] K0 T) (xQ G b hole K0 (Z - kc K0) (Y - ks K0) (ρ := Int32) eI (fun r T1 K1 => post r T1 K1)) (Z - kc K0) (Y - ks K0) (xA b hole) := by
  refine Met.ofW (cc := cX1_ahead) (maxL := 7) (ret := (some .int)) (by decide) rfl ?_
  intro p e s m args below meth c s₁ B hml hv
  obtain ⟨rfl, hP, hK, hV⟩ := hv
  have hx := B.exec
  have hb := B.bytes
  have hr := B.returns
  have hts := atoms_spec (ws := ws_ yX1_ahead cX1_ahead 7 (some .int)) B.pre
  have hts : ∀ w ∈ lw_all, w.before _ s = true := fun w h => hts w (List.mem_cons_of_mem _ h)
  have hown : s.vm.findClass RX1 = some m.cls := findClass_of_methodNamed B.named
  have hlocks := B.notSynchronized
  have hb0 : b ≤ s.heap.size := by rw [hP.2.2.2]; exact Nat.le_add_right _ _
  have hS : va_S (xA b hole) s.heap s.heap [] := va_S.rf
  have hl := lv_entry ([.ref (b + 0), .int p1, .int p2, .int p3, .int p4, .int p5, .int p6]) (n := 7) (Nat.le_of_ble_eq_true rfl)
  rw [lg_entry_eq]
  generalize (lg_sl ([.ref (b + 0), .int p1, .int p2, .int p3, .int p4, .int p5, .int p6]) ++ List.replicate (7 - (lg_sl ([.ref (b + 0), .int p1, .int p2, .int p3, .int p4, .int p5, .int p6])).length) Slot.unset).toArray = ls at hl ⊢
  have hl : lv_has ls 7 [(0, .ref (b + 0)), (1, .int p1), (2, .int p2), (3, .int p3), (4, .int p4), (5, .int p5), (6, .int p6)] := hl
  have hle0 : kle K0 K0 := kle.rf
  have hcn : kc K0 + 0 = kc K0 := rfl
  have hsn : ks K0 + 0 = ks K0 := rfl
  have hzz := hZ
  have hyy := hY
  unfold wx1_ahead at h
  refine lv_aload_n hx hb dX1_ahead_0 rfl (lv_at hl 0 rfl) ?_
  refine lv_aload_n hx hb dX1_ahead_1 rfl (lv_at hl 0 rfl) ?_
  refine lv_iconst (v := 1) hx hb dX1_ahead_2 (by decide) ?_
  refine lv_bipush (v := 6) hx hb dX1_ahead_3 (by decide) ?_
  obtain ⟨hc1, hs1, h⟩ := h
  obtain ⟨K_1, eK_1⟩ : ∃ z : XK, z = knew K0 1 6 6 := ⟨_, rfl⟩
  obtain ⟨T_2, eT_2⟩ : ∃ z : XT, z = xnil T (kz K0) := ⟨_, rfl⟩
  have h := h K_1 eK_1 T_2 eT_2
  have hle1 : kle K0 K_1 := by rw [eK_1]; exact kle.new hP.2.2.1 _ _ _
  refine x_newai (N := 6) hx hb hts q170 hK hP hS (by decide) (by decide) (by show _ + 1 ≤ Z - kc K0; omega) (by show _ + _ ≤ Y - ks K0; omega) dX1_ahead_5 (fun H hP hS => ?_)
  rw [← eK_1, ← eT_2] at hP
  have hk_n1 : kd K_1 (kz K0) = 1 := by rw [eK_1]; exact knew_kd
  have hle0 := hle0.tr hle1
  have hcn : kc K0 + (0 + 1) = kc K_1 := by rw [eK_1]; show _ = kc K0 + 1; omega
  have hsn : ks K0 + (0 + 6) = ks K_1 := by rw [eK_1]; show _ = ks K0 + 6; omega
  have hzz : kc K_1 ≤ Z := by rw [eK_1]; exact hc1
  have hyy : ks K_1 ≤ Y := by rw [eK_1]; exact hs1
  refine lv_dup hx hb dX1_ahead_7 rfl ?_
  refine lv_iconst (v := 0) hx hb dX1_ahead_8 (by decide) ?_
  refine lv_iload_n hx hb dX1_ahead_9 rfl (lv_at hl 1 rfl) ?_
  obtain ⟨j_3, hj_3, ej_3, h⟩ := h
  obtain ⟨T_4, eT_4⟩ : ∃ z : XT, z = xwi T_2 (kz K0) j_3 p1 := ⟨_, rfl⟩
  have h := h T_4 eT_4
  refine x_iast hx hb hK hP hS hk_n1 ej_3 hj_3 dX1_ahead_10 (fun H locs hP hS => ?_)
  rw [← eT_4] at hP
  refine lv_dup hx hb dX1_ahead_11 rfl ?_
  refine lv_iconst (v := 1) hx hb dX1_ahead_12 (by decide) ?_
  refine lv_iload_n hx hb dX1_ahead_13 rfl (lv_at hl 2 rfl) ?_
  obtain ⟨j_5, hj_5, ej_5, h⟩ := h
  obtain ⟨T_6, eT_6⟩ : ∃ z : XT, z = xwi T_4 (kz K0) j_5 p2 := ⟨_, rfl⟩
  have h := h T_6 eT_6
  refine x_iast hx hb hK hP hS hk_n1 ej_5 hj_5 dX1_ahead_14 (fun H locs hP hS => ?_)
  rw [← eT_6] at hP
  refine lv_dup hx hb dX1_ahead_15 rfl ?_
  refine lv_iconst (v := 2) hx hb dX1_ahead_16 (by decide) ?_
  refine lv_iload_n hx hb dX1_ahead_17 rfl (lv_at hl 3 rfl) ?_
  obtain ⟨j_7, hj_7, ej_7, h⟩ := h
  obtain ⟨T_8, eT_8⟩ : ∃ z : XT, z = xwi T_6 (kz K0) j_7 p3 := ⟨_, rfl⟩
  have h := h T_8 eT_8
  refine x_iast hx hb hK hP hS hk_n1 ej_7 hj_7 dX1_ahead_18 (fun H locs hP hS => ?_)
  rw [← eT_8] at hP
  refine lv_dup hx hb dX1_ahead_19 rfl ?_
  refine lv_iconst (v := 3) hx hb dX1_ahead_20 (by decide) ?_
  refine lv_iload hx hb dX1_ahead_21 (lv_at hl 4 rfl) ?_
  obtain ⟨j_9, hj_9, ej_9, h⟩ := h
  obtain ⟨T_10, eT_10⟩ : ∃ z : XT, z = xwi T_8 (kz K0) j_9 p4 := ⟨_, rfl⟩
  have h := h T_10 eT_10
  refine x_iast hx hb hK hP hS hk_n1 ej_9 hj_9 dX1_ahead_23 (fun H locs hP hS => ?_)
  rw [← eT_10] at hP
  refine lv_dup hx hb dX1_ahead_24 rfl ?_
  refine lv_iconst (v := 4) hx hb dX1_ahead_25 (by decide) ?_
  refine lv_iload hx hb dX1_ahead_26 (lv_at hl 5 rfl) ?_
  obtain ⟨j_11, hj_11, ej_11, h⟩ := h
  obtain ⟨T_12, eT_12⟩ : ∃ z : XT, z = xwi T_10 (kz K0) j_11 p5 := ⟨_, rfl⟩
  have h := h T_12 eT_12
  refine x_iast hx hb hK hP hS hk_n1 ej_11 hj_11 dX1_ahead_28 (fun H locs hP hS => ?_)
  rw [← eT_12] at hP
  refine lv_dup hx hb dX1_ahead_29 rfl ?_
  refine lv_iconst (v := 5) hx hb dX1_ahead_30 (by decide) ?_
  refine lv_iload hx hb dX1_ahead_31 (lv_at hl 6 rfl) ?_
  obtain ⟨j_13, hj_13, ej_13, h⟩ := h
  obtain ⟨T_14, eT_14⟩ : ∃ z : XT, z = xwi T_12 (kz K0) j_13 p6 := ⟨_, rfl⟩
  have h := h T_14 eT_14
  refine x_iast hx hb hK hP hS hk_n1 ej_13 hj_13 dX1_ahead_33 (fun H locs hP hS => ?_)
  rw [← eT_14] at hP
  refine x_cS (As := [.ref (b + (kz K0))]) (rest := [.int 1, .ref (b + 0), .ref (b + 0)]) ⟨hx, hb, hml, hown, hts⟩ (mx1_areExponents l G b hole (kz K0) K_1 T_14 hk_n1 _ h) (va_cwS 1 hts (lw_S q828 q829 q118 q830) rfl rfl rfl cwx_X1_areExponents ⟨Nat.le_of_ble_eq_true rfl, Nat.le_of_ble_eq_true rfl⟩) hK hV hb0 hP hS rfl hl.1 rfl (Nat.le_of_ble_eq_true rfl) dX1_ahead_34 ⟨by first | exact Nat.zero_le _ | (show _ + _ ≤ Z - kc K0; omega), by first | exact Nat.zero_le _ | (show _ + _ ≤ Y - ks K0; omega)⟩ (fun r_15 T1 K1 H locs h hle1 hc1 hs1 hP hS => ?_)
  obtain ⟨h, hTe, hKe⟩ := h
  rw [hTe, hKe] at hP
  refine x_cV (k := 0) (As := [.int 1, .int r_15]) (rest := [.ref (b + 0)]) ⟨hx, hb, hml, hown, hts⟩ (mx1_why_2 l G b hole 1 r_15 K_1 T_14  _ h) (cwV 2 hts (lw_V q773 q775 qs25 q118 q776) rfl rfl rfl cwx_X1_why_2 ⟨Nat.le_of_ble_eq_true rfl, Nat.le_of_ble_eq_true rfl⟩) (x_recv (CC := RX1) (ci := 0) hK hP (xs_0 hP) (by decide) (by decide) rfl (xE_8 (xs_0 hP))) hK hV hb0 hP hS rfl hl.1 rfl (Nat.le_of_ble_eq_true rfl) dX1_ahead_37 ⟨by first | exact Nat.zero_le _ | (show _ + _ ≤ Z - kc K0; omega), by first | exact Nat.zero_le _ | (show _ + _ ≤ Y - ks K0; omega)⟩ (fun r_18 T1 K1 H locs h hle1 hc1 hs1 hP hS => ?_)
  obtain ⟨h, hTe, hKe⟩ := h
  rw [hTe, hKe] at hP
  refine x_cV (k := 0) (As := [.int r_18]) (rest := []) ⟨hx, hb, hml, hown, hts⟩ (mx1_isRefused l G b hole r_18 K_1 T_14  _ h) (cwV 1 hts (lw_V q777 q779 qs26 q118 q780) rfl rfl rfl cwx_X1_isRefused ⟨Nat.le_of_ble_eq_true rfl, Nat.le_of_ble_eq_true rfl⟩) (x_recv (CC := RX1) (ci := 0) hK hP (xs_0 hP) (by decide) (by decide) rfl (xE_8 (xs_0 hP))) hK hV hb0 hP hS rfl hl.1 rfl (Nat.le_of_ble_eq_true rfl) dX1_ahead_40 ⟨by first | exact Nat.zero_le _ | (show _ + _ ≤ Z - kc K0; omega), by first | exact Nat.zero_le _ | (show _ + _ ≤ Y - ks K0; omega)⟩ (fun r_21 T1 K1 H locs h hle1 hc1 hs1 hP hS => ?_)
  obtain ⟨h, hKe⟩ := h
  rw [hKe] at hP
  generalize T1 = T_22 at h hP
  refine lv_if_eq (tgt := 49) hx hb dX1_ahead_43 (by decide) (fun c_37 => ?_) (fun c_37 => ?_)
  · have h := h.1 c_37
    refine lv_aload_n hx hb dX1_ahead_49 rfl (lv_at hl 0 rfl) ?_
    obtain ⟨v_24, ev_24, h⟩ := h
    refine x_get (CC := RX1) (TT := TX1) (N := 26) (ci := 0) (v := rfv b (xr T_22 0 4)) hx hb hts in_X1 hown hK hP (xs_0 hP) (by decide) (by decide) rfl (xE_8 (xs_0 hP)) 4 (by decide) q388 rfl rfl dX1_ahead_50 ?_
    refine x_some ev_24 ?_
    have hk_v_24 : kd K_1 v_24 = 16 := hP.ty (xs_0 hP) (by decide) ev_24
    refine lv_iload_n hx hb dX1_ahead_53 rfl (lv_at hl 1 rfl) ?_
    refine lv_iload_n hx hb dX1_ahead_54 rfl (lv_at hl 2 rfl) ?_
    refine lv_iload_n hx hb dX1_ahead_55 rfl (lv_at hl 3 rfl) ?_
    refine x_cS (As := [.int p1, .int p2, .int p3]) (rest := [.ref (b + v_24)]) ⟨hx, hb, hml, hown, hts⟩ (mx1_packed l G b hole p1 p2 p3 K_1 T_22  _ h) (va_cwS 3 hts (lw_S q836 q837 q118 q838) rfl rfl rfl cwx_X1_packed ⟨Nat.le_of_ble_eq_true rfl, Nat.le_of_ble_eq_true rfl⟩) hK hV hb0 hP hS rfl hl.1 rfl (Nat.le_of_ble_eq_true rfl) dX1_ahead_56 ⟨by first | exact Nat.zero_le _ | (show _ + _ ≤ Z - kc K0; omega), by first | exact Nat.zero_le _ | (show _ + _ ≤ Y - ks K0; omega)⟩ (fun r_25 T1 K1 H locs h hle1 hc1 hs1 hP hS => ?_)
    obtain ⟨h, hTe, hKe⟩ := h
    rw [hTe, hKe] at hP
    refine x_keyA (q := v_24) (rest := []) hx hb (hml.trans hl.1.symm) hts hown q753 hK hV hb0 hP hS hk_v_24 h (Nat.le_of_ble_eq_true rfl) (Nat.le_of_ble_eq_true rfl) (by first | exact Nat.zero_le _ | (show _ ≤ Z - kc K0; omega)) (by first | exact Nat.zero_le _ | (show _ ≤ Y - ks K0; omega)) dX1_ahead_59 (fun r_28 H locs h hP hS => ?_)
    refine lv_aload_n hx hb dX1_ahead_64 rfl (lv_at hl 0 rfl) ?_
    obtain ⟨v_29, ev_29, h⟩ := h
    refine x_get (CC := RX1) (TT := TX1) (N := 26) (ci := 0) (v := rfv b (xr T_22 0 4)) hx hb hts in_X1 hown hK hP (xs_0 hP) (by decide) (by decide) rfl (xE_8 (xs_0 hP)) 4 (by decide) q388 rfl rfl dX1_ahead_65 ?_
    refine x_some ev_29 ?_
    have hk_v_29 : kd K_1 v_29 = 16 := hP.ty (xs_0 hP) (by decide) ev_29
    refine lv_iload hx hb dX1_ahead_68 (lv_at hl 4 rfl) ?_
    refine lv_iload hx hb dX1_ahead_70 (lv_at hl 5 rfl) ?_
    refine lv_iload hx hb dX1_ahead_72 (lv_at hl 6 rfl) ?_
    refine x_cS (As := [.int p4, .int p5, .int p6]) (rest := [.ref (b + v_29), .int r_28]) ⟨hx, hb, hml, hown, hts⟩ (mx1_packed l G b hole p4 p5 p6 K_1 T_22  _ h) (va_cwS 3 hts (lw_S q836 q837 q118 q838) rfl rfl rfl cwx_X1_packed ⟨Nat.le_of_ble_eq_true rfl, Nat.le_of_ble_eq_true rfl⟩) hK hV hb0 hP hS rfl hl.1 rfl (Nat.le_of_ble_eq_true rfl) dX1_ahead_74 ⟨by first | exact Nat.zero_le _ | (show _ + _ ≤ Z - kc K0; omega), by first | exact Nat.zero_le _ | (show _ + _ ≤ Y - ks K0; omega)⟩ (fun r_30 T1 K1 H locs h hle1 hc1 hs1 hP hS => ?_)
    obtain ⟨h, hTe, hKe⟩ := h
    rw [hTe, hKe] at hP
    refine x_keyA (q := v_29) (rest := [.int r_28]) hx hb (hml.trans hl.1.symm) hts hown q753 hK hV hb0 hP hS hk_v_29 h (Nat.le_of_ble_eq_true rfl) (Nat.le_of_ble_eq_true rfl) (by first | exact Nat.zero_le _ | (show _ ≤ Z - kc K0; omega)) (by first | exact Nat.zero_le _ | (show _ ≤ Y - ks K0; omega)) dX1_ahead_77 (fun r_33 H locs h hP hS => ?_)
    refine x_cS (As := [.int r_28, .int r_33]) (rest := []) ⟨hx, hb, hml, hown, hts⟩ (mxJ10_compare l G b hole r_28 r_33 K_1 T_22  _ h) (va_cwS 2 hts (lw_S q871 q872 q135 q873) rfl rfl rfl cwx_J10_compare ⟨Nat.le_of_ble_eq_true rfl, Nat.le_of_ble_eq_true rfl⟩) hK hV hb0 hP hS rfl hl.1 rfl (Nat.le_of_ble_eq_true rfl) dX1_ahead_82 ⟨by first | exact Nat.zero_le _ | (show _ + _ ≤ Z - kc K0; omega), by first | exact Nat.zero_le _ | (show _ + _ ≤ Y - ks K0; omega)⟩ (fun r_34 T1 K1 H locs h hle1 hc1 hs1 hP hS => ?_)
    obtain ⟨h, hTe, hKe⟩ := h
    rw [hTe, hKe] at hP
    refine W.widen (k := Z - kc K0) (n := Y - ks K0) (by omega) (by omega) ?_
    exact W.iret (v := r_34) hx hb hr (fun t ht hW => ⟨⟨r_34, T_22, (kset K_1 Z Y), rfl, h, hle0, (by show Z = _; omega), (by show Y = _; omega), by rw [ht]; exact hP, va_K.moved hW.alike hK⟩, hS.F ht⟩) hS.2.2 dX1_ahead_85
  · have h := h.2 c_37
    refine lv_bipush (v := (-2)) hx hb dX1_ahead_46 (by decide) ?_
    refine W.widen (k := Z - kc K0) (n := Y - ks K0) (by omega) (by omega) ?_
    exact W.iret (v := (-2)) hx hb hr (fun t ht hW => ⟨⟨(-2), T_22, (kset K_1 Z Y), rfl, h, hle0, (by show Z = _; omega), (by show Y = _; omega), by rw [ht]; exact hP, va_K.moved hW.alike hK⟩, hS.F ht⟩) hS.2.2 dX1_ahead_48
