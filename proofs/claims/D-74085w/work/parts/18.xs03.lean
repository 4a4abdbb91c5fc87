set_option maxRecDepth 100000
theorem cwx_X4_takes : yX4_takes.cls = RX4 ∧ yX4_takes.cls ≠ "java/lang/invoke/MethodHandle" ∧ yX4_takes.cls ≠ "java/lang/invoke/VarHandle" ∧ (parseMethodDescriptor yX4_takes.desc).map (fun d => d.parameters.length) = some 1 := by decide +kernel
def wx4_takes (p1 : Nat) (K0 : XK) (T : XT) (Z Y : Nat) (post : XT → XK → Prop) (xpost : XT → XK → Prop) : Prop :=
  wx4_is p1 K0 T (fun r_1 =>
  wx4_must r_1 K0 T (fun T_5 =>
  ∃ Z_10 Y_11 : Nat, kc K0 ≤ Z_10 ∧ Z_10 ≤ Z ∧ ks K0 ≤ Y_11 ∧ Y_11 ≤ Y ∧ wx4_step  K0 T_5 Z_10 Y_11 (fun T_8 K_9 =>
  post T_8 (kset K_9 Z Y))) (fun T9 => xpost T9 (kset K0 Z Y)))
set_option maxHeartbeats 4000000 in
theorem mx4_takes (l : Launch) (G : XG) (b : Nat) (hole : Nat → Prop) (p1 : Nat) (K0 : XK) (T : XT) (Z Y : Nat) (hZ : kc K0 ≤ Z) (hY : ks K0 ≤ Y) (hk_p1 : p1 < 22) (post : XT → XK → Prop) (xpost : XT → XK → Prop) (h : wx4_takes p1 K0 T Z Y post xpost) : vx_Met l yX4_takes (ws_ yX4_takes cX4_takes 2 none) ({ frames := 6, cells := (Z - kc K0), slots := (Y - ks K0), locals := 187 } : Room) (xPc G b hole [.ref (b + 80), .ref ((gad G).1 p1)] K0 T) (xQ G b hole K0 (Z - kc K0) (Y - ks K0) (ρ := Unit) eV (fun r T1 K1 => post T1 K1)) (xXC G b hole K0 (Z - kc K0) (Y - ks K0) xpost) (Z - kc K0) (Y - ks K0) (xA b hole) := by
  refine vx_ofW (cc := cX4_takes) (maxL := 2) (ret := none) (by decide) rfl ?_
  intro p e s m args below meth c s₁ B hml ht9 hv
  obtain ⟨rfl, hP, hK, hV⟩ := hv
  have hx := B.exec
  have hb := B.bytes
  have hr := B.returns
  have hts := atoms_spec (ws := ws_ yX4_takes cX4_takes 2 none) B.pre
  have hts : ∀ w ∈ lw_all, w.before _ s = true := fun w h => hts w (List.mem_cons_of_mem _ h)
  have hown : s.vm.findClass RX4 = some m.cls := findClass_of_methodNamed B.named
  have hlocks := B.notSynchronized
  have hb0 : b ≤ s.heap.size := by rw [hP.2.2.2]; exact Nat.le_add_right _ _
  have hS : va_S (xA b hole) s.heap s.heap [] := va_S.rf
  have hl := lv_entry ([.ref (b + 80), .ref ((gad G).1 p1)]) (n := 2) (Nat.le_of_ble_eq_true rfl)
  rw [lg_entry_eq]
  generalize (lg_sl ([.ref (b + 80), .ref ((gad G).1 p1)]) ++ List.replicate (2 - (lg_sl ([.ref (b + 80), .ref ((gad G).1 p1)])).length) Slot.unset).toArray = ls at hl ⊢
  have hl : lv_has ls 2 [(0, .ref (b + 80)), (1, .ref ((gad G).1 p1))] := hl
  have hle0 : kle K0 K0 := kle.rf
  have hcn : kc K0 + 0 = kc K0 := rfl
  have hsn : ks K0 + 0 = ks K0 := rfl
  have hzz := hZ
  have hyy := hY
  unfold wx4_takes at h
  refine lv_aload_n hx hb dX4_takes_0 rfl (lv_at hl 0 rfl) ?_
  refine lv_aload_n hx hb dX4_takes_1 rfl (lv_at hl 0 rfl) ?_
  refine lv_aload_n hx hb dX4_takes_2 rfl (lv_at hl 1 rfl) ?_
  refine x_cV (k := 80) (As := [.ref ((gad G).1 p1)]) (rest := [.ref (b + 80)]) ⟨hx, hb, hml, hown, hts⟩ (mx4_is l G b hole p1 K0 T hk_p1 _ h) (cwV 1 hts (lw_V q682 q684 qs14 q121 q685) rfl rfl rfl cwx_X4_is ⟨Nat.le_of_ble_eq_true rfl, Nat.le_of_ble_eq_true rfl⟩) (x_recv (CC := RX4) (ci := 3) hK hP (xs_80 hP) (by decide) (by decide) rfl (xE_11 (xs_80 hP))) hK hV hb0 hP hS rfl hl.1 rfl (Nat.le_of_ble_eq_true rfl) dX4_takes_3 ⟨by first | exact Nat.zero_le _ | (show _ + _ ≤ Z - kc K0; omega), by first | exact Nat.zero_le _ | (show _ + _ ≤ Y - ks K0; omega)⟩ (fun r_1 T1 K1 H locs h hle1 hc1 hs1 hP hS => ?_)
  obtain ⟨h, hTe, hKe⟩ := h
  rw [hTe, hKe] at hP
  refine x_cVX (k := 80) (As := [.int r_1]) (rest := []) ⟨hx, hb, hml, hown, hts⟩ (mx4_must l G b hole r_1 K0 T  _ _ h) (cwV 1 hts (lw_V q594 q596 qs9 q121 q597) rfl rfl rfl cwx_X4_must ⟨Nat.le_of_ble_eq_true rfl, Nat.le_of_ble_eq_true rfl⟩) (x_recv (CC := RX4) (ci := 3) hK hP (xs_80 hP) (by decide) (by decide) rfl (xE_11 (xs_80 hP))) hK hV hb0 hP hS rfl hl.1 rfl (Nat.le_of_ble_eq_true rfl) dX4_takes_6 ⟨by first | exact Nat.zero_le _ | (show _ + _ ≤ Z - kc K0; omega), by first | exact Nat.zero_le _ | (show _ + _ ≤ Y - ks K0; omega)⟩ (fun r_4 T1 K1 H locs h hle1 hc1 hs1 hP hS => ?_) (fun T1 K1 H locs h hle1 hc1 hs1 hP hS => ?_)
  rotate_left
  · obtain ⟨h, hKe⟩ := h
    rw [hKe] at hP
    exact x_out (K0 := K0) (K1 := kset K0 Z Y) (mc := Z - kc K0) (ms := Y - ks K0) (fun x h9 => (ht9 x h9).elim) hlocks hK hP hS hle0 h (by show Z = _; omega) (by show Y = _; omega) (by omega) (by omega)
  obtain ⟨h, hKe⟩ := h
  rw [hKe] at hP
  generalize T1 = T_5 at h hP
  refine lv_aload_n hx hb dX4_takes_9 rfl (lv_at hl 0 rfl) ?_
  obtain ⟨Z_10, Y_11, hz1, hz2, hy1, hy2, h⟩ := h
  refine x_cV (k := 80) (As := []) (rest := []) ⟨hx, hb, hml, hown, hts⟩ (mx4_step l G b hole  K0 T_5 Z_10 Y_11 hz1 hy1  _ h) (cwV 0 hts (lw_V q494 q496 qs4 q121 q497) rfl rfl rfl cwx_X4_step ⟨Nat.le_of_ble_eq_true rfl, Nat.le_of_ble_eq_true rfl⟩) (x_recv (CC := RX4) (ci := 3) hK hP (xs_80 hP) (by decide) (by decide) rfl (xE_11 (xs_80 hP))) hK hV hb0 hP hS rfl hl.1 rfl (Nat.le_of_ble_eq_true rfl) dX4_takes_10 ⟨by first | exact Nat.zero_le _ | (show _ + _ ≤ Z - kc K0; omega), by first | exact Nat.zero_le _ | (show _ + _ ≤ Y - ks K0; omega)⟩ (fun r_7 T1 K1 H locs h hle1 hc1 hs1 hP hS => ?_)
  generalize T1 = T_8 at h hP
  generalize K1 = K_9 at h hP hle1 hc1 hs1
  have hle0 := hle0.tr hle1
  have hcn : kc K0 + (0 + (Z_10 - kc K0)) = kc K_9 := by omega
  have hsn : ks K0 + (0 + (Y_11 - ks K0)) = ks K_9 := by omega
  have hzz : kc K_9 ≤ Z := by omega
  have hyy : ks K_9 ≤ Y := by omega
  refine vx_ret ?_
  refine W.widen (k := Z - kc K0) (n := Y - ks K0) (by omega) (by omega) ?_
  exact W.vret hx hb hr (fun t ht hW => ⟨⟨(), T_8, (kset K_9 Z Y), rfl, h, hle0, (by show Z = _; omega), (by show Y = _; omega), by rw [ht]; exact hP, va_K.moved hW.alike hK⟩, hS.F ht⟩) hS.2.2 dX4_takes_13
theorem cwx_X4_unknown : yX4_unknown.cls = RX4 ∧ yX4_unknown.cls ≠ "java/lang/invoke/MethodHandle" ∧ yX4_unknown.cls ≠ "java/lang/invoke/VarHandle" ∧ (parseMethodDescriptor yX4_unknown.desc).map (fun d => d.parameters.length) = some 0 := by decide +kernel
def wx4_unknown  (K : XK) (T : XT) (post : Int32 → Prop) : Prop :=
  wx4_is 11 K T (fun r_1 =>
  ((r_1 = 0 →
    wx4_is 12 K T (fun r_4 =>
    ((r_4 = 0 →
      wx4_is 13 K T (fun r_7 =>
      ((r_7 = 0 →
        post (-1)) ∧
       (¬ (r_7 = 0) →
        post 2)))) ∧
     (¬ (r_4 = 0) →
      post 1)))) ∧
   (¬ (r_1 = 0) →
    post 0)))
set_option maxHeartbeats 4000000 in
theorem mx4_unknown (l : Launch) (G : XG) (b : Nat) (hole : Nat → Prop)  (K : XK) (T : XT)  (post : Int32 → Prop) (h : wx4_unknown  K T post) : Met l yX4_unknown (ws_ yX4_unknown cX4_unknown 1 (some .int)) ({ frames := 3, cells := 0, slots := 0, locals := 65 } : Room) (xPc G b hole [.ref (b + 80)] K T) (xQ G b hole K 0 0 (ρ := Int32) eI (fun r T1 K1 => post r ∧ T1 = T ∧ K1 = K)) 0 0 (xA b hole) := by
  refine Met.ofW (cc := cX4_unknown) (maxL := 1) (ret := (some .int)) (by decide) rfl ?_
  intro p e s m args below meth c s₁ B hml hv
  obtain ⟨rfl, hP, hK, hV⟩ := hv
  have hx := B.exec
  have hb := B.bytes
  have hr := B.returns
  have hts := atoms_spec (ws := ws_ yX4_unknown cX4_unknown 1 (some .int)) B.pre
  have hts : ∀ w ∈ lw_all, w.before _ s = true := fun w h => hts w (List.mem_cons_of_mem _ h)
  have hown : s.vm.findClass RX4 = some m.cls := findClass_of_methodNamed B.named
  have hlocks := B.notSynchronized
  have hb0 : b ≤ s.heap.size := by rw [hP.2.2.2]; exact Nat.le_add_right _ _
  have hS : va_S (xA b hole) s.heap s.heap [] := va_S.rf
  have hl := lv_entry ([.ref (b + 80)]) (n := 1) (Nat.le_of_ble_eq_true rfl)
  rw [lg_entry_eq]
  generalize (lg_sl ([.ref (b + 80)]) ++ List.replicate (1 - (lg_sl ([.ref (b + 80)])).length) Slot.unset).toArray = ls at hl ⊢
  have hl : lv_has ls 1 [(0, .ref (b + 80))] := hl
  unfold wx4_unknown at h
  refine lv_aload_n hx hb dX4_unknown_0 rfl (lv_at hl 0 rfl) ?_
  refine va_ldcS hx hb hown (hV.2.2.2.1.2.1 11 (by decide)) dX4_unknown_1 ?_
  refine x_cV (k := 80) (As := [.ref ((gad G).1 11)]) (rest := []) ⟨hx, hb, hml, hown, hts⟩ (mx4_is l G b hole 11 K T (show 11 < 22 by decide) _ h) (cwV 1 hts (lw_V q682 q684 qs14 q121 q685) rfl rfl rfl cwx_X4_is ⟨Nat.le_of_ble_eq_true rfl, Nat.le_of_ble_eq_true rfl⟩) (x_recv (CC := RX4) (ci := 3) hK hP (xs_80 hP) (by decide) (by decide) rfl (xE_11 (xs_80 hP))) hK hV hb0 hP hS rfl hl.1 rfl (Nat.le_of_ble_eq_true rfl) dX4_unknown_3 ⟨by first | exact Nat.zero_le _ | (show _ + _ ≤ Z - kc K0; omega), by first | exact Nat.zero_le _ | (show _ + _ ≤ Y - ks K0; omega)⟩ (fun r_1 T1 K1 H locs h hle1 hc1 hs1 hP hS => ?_)
  obtain ⟨h, hTe, hKe⟩ := h
  rw [hTe, hKe] at hP
  refine lv_if_eq (tgt := 13) hx hb dX4_unknown_6 (by decide) (fun c_12 => ?_) (fun c_12 => ?_)
  · have h := h.1 c_12
    refine lv_aload_n hx hb dX4_unknown_13 rfl (lv_at hl 0 rfl) ?_
    refine va_ldcS hx hb hown (hV.2.2.2.1.2.1 12 (by decide)) dX4_unknown_14 ?_
    refine x_cV (k := 80) (As := [.ref ((gad G).1 12)]) (rest := []) ⟨hx, hb, hml, hown, hts⟩ (mx4_is l G b hole 12 K T (show 12 < 22 by decide) _ h) (cwV 1 hts (lw_V q682 q684 qs14 q121 q685) rfl rfl rfl cwx_X4_is ⟨Nat.le_of_ble_eq_true rfl, Nat.le_of_ble_eq_true rfl⟩) (x_recv (CC := RX4) (ci := 3) hK hP (xs_80 hP) (by decide) (by decide) rfl (xE_11 (xs_80 hP))) hK hV hb0 hP hS rfl hl.1 rfl (Nat.le_of_ble_eq_true rfl) dX4_unknown_16 ⟨by first | exact Nat.zero_le _ | (show _ + _ ≤ Z - kc K0; omega), by first | exact Nat.zero_le _ | (show _ + _ ≤ Y - ks K0; omega)⟩ (fun r_4 T1 K1 H locs h hle1 hc1 hs1 hP hS => ?_)
    obtain ⟨h, hTe, hKe⟩ := h
    rw [hTe, hKe] at hP
    refine lv_if_eq (tgt := 26) hx hb dX4_unknown_19 (by decide) (fun c_11 => ?_) (fun c_11 => ?_)
    · have h := h.1 c_11
      refine lv_aload_n hx hb dX4_unknown_26 rfl (lv_at hl 0 rfl) ?_
      refine va_ldcS hx hb hown (hV.2.2.2.1.2.1 13 (by decide)) dX4_unknown_27 ?_
      refine x_cV (k := 80) (As := [.ref ((gad G).1 13)]) (rest := []) ⟨hx, hb, hml, hown, hts⟩ (mx4_is l G b hole 13 K T (show 13 < 22 by decide) _ h) (cwV 1 hts (lw_V q682 q684 qs14 q121 q685) rfl rfl rfl cwx_X4_is ⟨Nat.le_of_ble_eq_true rfl, Nat.le_of_ble_eq_true rfl⟩) (x_recv (CC := RX4) (ci := 3) hK hP (xs_80 hP) (by decide) (by decide) rfl (xE_11 (xs_80 hP))) hK hV hb0 hP hS rfl hl.1 rfl (Nat.le_of_ble_eq_true rfl) dX4_unknown_29 ⟨by first | exact Nat.zero_le _ | (show _ + _ ≤ Z - kc K0; omega), by first | exact Nat.zero_le _ | (show _ + _ ≤ Y - ks K0; omega)⟩ (fun r_7 T1 K1 H locs h hle1 hc1 hs1 hP hS => ?_)
      obtain ⟨h, hTe, hKe⟩ := h
      rw [hTe, hKe] at hP
      refine lv_if_eq (tgt := 39) hx hb dX4_unknown_32 (by decide) (fun c_10 => ?_) (fun c_10 => ?_)
      · have h := h.1 c_10
        refine lv_iconst (v := (-1)) hx hb dX4_unknown_39 (by decide) ?_
        exact W.iret (v := (-1)) hx hb hr (fun t ht hW => ⟨⟨(-1), T, K, rfl, ⟨h, rfl, rfl⟩, kle.rf, rfl, rfl, by rw [ht]; exact hP, va_K.moved hW.alike hK⟩, hS.F ht⟩) hS.2.2 dX4_unknown_40
      · have h := h.2 c_10
        refine lv_iconst (v := 2) hx hb dX4_unknown_35 (by decide) ?_
        refine lv_goto (tgt := 40) hx hb dX4_unknown_36 (by decide) ?_
        exact W.iret (v := 2) hx hb hr (fun t ht hW => ⟨⟨2, T, K, rfl, ⟨h, rfl, rfl⟩, kle.rf, rfl, rfl, by rw [ht]; exact hP, va_K.moved hW.alike hK⟩, hS.F ht⟩) hS.2.2 dX4_unknown_40
    · have h := h.2 c_11
      refine lv_iconst (v := 1) hx hb dX4_unknown_22 (by decide) ?_
      refine lv_goto (tgt := 40) hx hb dX4_unknown_23 (by decide) ?_
      exact W.iret (v := 1) hx hb hr (fun t ht hW => ⟨⟨1, T, K, rfl, ⟨h, rfl, rfl⟩, kle.rf, rfl, rfl, by rw [ht]; exact hP, va_K.moved hW.alike hK⟩, hS.F ht⟩) hS.2.2 dX4_unknown_40
  · have h := h.2 c_12
    refine lv_iconst (v := 0) hx hb dX4_unknown_9 (by decide) ?_
    refine lv_goto (tgt := 40) hx hb dX4_unknown_10 (by decide) ?_
    exact W.iret (v := 0) hx hb hr (fun t ht hW => ⟨⟨0, T, K, rfl, ⟨h, rfl, rfl⟩, kle.rf, rfl, rfl, by rw [ht]; exact hP, va_K.moved hW.alike hK⟩, hS.F ht⟩) hS.2.2 dX4_unknown_40
theorem cwx_X4_ringLine : yX4_ringLine.cls = RX4 ∧ yX4_ringLine.cls ≠ "java/lang/invoke/MethodHandle" ∧ yX4_ringLine.cls ≠ "java/lang/invoke/VarHandle" ∧ (parseMethodDescriptor yX4_ringLine.desc).map (fun d => d.parameters.length) = some 0 := by decide +kernel
def wx4_ringLine_j215  (Z Y : Nat) (post : XT → XK → Prop) (xpost : XT → XK → Prop) (R164 : Int32 → XT → XK → Prop) (R190 : Int32 → XT → Prop) (x1 : Int32) (x2 : Int32) (x3 : Int32) (K : XK) (T : XT) : Prop :=
            ∀ x3_1 : Int32, x3_1 = x3 + 1 →
            R190 x3_1 T
def wx4_ringLine_b190  (Z Y : Nat) (post : XT → XK → Prop) (xpost : XT → XK → Prop) (R164 : Int32 → XT → XK → Prop) (R190 : Int32 → XT → Prop) (x1 : Int32) (x2 : Int32) (x3 : Int32) (K : XK) (T : XT) : Prop :=
          ((x1 ≤ x3 →
            ∃ j_2 : Nat, j_2 < 3 ∧ x1 = nI j_2 ∧ ∀ T_3 : XT, T_3 = xwi T 86 j_2 x2 →
            ∃ Z_7 Y_8 : Nat, kc K ≤ Z_7 ∧ Z_7 ≤ Z ∧ ks K ≤ Y_8 ∧ Y_8 ≤ Y ∧ wx4_step  K T_3 Z_7 Y_8 (fun T_5 K_6 =>
            ∀ x1_9 : Int32, x1_9 = x1 + 1 →
            R164 x1_9 T_5 K_6)) ∧
           (¬ (x1 ≤ x3) →
            ∃ j_10 : Nat, j_10 < 3 ∧ x3 = nI j_10 ∧
            (((xi T 86 j_10) = x2 →
              wx4_good 0 3 K T (fun T_12 =>
              wx4_ringLine_j215  Z Y post xpost R164 R190 x1 x2 x3 K T_12) (fun T9 => xpost T9 (kset K Z Y))) ∧
             (¬ ((xi T 86 j_10) = x2) →
              wx4_good 1 3 K T (fun T_15 =>
              wx4_ringLine_j215  Z Y post xpost R164 R190 x1 x2 x3 K T_15) (fun T9 => xpost T9 (kset K Z Y))))))
def wx4_ringLine_l190  (Z Y : Nat) (post : XT → XK → Prop) (xpost : XT → XK → Prop) (R164 : Int32 → XT → XK → Prop) (x1 : Int32) (x2 : Int32) (x3 : Int32) (K : XK) (T : XT) : Prop := wLoop (fun (R : ((Int32) × (XT)) → Prop) (v : (Int32) × (XT)) => wx4_ringLine_b190  Z Y post xpost R164 (fun x3 T => R (x3, T)) x1 x2 v.1 K v.2) (x3, T)
def wx4_ringLine_j188  (Z Y : Nat) (post : XT → XK → Prop) (xpost : XT → XK → Prop) (R164 : Int32 → XT → XK → Prop) (x1 : Int32) (x2 : Int32) (K : XK) (T : XT) : Prop :=
        wx4_ringLine_l190  Z Y post xpost R164 x1 x2 0 K T
def wx4_ringLine_b164  (Z Y : Nat) (post : XT → XK → Prop) (xpost : XT → XK → Prop) (R164 : Int32 → XT → XK → Prop)  (x1 : Int32) (K : XK) (T : XT) : Prop :=
      ((3 ≤ x1 →
        ∀ T_19 : XT, T_19 = xwi T 80 15 1 →
        post T_19 (kset K Z Y)) ∧
       (¬ (3 ≤ x1) →
        wx4_unknown  K T (fun r_20 =>
        ((r_20 = (-1) →
          wx4_must 0 K T (fun T_24 =>
          wx4_ringLine_j188  Z Y post xpost R164 x1 r_20 K T_24) (fun T9 => xpost T9 (kset K Z Y))) ∧
         (¬ (r_20 = (-1)) →
          wx4_must 1 K T (fun T_27 =>
          wx4_ringLine_j188  Z Y post xpost R164 x1 r_20 K T_27) (fun T9 => xpost T9 (kset K Z Y)))))))
def wx4_ringLine_l164  (Z Y : Nat) (post : XT → XK → Prop) (xpost : XT → XK → Prop)  (x1 : Int32) (K : XK) (T : XT) : Prop := wLoop (fun (R : ((Int32) × (XT) × (XK)) → Prop) (v : (Int32) × (XT) × (XK)) => wx4_ringLine_b164  Z Y post xpost (fun x1 T K => R (x1, T, K))  v.1 v.2.2 v.2.1) (x1, T, K)
def wx4_ringLine_j158  (Z Y : Nat) (post : XT → XK → Prop) (xpost : XT → XK → Prop)  (K : XK) (T : XT) : Prop :=
    ∃ Z_34 Y_35 : Nat, kc K ≤ Z_34 ∧ Z_34 ≤ Z ∧ ks K ≤ Y_35 ∧ Y_35 ≤ Y ∧ wx4_step  K T Z_34 Y_35 (fun T_32 K_33 =>
    wx4_ringLine_l164  Z Y post xpost 0 K_33 T_32)
def wx4_ringLine_j141  (Z Y : Nat) (post : XT → XK → Prop) (xpost : XT → XK → Prop)  (K : XK) (T : XT) : Prop :=
    (((xi T 80 12) = (-1) →
      wx4_must 0 K T (fun T_37 =>
      wx4_ringLine_j158  Z Y post xpost  K T_37) (fun T9 => xpost T9 (kset K Z Y))) ∧
     (¬ ((xi T 80 12) = (-1)) →
      wx4_must 1 K T (fun T_40 =>
      wx4_ringLine_j158  Z Y post xpost  K T_40) (fun T9 => xpost T9 (kset K Z Y))))
def wx4_ringLine_j79  (Z Y : Nat) (post : XT → XK → Prop) (xpost : XT → XK → Prop)  (K : XK) (T : XT) : Prop :=
    ∀ T_43 : XT, T_43 = xwi T 80 11 (xi T 80 10) →
    ∃ Z_47 Y_48 : Nat, kc K ≤ Z_47 ∧ Z_47 ≤ Z ∧ ks K ≤ Y_48 ∧ Y_48 ≤ Y ∧ wx4_step  K T_43 Z_47 Y_48 (fun T_45 K_46 =>
    ∃ Z_52 Y_53 : Nat, kc K_46 ≤ Z_52 ∧ Z_52 ≤ Z ∧ ks K_46 ≤ Y_53 ∧ Y_53 ≤ Y ∧ wx4_takes 17 K_46 T_45 Z_52 Y_53 (fun T_50 K_51 =>
    wx4_is 18 K_51 T_50 (fun r_54 =>
    ((r_54 = 0 →
      wx4_is 19 K_51 T_50 (fun r_57 =>
      ((r_57 = 0 →
        wx4_is 20 K_51 T_50 (fun r_60 =>
        ((r_60 = 0 →
          ∀ T_63 : XT, T_63 = xwi T_50 80 12 (-1) →
          wx4_ringLine_j141  Z Y post xpost  K_51 T_63) ∧
         (¬ (r_60 = 0) →
          ∀ T_64 : XT, T_64 = xwi T_50 80 12 2 →
          wx4_ringLine_j141  Z Y post xpost  K_51 T_64)))) ∧
       (¬ (r_57 = 0) →
        ∀ T_66 : XT, T_66 = xwi T_50 80 12 1 →
        wx4_ringLine_j141  Z Y post xpost  K_51 T_66)))) ∧
     (¬ (r_54 = 0) →
      ∀ T_68 : XT, T_68 = xwi T_50 80 12 0 →
      wx4_ringLine_j141  Z Y post xpost  K_51 T_68)))) (fun T9 K9 => xpost T9 (kset K9 Z Y)))
def wx4_ringLine_j44  (Z Y : Nat) (post : XT → XK → Prop) (xpost : XT → XK → Prop)  (K : XK) (T : XT) : Prop :=
    wx1_in (xi T 80 10) 2 97 K T (fun r_70 =>
    ((r_70 = 0 →
      wx4_good 0 2 K T (fun T_74 =>
      wx4_ringLine_j79  Z Y post xpost  K T_74) (fun T9 => xpost T9 (kset K Z Y))) ∧
     (¬ (r_70 = 0) →
      ∃ j_76 : Nat, j_76 < 98 ∧ (xi T 80 10) = nI j_76 ∧
      ((¬ (sprime.getD j_76 0) = 1 →
        wx4_good 0 2 K T (fun T_78 =>
        wx4_ringLine_j79  Z Y post xpost  K T_78) (fun T9 => xpost T9 (kset K Z Y))) ∧
       ((sprime.getD j_76 0) = 1 →
        wx4_good 1 2 K T (fun T_81 =>
        wx4_ringLine_j79  Z Y post xpost  K T_81) (fun T9 => xpost T9 (kset K Z Y)))))))
def wx4_ringLine_j17  (Z Y : Nat) (post : XT → XK → Prop) (xpost : XT → XK → Prop)  (K : XK) (T : XT) : Prop :=
    ∃ Z_88 Y_89 : Nat, kc K ≤ Z_88 ∧ Z_88 ≤ Z ∧ ks K ≤ Y_89 ∧ Y_89 ≤ Y ∧ wx4_step  K T Z_88 Y_89 (fun T_86 K_87 =>
    ∃ Z_93 Y_94 : Nat, kc K_87 ≤ Z_93 ∧ Z_93 ≤ Z ∧ ks K_87 ≤ Y_94 ∧ Y_94 ≤ Y ∧ wx4_takes 16 K_87 T_86 Z_93 Y_94 (fun T_91 K_92 =>
    ((¬ (xi T_91 80 8) = 3 →
      wx4_must 0 K_92 T_91 (fun T_96 =>
      wx4_ringLine_j44  Z Y post xpost  K_92 T_96) (fun T9 => xpost T9 (kset K_92 Z Y))) ∧
     ((xi T_91 80 8) = 3 →
      wx4_must 1 K_92 T_91 (fun T_99 =>
      wx4_ringLine_j44  Z Y post xpost  K_92 T_99) (fun T9 => xpost T9 (kset K_92 Z Y))))) (fun T9 K9 => xpost T9 (kset K9 Z Y)))
def wx4_ringLine  (K0 : XK) (T : XT) (Z Y : Nat) (post : XT → XK → Prop) (xpost : XT → XK → Prop) : Prop :=
  ((¬ (xi T 80 15) = 0 →
    wx4_good 0 3 K0 T (fun T_103 =>
    wx4_ringLine_j17  Z Y post xpost  K0 T_103) (fun T9 => xpost T9 (kset K0 Z Y))) ∧
   ((xi T 80 15) = 0 →
    wx4_good 1 3 K0 T (fun T_106 =>
    wx4_ringLine_j17  Z Y post xpost  K0 T_106) (fun T9 => xpost T9 (kset K0 Z Y))))
set_option maxHeartbeats 4000000 in
theorem mx4_ringLine (l : Launch) (G : XG) (b : Nat) (hole : Nat → Prop)  (K0 : XK) (T : XT) (Z Y : Nat) (hZ : kc K0 ≤ Z) (hY : ks K0 ≤ Y)  (post : XT → XK → Prop) (xpost : XT → XK → Prop) (h : wx4_ringLine  K0 T Z Y post xpost) : vx_Met l yX4_ringLine (ws_ yX4_ringLine cX4_ringLine 4 none) ({ frames := 7, cells := (Z - kc K0), slots := (Y - ks K0), locals := 208 } : Room) (xPc G b hole [.ref (b + 80)] K0 T) (xQ G b hole K0 (Z - kc K0) (Y - ks K0) (ρ := Unit) eV (fun r T1 K1 => post T1 K1)) (xXC G b hole K0 (Z - kc K0) (Y - ks K0) xpost) (Z - kc K0) (Y - ks K0) (xA b hole) := by
  refine vx_ofW (cc := cX4_ringLine) (maxL := 4) (ret := none) (by decide) rfl ?_
  intro p e s m args below meth c s₁ B hml ht9 hv
  obtain ⟨rfl, hP, hK, hV⟩ := hv
  have hx := B.exec
  have hb := B.bytes
  have hr := B.returns
  have hts := atoms_spec (ws := ws_ yX4_ringLine cX4_ringLine 4 none) B.pre
  have hts : ∀ w ∈ lw_all, w.before _ s = true := fun w h => hts w (List.mem_cons_of_mem _ h)
  have hown : s.vm.findClass RX4 = some m.cls := findClass_of_methodNamed B.named
  have hlocks := B.notSynchronized
  have hb0 : b ≤ s.heap.size := by rw [hP.2.2.2]; exact Nat.le_add_right _ _
  have hS : va_S (xA b hole) s.heap s.heap [] := va_S.rf
  have hl := lv_entry ([.ref (b + 80)]) (n := 4) (Nat.le_of_ble_eq_true rfl)
  rw [lg_entry_eq]
  generalize (lg_sl ([.ref (b + 80)]) ++ List.replicate (4 - (lg_sl ([.ref (b + 80)])).length) Slot.unset).toArray = ls at hl ⊢
  have hl : lv_has ls 4 [(0, .ref (b + 80))] := hl
  have hle0 : kle K0 K0 := kle.rf
  have L164 : ∀ (x1 : Int32) (T : XT) (K : XK) (cn sn : Nat) (H : Heap) (locs : List Loc) (ls : Array Slot), wx4_ringLine_l164  Z Y post xpost  x1 K T → kle K0 K → kc K0 + cn = kc K → ks K0 + sn = ks K → kc K ≤ Z → ks K ≤ Y → xW G b hole K T H → va_S (xA b hole) s.heap H locs → lv_has ls 4 [(0, .ref (b + 80)), (1, .int x1)] → W p l e (headSpec (ws_ yX4_ringLine cX4_ringLine 4 none) ({ frames := 7, cells := (Z - kc K0), slots := (Y - ks K0), locals := 208 } : Room)).room s m ([.ref (b + 80)] : List Value).toArray below meth c H locs cn sn (vx_MQ below (xQ G b hole K0 (Z - kc K0) (Y - ks K0) (ρ := Unit) eV (fun r T1 K1 => post T1 K1)) (xXC G b hole K0 (Z - kc K0) (Y - ks K0) xpost) ([.ref (b + 80)] : List Value).toArray s (Z - kc K0) (Y - ks K0) (xA b hole)) (F0 m 164 ls []) := by
    intro x1 T K cn sn H locs ls h hle0 hcn hsn hzz hyy hP hS hl
    obtain ⟨I164, n164, hI, hstep164⟩ := h
    induction n164 using Nat.strongRecOn generalizing x1 T K cn sn H locs ls with
    | ind n164 ih164 =>
      have h : wx4_ringLine_b164  Z Y post xpost (fun x1 T K => ∃ mm, mm < n164 ∧ I164 mm (x1, T, K))  x1 K T := hstep164 n164 _ hI
      clear hI
      have L190 : ∀ (x1 : Int32) (x2 : Int32) (x3 : Int32) (T : XT) (K : XK) (cn sn : Nat) (H : Heap) (locs : List Loc) (ls : Array Slot), wx4_ringLine_l190  Z Y post xpost (fun x1 T K => ∃ mm, mm < n164 ∧ I164 mm (x1, T, K)) x1 x2 x3 K T → kle K0 K → kc K0 + cn = kc K → ks K0 + sn = ks K → kc K ≤ Z → ks K ≤ Y → xW G b hole K T H → va_S (xA b hole) s.heap H locs → lv_has ls 4 [(0, .ref (b + 80)), (1, .int x1), (2, .int x2), (3, .int x3)] → W p l e (headSpec (ws_ yX4_ringLine cX4_ringLine 4 none) ({ frames := 7, cells := (Z - kc K0), slots := (Y - ks K0), locals := 208 } : Room)).room s m ([.ref (b + 80)] : List Value).toArray below meth c H locs cn sn (vx_MQ below (xQ G b hole K0 (Z - kc K0) (Y - ks K0) (ρ := Unit) eV (fun r T1 K1 => post T1 K1)) (xXC G b hole K0 (Z - kc K0) (Y - ks K0) xpost) ([.ref (b + 80)] : List Value).toArray s (Z - kc K0) (Y - ks K0) (xA b hole)) (F0 m 190 ls []) := by
        intro x1 x2 x3 T K cn sn H locs ls h hle0 hcn hsn hzz hyy hP hS hl
        obtain ⟨I190, n190, hI, hstep190⟩ := h
        induction n190 using Nat.strongRecOn generalizing x3 T H locs ls with
        | ind n190 ih190 =>
          have h : wx4_ringLine_b190  Z Y post xpost (fun x1 T K => ∃ mm, mm < n164 ∧ I164 mm (x1, T, K)) (fun x3 T => ∃ mm, mm < n190 ∧ I190 mm (x3, T)) x1 x2 x3 K T := hstep190 n190 _ hI
          clear hI
          have J215 : ∀ (x3 : Int32) (T : XT) (H : Heap) (locs : List Loc) (ls : Array Slot), wx4_ringLine_j215  Z Y post xpost (fun x1 T K => ∃ mm, mm < n164 ∧ I164 mm (x1, T, K)) (fun x3 T => ∃ mm, mm < n190 ∧ I190 mm (x3, T)) x1 x2 x3 K T → xW G b hole K T H → va_S (xA b hole) s.heap H locs → lv_has ls 4 [(0, .ref (b + 80)), (1, .int x1), (2, .int x2), (3, .int x3)] → W p l e (headSpec (ws_ yX4_ringLine cX4_ringLine 4 none) ({ frames := 7, cells := (Z - kc K0), slots := (Y - ks K0), locals := 208 } : Room)).room s m ([.ref (b + 80)] : List Value).toArray below meth c H locs cn sn (vx_MQ below (xQ G b hole K0 (Z - kc K0) (Y - ks K0) (ρ := Unit) eV (fun r T1 K1 => post T1 K1)) (xXC G b hole K0 (Z - kc K0) (Y - ks K0) xpost) ([.ref (b + 80)] : List Value).toArray s (Z - kc K0) (Y - ks K0) (xA b hole)) (F0 m 215 ls []) := by
            intro x3 T H locs ls h hP hS hl
            unfold wx4_ringLine_j215 at h
            obtain ⟨x3_1, ex3_1⟩ : ∃ y : Int32, y = x3 + 1 := ⟨_, rfl⟩
            have h := h x3_1 ex3_1
            refine lv_iinc (v := x3_1) (lv' := [(3, .int x3_1), (0, .ref (b + 80)), (1, .int x1), (2, .int x2)]) hx hb dX4_ringLine_215 hl (k := 3) rfl (by rw [ex3_1]; rfl) (by decide) rfl (fun ls hl => ?_)
            refine lv_goto (tgt := 190) hx hb dX4_ringLine_218 (by decide) ?_
            obtain ⟨mm, hmm, h⟩ := h
            exact ih190 mm hmm _ _ _ _ _  hP hS (lv_sub hl [1, 2, 3, 0] rfl) h
          unfold wx4_ringLine_b190 at h
          refine lv_iload_n hx hb dX4_ringLine_190 rfl (lv_at hl 3 rfl) ?_
          refine lv_iload_n hx hb dX4_ringLine_191 rfl (lv_at hl 1 rfl) ?_
          refine lv_icmp_ge (tgt := 221) hx hb dX4_ringLine_192 (by decide) (fun c_18 => ?_) (fun c_18 => ?_)
          · have h := h.1 c_18
            refine lv_aload_n hx hb dX4_ringLine_221 rfl (lv_at hl 0 rfl) ?_
            refine x_get (CC := RX4) (TT := TX4) (N := 17) (ci := 3) (v := .ref (b + 86)) hx hb hts in_X4 hown hK hP (xs_80 hP) (by decide) (by decide) rfl (xE_11 (xs_80 hP)) 5 (by decide) q300 rfl rfl dX4_ringLine_222 ?_
            refine lv_iload_n hx hb dX4_ringLine_225 rfl (lv_at hl 1 rfl) ?_
            refine lv_iload_n hx hb dX4_ringLine_226 rfl (lv_at hl 2 rfl) ?_
            obtain ⟨j_2, hj_2, ej_2, h⟩ := h
            obtain ⟨T_3, eT_3⟩ : ∃ z : XT, z = xwi T 86 j_2 x2 := ⟨_, rfl⟩
            have h := h T_3 eT_3
            refine x_iast hx hb hK hP hS (xs_86 hP) ej_2 (by rw [xl_86 hP]; exact hj_2) dX4_ringLine_227 (fun H locs hP hS => ?_)
            rw [← eT_3] at hP
            refine lv_aload_n hx hb dX4_ringLine_228 rfl (lv_at hl 0 rfl) ?_
            obtain ⟨Z_7, Y_8, hz1, hz2, hy1, hy2, h⟩ := h
            refine x_cV (k := 80) (As := []) (rest := []) ⟨hx, hb, hml, hown, hts⟩ (mx4_step l G b hole  K T_3 Z_7 Y_8 hz1 hy1  _ h) (cwV 0 hts (lw_V q494 q496 qs4 q121 q497) rfl rfl rfl cwx_X4_step ⟨Nat.le_of_ble_eq_true rfl, Nat.le_of_ble_eq_true rfl⟩) (x_recv (CC := RX4) (ci := 3) hK hP (xs_80 hP) (by decide) (by decide) rfl (xE_11 (xs_80 hP))) hK hV hb0 hP hS rfl hl.1 rfl (Nat.le_of_ble_eq_true rfl) dX4_ringLine_229 ⟨by first | exact Nat.zero_le _ | (show _ + _ ≤ Z - kc K0; omega), by first | exact Nat.zero_le _ | (show _ + _ ≤ Y - ks K0; omega)⟩ (fun r_4 T1 K1 H locs h hle1 hc1 hs1 hP hS => ?_)
            generalize T1 = T_5 at h hP
            generalize K1 = K_6 at h hP hle1 hc1 hs1
            have hle0 := hle0.tr hle1
            have hcn : kc K0 + (cn + (Z_7 - kc K)) = kc K_6 := by omega
            have hsn : ks K0 + (sn + (Y_8 - ks K)) = ks K_6 := by omega
            have hzz : kc K_6 ≤ Z := by omega
            have hyy : ks K_6 ≤ Y := by omega
            obtain ⟨x1_9, ex1_9⟩ : ∃ y : Int32, y = x1 + 1 := ⟨_, rfl⟩
            have h := h x1_9 ex1_9
            refine lv_iinc (v := x1_9) (lv' := [(1, .int x1_9), (0, .ref (b + 80)), (2, .int x2), (3, .int x3)]) hx hb dX4_ringLine_232 hl (k := 1) rfl (by rw [ex1_9]; rfl) (by decide) rfl (fun ls hl => ?_)
            refine lv_goto (tgt := 164) hx hb dX4_ringLine_235 (by decide) ?_
            obtain ⟨mm, hmm, h⟩ := h
            exact ih164 mm hmm _ _ _ _ _ _ _ _ hle0 hcn hsn hzz hyy hP hS (lv_sub hl [1, 0] rfl) h
          · have h := h.2 c_18
            refine lv_aload_n hx hb dX4_ringLine_195 rfl (lv_at hl 0 rfl) ?_
            refine lv_aload_n hx hb dX4_ringLine_196 rfl (lv_at hl 0 rfl) ?_
            refine x_get (CC := RX4) (TT := TX4) (N := 17) (ci := 3) (v := .ref (b + 86)) hx hb hts in_X4 hown hK hP (xs_80 hP) (by decide) (by decide) rfl (xE_11 (xs_80 hP)) 5 (by decide) q300 rfl rfl dX4_ringLine_197 ?_
            refine lv_iload_n hx hb dX4_ringLine_200 rfl (lv_at hl 3 rfl) ?_
            obtain ⟨j_10, hj_10, ej_10, h⟩ := h
            refine x_iald hx hb hK hP (xs_86 hP) ej_10 (by rw [xl_86 hP]; exact hj_10) dX4_ringLine_201 ?_
            refine lv_iload_n hx hb dX4_ringLine_202 rfl (lv_at hl 2 rfl) ?_
            refine lv_icmp_eq (tgt := 210) hx hb dX4_ringLine_203 (by decide) (fun c_17 => ?_) (fun c_17 => ?_)
            · have h := h.1 c_17
              refine lv_iconst (v := 0) hx hb dX4_ringLine_210 (by decide) ?_
              refine lv_iconst (v := 3) hx hb dX4_ringLine_211 (by decide) ?_
              refine x_cVX (k := 80) (As := [.int 0, .int 3]) (rest := []) ⟨hx, hb, hml, hown, hts⟩ (mx4_good l G b hole 0 3 K T  _ _ h) (cwV 2 hts (lw_V q673 q675 qs12 q121 q676) rfl rfl rfl cwx_X4_good ⟨Nat.le_of_ble_eq_true rfl, Nat.le_of_ble_eq_true rfl⟩) (x_recv (CC := RX4) (ci := 3) hK hP (xs_80 hP) (by decide) (by decide) rfl (xE_11 (xs_80 hP))) hK hV hb0 hP hS rfl hl.1 rfl (Nat.le_of_ble_eq_true rfl) dX4_ringLine_212 ⟨by first | exact Nat.zero_le _ | (show _ + _ ≤ Z - kc K0; omega), by first | exact Nat.zero_le _ | (show _ + _ ≤ Y - ks K0; omega)⟩ (fun r_11 T1 K1 H locs h hle1 hc1 hs1 hP hS => ?_) (fun T1 K1 H locs h hle1 hc1 hs1 hP hS => ?_)
              rotate_left
              · obtain ⟨h, hKe⟩ := h
                rw [hKe] at hP
                exact x_out (K0 := K0) (K1 := kset K Z Y) (mc := Z - kc K0) (ms := Y - ks K0) (fun x h9 => (ht9 x h9).elim) hlocks hK hP hS hle0 h (by show Z = _; omega) (by show Y = _; omega) (by omega) (by omega)
              obtain ⟨h, hKe⟩ := h
              rw [hKe] at hP
              generalize T1 = T_12 at h hP
              exact J215 _ _ _ _ _ h  hP hS (lv_sub hl [0, 1, 2, 3] rfl)
            · have h := h.2 c_17
              refine lv_iconst (v := 1) hx hb dX4_ringLine_206 (by decide) ?_
              refine lv_goto (tgt := 211) hx hb dX4_ringLine_207 (by decide) ?_
              refine lv_iconst (v := 3) hx hb dX4_ringLine_211 (by decide) ?_
              refine x_cVX (k := 80) (As := [.int 1, .int 3]) (rest := []) ⟨hx, hb, hml, hown, hts⟩ (mx4_good l G b hole 1 3 K T  _ _ h) (cwV 2 hts (lw_V q673 q675 qs12 q121 q676) rfl rfl rfl cwx_X4_good ⟨Nat.le_of_ble_eq_true rfl, Nat.le_of_ble_eq_true rfl⟩) (x_recv (CC := RX4) (ci := 3) hK hP (xs_80 hP) (by decide) (by decide) rfl (xE_11 (xs_80 hP))) hK hV hb0 hP hS rfl hl.1 rfl (Nat.le_of_ble_eq_true rfl) dX4_ringLine_212 ⟨by first | exact Nat.zero_le _ | (show _ + _ ≤ Z - kc K0; omega), by first | exact Nat.zero_le _ | (show _ + _ ≤ Y - ks K0; omega)⟩ (fun r_14 T1 K1 H locs h hle1 hc1 hs1 hP hS => ?_) (fun T1 K1 H locs h hle1 hc1 hs1 hP hS => ?_)
              rotate_left
              · obtain ⟨h, hKe⟩ := h
                rw [hKe] at hP
                exact x_out (K0 := K0) (K1 := kset K Z Y) (mc := Z - kc K0) (ms := Y - ks K0) (fun x h9 => (ht9 x h9).elim) hlocks hK hP hS hle0 h (by show Z = _; omega) (by show Y = _; omega) (by omega) (by omega)
              obtain ⟨h, hKe⟩ := h
              rw [hKe] at hP
              generalize T1 = T_15 at h hP
              exact J215 _ _ _ _ _ h  hP hS (lv_sub hl [0, 1, 2, 3] rfl)
      have J188 : ∀ (x1 : Int32) (x2 : Int32) (T : XT) (K : XK) (cn sn : Nat) (H : Heap) (locs : List Loc) (ls : Array Slot), wx4_ringLine_j188  Z Y post xpost (fun x1 T K => ∃ mm, mm < n164 ∧ I164 mm (x1, T, K)) x1 x2 K T → kle K0 K → kc K0 + cn = kc K → ks K0 + sn = ks K → kc K ≤ Z → ks K ≤ Y → xW G b hole K T H → va_S (xA b hole) s.heap H locs → lv_has ls 4 [(0, .ref (b + 80)), (1, .int x1), (2, .int x2)] → W p l e (headSpec (ws_ yX4_ringLine cX4_ringLine 4 none) ({ frames := 7, cells := (Z - kc K0), slots := (Y - ks K0), locals := 208 } : Room)).room s m ([.ref (b + 80)] : List Value).toArray below meth c H locs cn sn (vx_MQ below (xQ G b hole K0 (Z - kc K0) (Y - ks K0) (ρ := Unit) eV (fun r T1 K1 => post T1 K1)) (xXC G b hole K0 (Z - kc K0) (Y - ks K0) xpost) ([.ref (b + 80)] : List Value).toArray s (Z - kc K0) (Y - ks K0) (xA b hole)) (F0 m 188 ls []) := by
        intro x1 x2 T K cn sn H locs ls h hle0 hcn hsn hzz hyy hP hS hl
        unfold wx4_ringLine_j188 at h
        refine lv_iconst (v := 0) hx hb dX4_ringLine_188 (by decide) ?_
        refine lv_istore_n (lv' := [(3, .int 0), (0, .ref (b + 80)), (1, .int x1), (2, .int x2)]) hx hb dX4_ringLine_189 rfl hl (by decide) rfl (fun ls hl => ?_)
        exact L190 _ _ _ _ _ _ _ _ _ _ h hle0 hcn hsn hzz hyy hP hS (lv_sub hl [1, 2, 3, 0] rfl)
      unfold wx4_ringLine_b164 at h
      refine lv_iload_n hx hb dX4_ringLine_164 rfl (lv_at hl 1 rfl) ?_
      refine lv_iconst (v := 3) hx hb dX4_ringLine_165 (by decide) ?_
      refine lv_icmp_ge (tgt := 238) hx hb dX4_ringLine_166 (by decide) (fun c_30 => ?_) (fun c_30 => ?_)
      · have h := h.1 c_30
        refine lv_aload_n hx hb dX4_ringLine_238 rfl (lv_at hl 0 rfl) ?_
        refine lv_iconst (v := 1) hx hb dX4_ringLine_239 (by decide) ?_
        obtain ⟨T_19, eT_19⟩ : ∃ z : XT, z = xwi T 80 15 1 := ⟨_, rfl⟩
        have h := h T_19 eT_19
        refine x_put (CC := RX4) (TT := TX4) (N := 17) (ci := 3) (T1 := T_19) (v := .int 1) (ty := .boolean) (fsf := fun T => fs11 (gem G) b T 80) hx hb hts in_X4 tyX4 tyX4_ok nmX4 hown hK hP hS (xs_80 hP) (by decide) (by decide) rfl (fun _ => xE_11 (xs_80 hP)) rfl 15 (by decide) q314 rfl (Or.inl rfl) rfl rfl rfl (by rw [eT_19]; exact fw11_15 _ b T 80 1) (by rw [eT_19]; exact fun q hq => xwi_i hq) (by rw [eT_19]; exact fun _ _ => rfl) (by rw [eT_19]; exact xwi_ty hP (by rw [(xs_80 hP)]; decide)) dX4_ringLine_240 (fun H locs hP hS => ?_)
        refine vx_ret ?_
        refine W.widen (k := Z - kc K0) (n := Y - ks K0) (by omega) (by omega) ?_
        exact W.vret hx hb hr (fun t ht hW => ⟨⟨(), T_19, (kset K Z Y), rfl, h, hle0, (by show Z = _; omega), (by show Y = _; omega), by rw [ht]; exact hP, va_K.moved hW.alike hK⟩, hS.F ht⟩) hS.2.2 dX4_ringLine_243
      · have h := h.2 c_30
        refine lv_aload_n hx hb dX4_ringLine_169 rfl (lv_at hl 0 rfl) ?_
        refine x_cV (k := 80) (As := []) (rest := []) ⟨hx, hb, hml, hown, hts⟩ (mx4_unknown l G b hole  K T  _ h) (cwV 0 hts (lw_V q692 q694 qs15 q121 q695) rfl rfl rfl cwx_X4_unknown ⟨Nat.le_of_ble_eq_true rfl, Nat.le_of_ble_eq_true rfl⟩) (x_recv (CC := RX4) (ci := 3) hK hP (xs_80 hP) (by decide) (by decide) rfl (xE_11 (xs_80 hP))) hK hV hb0 hP hS rfl hl.1 rfl (Nat.le_of_ble_eq_true rfl) dX4_ringLine_170 ⟨by first | exact Nat.zero_le _ | (show _ + _ ≤ Z - kc K0; omega), by first | exact Nat.zero_le _ | (show _ + _ ≤ Y - ks K0; omega)⟩ (fun r_20 T1 K1 H locs h hle1 hc1 hs1 hP hS => ?_)
        obtain ⟨h, hTe, hKe⟩ := h
        rw [hTe, hKe] at hP
        refine lv_istore_n (lv' := [(2, .int r_20), (0, .ref (b + 80)), (1, .int x1)]) hx hb dX4_ringLine_173 rfl hl (by decide) rfl (fun ls hl => ?_)
        refine lv_aload_n hx hb dX4_ringLine_174 rfl (lv_at hl 1 rfl) ?_
        refine lv_iload_n hx hb dX4_ringLine_175 rfl (lv_at hl 0 rfl) ?_
        refine lv_iconst (v := (-1)) hx hb dX4_ringLine_176 (by decide) ?_
        refine lv_icmp_eq (tgt := 184) hx hb dX4_ringLine_177 (by decide) (fun c_29 => ?_) (fun c_29 => ?_)
        · have h := h.1 c_29
          refine lv_iconst (v := 0) hx hb dX4_ringLine_184 (by decide) ?_
          refine x_cVX (k := 80) (As := [.int 0]) (rest := []) ⟨hx, hb, hml, hown, hts⟩ (mx4_must l G b hole 0 K T  _ _ h) (cwV 1 hts (lw_V q594 q596 qs9 q121 q597) rfl rfl rfl cwx_X4_must ⟨Nat.le_of_ble_eq_true rfl, Nat.le_of_ble_eq_true rfl⟩) (x_recv (CC := RX4) (ci := 3) hK hP (xs_80 hP) (by decide) (by decide) rfl (xE_11 (xs_80 hP))) hK hV hb0 hP hS rfl hl.1 rfl (Nat.le_of_ble_eq_true rfl) dX4_ringLine_185 ⟨by first | exact Nat.zero_le _ | (show _ + _ ≤ Z - kc K0; omega), by first | exact Nat.zero_le _ | (show _ + _ ≤ Y - ks K0; omega)⟩ (fun r_23 T1 K1 H locs h hle1 hc1 hs1 hP hS => ?_) (fun T1 K1 H locs h hle1 hc1 hs1 hP hS => ?_)
          rotate_left
          · obtain ⟨h, hKe⟩ := h
            rw [hKe] at hP
            exact x_out (K0 := K0) (K1 := kset K Z Y) (mc := Z - kc K0) (ms := Y - ks K0) (fun x h9 => (ht9 x h9).elim) hlocks hK hP hS hle0 h (by show Z = _; omega) (by show Y = _; omega) (by omega) (by omega)
          obtain ⟨h, hKe⟩ := h
          rw [hKe] at hP
          generalize T1 = T_24 at h hP
          exact J188 _ _ _ _ _ _ _ _ _ h hle0 hcn hsn hzz hyy hP hS (lv_sub hl [1, 2, 0] rfl)
        · have h := h.2 c_29
          refine lv_iconst (v := 1) hx hb dX4_ringLine_180 (by decide) ?_
          refine lv_goto (tgt := 185) hx hb dX4_ringLine_181 (by decide) ?_
          refine x_cVX (k := 80) (As := [.int 1]) (rest := []) ⟨hx, hb, hml, hown, hts⟩ (mx4_must l G b hole 1 K T  _ _ h) (cwV 1 hts (lw_V q594 q596 qs9 q121 q597) rfl rfl rfl cwx_X4_must ⟨Nat.le_of_ble_eq_true rfl, Nat.le_of_ble_eq_true rfl⟩) (x_recv (CC := RX4) (ci := 3) hK hP (xs_80 hP) (by decide) (by decide) rfl (xE_11 (xs_80 hP))) hK hV hb0 hP hS rfl hl.1 rfl (Nat.le_of_ble_eq_true rfl) dX4_ringLine_185 ⟨by first | exact Nat.zero_le _ | (show _ + _ ≤ Z - kc K0; omega), by first | exact Nat.zero_le _ | (show _ + _ ≤ Y - ks K0; omega)⟩ (fun r_26 T1 K1 H locs h hle1 hc1 hs1 hP hS => ?_) (fun T1 K1 H locs h hle1 hc1 hs1 hP hS => ?_)
          rotate_left
          · obtain ⟨h, hKe⟩ := h
            rw [hKe] at hP
            exact x_out (K0 := K0) (K1 := kset K Z Y) (mc := Z - kc K0) (ms := Y - ks K0) (fun x h9 => (ht9 x h9).elim) hlocks hK hP hS hle0 h (by show Z = _; omega) (by show Y = _; omega) (by omega) (by omega)
          obtain ⟨h, hKe⟩ := h
          rw [hKe] at hP
          generalize T1 = T_27 at h hP
          exact J188 _ _ _ _ _ _ _ _ _ h hle0 hcn hsn hzz hyy hP hS (lv_sub hl [1, 2, 0] rfl)
  have J158 : ∀  (T : XT) (K : XK) (cn sn : Nat) (H : Heap) (locs : List Loc) (ls : Array Slot), wx4_ringLine_j158  Z Y post xpost  K T → kle K0 K → kc K0 + cn = kc K → ks K0 + sn = ks K → kc K ≤ Z → ks K ≤ Y → xW G b hole K T H → va_S (xA b hole) s.heap H locs → lv_has ls 4 [(0, .ref (b + 80))] → W p l e (headSpec (ws_ yX4_ringLine cX4_ringLine 4 none) ({ frames := 7, cells := (Z - kc K0), slots := (Y - ks K0), locals := 208 } : Room)).room s m ([.ref (b + 80)] : List Value).toArray below meth c H locs cn sn (vx_MQ below (xQ G b hole K0 (Z - kc K0) (Y - ks K0) (ρ := Unit) eV (fun r T1 K1 => post T1 K1)) (xXC G b hole K0 (Z - kc K0) (Y - ks K0) xpost) ([.ref (b + 80)] : List Value).toArray s (Z - kc K0) (Y - ks K0) (xA b hole)) (F0 m 158 ls []) := by
    intro  T K cn sn H locs ls h hle0 hcn hsn hzz hyy hP hS hl
    unfold wx4_ringLine_j158 at h
    refine lv_aload_n hx hb dX4_ringLine_158 rfl (lv_at hl 0 rfl) ?_
    obtain ⟨Z_34, Y_35, hz1, hz2, hy1, hy2, h⟩ := h
    refine x_cV (k := 80) (As := []) (rest := []) ⟨hx, hb, hml, hown, hts⟩ (mx4_step l G b hole  K T Z_34 Y_35 hz1 hy1  _ h) (cwV 0 hts (lw_V q494 q496 qs4 q121 q497) rfl rfl rfl cwx_X4_step ⟨Nat.le_of_ble_eq_true rfl, Nat.le_of_ble_eq_true rfl⟩) (x_recv (CC := RX4) (ci := 3) hK hP (xs_80 hP) (by decide) (by decide) rfl (xE_11 (xs_80 hP))) hK hV hb0 hP hS rfl hl.1 rfl (Nat.le_of_ble_eq_true rfl) dX4_ringLine_159 ⟨by first | exact Nat.zero_le _ | (show _ + _ ≤ Z - kc K0; omega), by first | exact Nat.zero_le _ | (show _ + _ ≤ Y - ks K0; omega)⟩ (fun r_31 T1 K1 H locs h hle1 hc1 hs1 hP hS => ?_)
    generalize T1 = T_32 at h hP
    generalize K1 = K_33 at h hP hle1 hc1 hs1
    have hle0 := hle0.tr hle1
    have hcn : kc K0 + (cn + (Z_34 - kc K)) = kc K_33 := by omega
    have hsn : ks K0 + (sn + (Y_35 - ks K)) = ks K_33 := by omega
    have hzz : kc K_33 ≤ Z := by omega
    have hyy : ks K_33 ≤ Y := by omega
    refine lv_iconst (v := 0) hx hb dX4_ringLine_162 (by decide) ?_
    refine lv_istore_n (lv' := [(1, .int 0), (0, .ref (b + 80))]) hx hb dX4_ringLine_163 rfl hl (by decide) rfl (fun ls hl => ?_)
    exact L164 _ _ _ _ _ _ _ _ h hle0 hcn hsn hzz hyy hP hS (lv_sub hl [1, 0] rfl)
  have J141 : ∀  (T : XT) (K : XK) (cn sn : Nat) (H : Heap) (locs : List Loc) (ls : Array Slot), wx4_ringLine_j141  Z Y post xpost  K T → kle K0 K → kc K0 + cn = kc K → ks K0 + sn = ks K → kc K ≤ Z → ks K ≤ Y → xW G b hole K T H → va_S (xA b hole) s.heap H locs → lv_has ls 4 [(0, .ref (b + 80))] → W p l e (headSpec (ws_ yX4_ringLine cX4_ringLine 4 none) ({ frames := 7, cells := (Z - kc K0), slots := (Y - ks K0), locals := 208 } : Room)).room s m ([.ref (b + 80)] : List Value).toArray below meth c H locs cn sn (vx_MQ below (xQ G b hole K0 (Z - kc K0) (Y - ks K0) (ρ := Unit) eV (fun r T1 K1 => post T1 K1)) (xXC G b hole K0 (Z - kc K0) (Y - ks K0) xpost) ([.ref (b + 80)] : List Value).toArray s (Z - kc K0) (Y - ks K0) (xA b hole)) (F0 m 141 ls []) := by
    intro  T K cn sn H locs ls h hle0 hcn hsn hzz hyy hP hS hl
    unfold wx4_ringLine_j141 at h
    refine lv_aload_n hx hb dX4_ringLine_141 rfl (lv_at hl 0 rfl) ?_
    refine lv_aload_n hx hb dX4_ringLine_142 rfl (lv_at hl 0 rfl) ?_
    refine x_get (CC := RX4) (TT := TX4) (N := 17) (ci := 3) (v := .int (xi T 80 12)) hx hb hts in_X4 hown hK hP (xs_80 hP) (by decide) (by decide) rfl (xE_11 (xs_80 hP)) 12 (by decide) q309 rfl rfl dX4_ringLine_143 ?_
    refine lv_iconst (v := (-1)) hx hb dX4_ringLine_146 (by decide) ?_
    refine lv_icmp_eq (tgt := 154) hx hb dX4_ringLine_147 (by decide) (fun c_42 => ?_) (fun c_42 => ?_)
    · have h := h.1 c_42
      refine lv_iconst (v := 0) hx hb dX4_ringLine_154 (by decide) ?_
      refine x_cVX (k := 80) (As := [.int 0]) (rest := []) ⟨hx, hb, hml, hown, hts⟩ (mx4_must l G b hole 0 K T  _ _ h) (cwV 1 hts (lw_V q594 q596 qs9 q121 q597) rfl rfl rfl cwx_X4_must ⟨Nat.le_of_ble_eq_true rfl, Nat.le_of_ble_eq_true rfl⟩) (x_recv (CC := RX4) (ci := 3) hK hP (xs_80 hP) (by decide) (by decide) rfl (xE_11 (xs_80 hP))) hK hV hb0 hP hS rfl hl.1 rfl (Nat.le_of_ble_eq_true rfl) dX4_ringLine_155 ⟨by first | exact Nat.zero_le _ | (show _ + _ ≤ Z - kc K0; omega), by first | exact Nat.zero_le _ | (show _ + _ ≤ Y - ks K0; omega)⟩ (fun r_36 T1 K1 H locs h hle1 hc1 hs1 hP hS => ?_) (fun T1 K1 H locs h hle1 hc1 hs1 hP hS => ?_)
      rotate_left
      · obtain ⟨h, hKe⟩ := h
        rw [hKe] at hP
        exact x_out (K0 := K0) (K1 := kset K Z Y) (mc := Z - kc K0) (ms := Y - ks K0) (fun x h9 => (ht9 x h9).elim) hlocks hK hP hS hle0 h (by show Z = _; omega) (by show Y = _; omega) (by omega) (by omega)
      obtain ⟨h, hKe⟩ := h
      rw [hKe] at hP
      generalize T1 = T_37 at h hP
      exact J158 _ _ _ _ _ _ _ h hle0 hcn hsn hzz hyy hP hS (lv_sub hl [0] rfl)
    · have h := h.2 c_42
      refine lv_iconst (v := 1) hx hb dX4_ringLine_150 (by decide) ?_
      refine lv_goto (tgt := 155) hx hb dX4_ringLine_151 (by decide) ?_
      refine x_cVX (k := 80) (As := [.int 1]) (rest := []) ⟨hx, hb, hml, hown, hts⟩ (mx4_must l G b hole 1 K T  _ _ h) (cwV 1 hts (lw_V q594 q596 qs9 q121 q597) rfl rfl rfl cwx_X4_must ⟨Nat.le_of_ble_eq_true rfl, Nat.le_of_ble_eq_true rfl⟩) (x_recv (CC := RX4) (ci := 3) hK hP (xs_80 hP) (by decide) (by decide) rfl (xE_11 (xs_80 hP))) hK hV hb0 hP hS rfl hl.1 rfl (Nat.le_of_ble_eq_true rfl) dX4_ringLine_155 ⟨by first | exact Nat.zero_le _ | (show _ + _ ≤ Z - kc K0; omega), by first | exact Nat.zero_le _ | (show _ + _ ≤ Y - ks K0; omega)⟩ (fun r_39 T1 K1 H locs h hle1 hc1 hs1 hP hS => ?_) (fun T1 K1 H locs h hle1 hc1 hs1 hP hS => ?_)
      rotate_left
      · obtain ⟨h, hKe⟩ := h
        rw [hKe] at hP
        exact x_out (K0 := K0) (K1 := kset K Z Y) (mc := Z - kc K0) (ms := Y - ks K0) (fun x h9 => (ht9 x h9).elim) hlocks hK hP hS hle0 h (by show Z = _; omega) (by show Y = _; omega) (by omega) (by omega)
      obtain ⟨h, hKe⟩ := h
      rw [hKe] at hP
      generalize T1 = T_40 at h hP
      exact J158 _ _ _ _ _ _ _ h hle0 hcn hsn hzz hyy hP hS (lv_sub hl [0] rfl)
  have J79 : ∀  (T : XT) (K : XK) (cn sn : Nat) (H : Heap) (locs : List Loc) (ls : Array Slot), wx4_ringLine_j79  Z Y post xpost  K T → kle K0 K → kc K0 + cn = kc K → ks K0 + sn = ks K → kc K ≤ Z → ks K ≤ Y → xW G b hole K T H → va_S (xA b hole) s.heap H locs → lv_has ls 4 [(0, .ref (b + 80))] → W p l e (headSpec (ws_ yX4_ringLine cX4_ringLine 4 none) ({ frames := 7, cells := (Z - kc K0), slots := (Y - ks K0), locals := 208 } : Room)).room s m ([.ref (b + 80)] : List Value).toArray below meth c H locs cn sn (vx_MQ below (xQ G b hole K0 (Z - kc K0) (Y - ks K0) (ρ := Unit) eV (fun r T1 K1 => post T1 K1)) (xXC G b hole K0 (Z - kc K0) (Y - ks K0) xpost) ([.ref (b + 80)] : List Value).toArray s (Z - kc K0) (Y - ks K0) (xA b hole)) (F0 m 79 ls []) := by
    intro  T K cn sn H locs ls h hle0 hcn hsn hzz hyy hP hS hl
    unfold wx4_ringLine_j79 at h
    refine lv_aload_n hx hb dX4_ringLine_79 rfl (lv_at hl 0 rfl) ?_
    refine lv_aload_n hx hb dX4_ringLine_80 rfl (lv_at hl 0 rfl) ?_
    refine x_get (CC := RX4) (TT := TX4) (N := 17) (ci := 3) (v := .int (xi T 80 10)) hx hb hts in_X4 hown hK hP (xs_80 hP) (by decide) (by decide) rfl (xE_11 (xs_80 hP)) 10 (by decide) q306 rfl rfl dX4_ringLine_81 ?_
    obtain ⟨T_43, eT_43⟩ : ∃ z : XT, z = xwi T 80 11 (xi T 80 10) := ⟨_, rfl⟩
    have h := h T_43 eT_43
    refine x_put (CC := RX4) (TT := TX4) (N := 17) (ci := 3) (T1 := T_43) (v := .int (xi T 80 10)) (ty := .int) (fsf := fun T => fs11 (gem G) b T 80) hx hb hts in_X4 tyX4 tyX4_ok nmX4 hown hK hP hS (xs_80 hP) (by decide) (by decide) rfl (fun _ => xE_11 (xs_80 hP)) rfl 11 (by decide) q307 rfl (Or.inl rfl) rfl rfl rfl (by rw [eT_43]; exact fw11_11 _ b T 80 (xi T 80 10)) (by rw [eT_43]; exact fun q hq => xwi_i hq) (by rw [eT_43]; exact fun _ _ => rfl) (by rw [eT_43]; exact xwi_ty hP (by rw [(xs_80 hP)]; decide)) dX4_ringLine_84 (fun H locs hP hS => ?_)
    refine lv_aload_n hx hb dX4_ringLine_87 rfl (lv_at hl 0 rfl) ?_
    obtain ⟨Z_47, Y_48, hz1, hz2, hy1, hy2, h⟩ := h
    refine x_cV (k := 80) (As := []) (rest := []) ⟨hx, hb, hml, hown, hts⟩ (mx4_step l G b hole  K T_43 Z_47 Y_48 hz1 hy1  _ h) (cwV 0 hts (lw_V q494 q496 qs4 q121 q497) rfl rfl rfl cwx_X4_step ⟨Nat.le_of_ble_eq_true rfl, Nat.le_of_ble_eq_true rfl⟩) (x_recv (CC := RX4) (ci := 3) hK hP (xs_80 hP) (by decide) (by decide) rfl (xE_11 (xs_80 hP))) hK hV hb0 hP hS rfl hl.1 rfl (Nat.le_of_ble_eq_true rfl) dX4_ringLine_88 ⟨by first | exact Nat.zero_le _ | (show _ + _ ≤ Z - kc K0; omega), by first | exact Nat.zero_le _ | (show _ + _ ≤ Y - ks K0; omega)⟩ (fun r_44 T1 K1 H locs h hle1 hc1 hs1 hP hS => ?_)
    generalize T1 = T_45 at h hP
    generalize K1 = K_46 at h hP hle1 hc1 hs1
    have hle0 := hle0.tr hle1
    have hcn : kc K0 + (cn + (Z_47 - kc K)) = kc K_46 := by omega
    have hsn : ks K0 + (sn + (Y_48 - ks K)) = ks K_46 := by omega
    have hzz : kc K_46 ≤ Z := by omega
    have hyy : ks K_46 ≤ Y := by omega
    refine lv_aload_n hx hb dX4_ringLine_91 rfl (lv_at hl 0 rfl) ?_
    refine va_ldcS hx hb hown (hV.2.2.2.1.2.1 17 (by decide)) dX4_ringLine_92 ?_
    obtain ⟨Z_52, Y_53, hz1, hz2, hy1, hy2, h⟩ := h
    refine x_cVX (k := 80) (As := [.ref ((gad G).1 17)]) (rest := []) ⟨hx, hb, hml, hown, hts⟩ (mx4_takes l G b hole 17 K_46 T_45 Z_52 Y_53 hz1 hy1 (show 17 < 22 by decide) _ _ h) (cwV 1 hts (lw_V q678 q680 qs13 q121 q681) rfl rfl rfl cwx_X4_takes ⟨Nat.le_of_ble_eq_true rfl, Nat.le_of_ble_eq_true rfl⟩) (x_recv (CC := RX4) (ci := 3) hK hP (xs_80 hP) (by decide) (by decide) rfl (xE_11 (xs_80 hP))) hK hV hb0 hP hS rfl hl.1 rfl (Nat.le_of_ble_eq_true rfl) dX4_ringLine_94 ⟨by first | exact Nat.zero_le _ | (show _ + _ ≤ Z - kc K0; omega), by first | exact Nat.zero_le _ | (show _ + _ ≤ Y - ks K0; omega)⟩ (fun r_49 T1 K1 H locs h hle1 hc1 hs1 hP hS => ?_) (fun T1 K1 H locs h hle1 hc1 hs1 hP hS => ?_)
    rotate_left
    · exact x_out (K0 := K0) (K1 := kset K1 Z Y) (mc := Z - kc K0) (ms := Y - ks K0) (fun x h9 => (ht9 x h9).elim) hlocks hK hP hS (hle0.tr hle1) h (by show Z = _; omega) (by show Y = _; omega) (by omega) (by omega)
    generalize T1 = T_50 at h hP
    generalize K1 = K_51 at h hP hle1 hc1 hs1
    have hle0 := hle0.tr hle1
    have hcn : kc K0 + ((cn + (Z_47 - kc K)) + (Z_52 - kc K_46)) = kc K_51 := by omega
    have hsn : ks K0 + ((sn + (Y_48 - ks K)) + (Y_53 - ks K_46)) = ks K_51 := by omega
    have hzz : kc K_51 ≤ Z := by omega
    have hyy : ks K_51 ≤ Y := by omega
    refine lv_aload_n hx hb dX4_ringLine_97 rfl (lv_at hl 0 rfl) ?_
    refine lv_aload_n hx hb dX4_ringLine_98 rfl (lv_at hl 0 rfl) ?_
    refine va_ldcS hx hb hown (hV.2.2.2.1.2.1 18 (by decide)) dX4_ringLine_99 ?_
    refine x_cV (k := 80) (As := [.ref ((gad G).1 18)]) (rest := [.ref (b + 80)]) ⟨hx, hb, hml, hown, hts⟩ (mx4_is l G b hole 18 K_51 T_50 (show 18 < 22 by decide) _ h) (cwV 1 hts (lw_V q682 q684 qs14 q121 q685) rfl rfl rfl cwx_X4_is ⟨Nat.le_of_ble_eq_true rfl, Nat.le_of_ble_eq_true rfl⟩) (x_recv (CC := RX4) (ci := 3) hK hP (xs_80 hP) (by decide) (by decide) rfl (xE_11 (xs_80 hP))) hK hV hb0 hP hS rfl hl.1 rfl (Nat.le_of_ble_eq_true rfl) dX4_ringLine_101 ⟨by first | exact Nat.zero_le _ | (show _ + _ ≤ Z - kc K0; omega), by first | exact Nat.zero_le _ | (show _ + _ ≤ Y - ks K0; omega)⟩ (fun r_54 T1 K1 H locs h hle1 hc1 hs1 hP hS => ?_)
    obtain ⟨h, hTe, hKe⟩ := h
    rw [hTe, hKe] at hP
    refine lv_if_eq (tgt := 111) hx hb dX4_ringLine_104 (by decide) (fun c_69 => ?_) (fun c_69 => ?_)
    · have h := h.1 c_69
      refine lv_aload_n hx hb dX4_ringLine_111 rfl (lv_at hl 0 rfl) ?_
      refine va_ldcS hx hb hown (hV.2.2.2.1.2.1 19 (by decide)) dX4_ringLine_112 ?_
      refine x_cV (k := 80) (As := [.ref ((gad G).1 19)]) (rest := [.ref (b + 80)]) ⟨hx, hb, hml, hown, hts⟩ (mx4_is l G b hole 19 K_51 T_50 (show 19 < 22 by decide) _ h) (cwV 1 hts (lw_V q682 q684 qs14 q121 q685) rfl rfl rfl cwx_X4_is ⟨Nat.le_of_ble_eq_true rfl, Nat.le_of_ble_eq_true rfl⟩) (x_recv (CC := RX4) (ci := 3) hK hP (xs_80 hP) (by decide) (by decide) rfl (xE_11 (xs_80 hP))) hK hV hb0 hP hS rfl hl.1 rfl (Nat.le_of_ble_eq_true rfl) dX4_ringLine_114 ⟨by first | exact Nat.zero_le _ | (show _ + _ ≤ Z - kc K0; omega), by first | exact Nat.zero_le _ | (show _ + _ ≤ Y - ks K0; omega)⟩ (fun r_57 T1 K1 H locs h hle1 hc1 hs1 hP hS => ?_)
      obtain ⟨h, hTe, hKe⟩ := h
      rw [hTe, hKe] at hP
      refine lv_if_eq (tgt := 124) hx hb dX4_ringLine_117 (by decide) (fun c_67 => ?_) (fun c_67 => ?_)
      · have h := h.1 c_67
        refine lv_aload_n hx hb dX4_ringLine_124 rfl (lv_at hl 0 rfl) ?_
        refine va_ldcS hx hb hown (hV.2.2.2.1.2.1 20 (by decide)) dX4_ringLine_125 ?_
        refine x_cV (k := 80) (As := [.ref ((gad G).1 20)]) (rest := [.ref (b + 80)]) ⟨hx, hb, hml, hown, hts⟩ (mx4_is l G b hole 20 K_51 T_50 (show 20 < 22 by decide) _ h) (cwV 1 hts (lw_V q682 q684 qs14 q121 q685) rfl rfl rfl cwx_X4_is ⟨Nat.le_of_ble_eq_true rfl, Nat.le_of_ble_eq_true rfl⟩) (x_recv (CC := RX4) (ci := 3) hK hP (xs_80 hP) (by decide) (by decide) rfl (xE_11 (xs_80 hP))) hK hV hb0 hP hS rfl hl.1 rfl (Nat.le_of_ble_eq_true rfl) dX4_ringLine_127 ⟨by first | exact Nat.zero_le _ | (show _ + _ ≤ Z - kc K0; omega), by first | exact Nat.zero_le _ | (show _ + _ ≤ Y - ks K0; omega)⟩ (fun r_60 T1 K1 H locs h hle1 hc1 hs1 hP hS => ?_)
        obtain ⟨h, hTe, hKe⟩ := h
        rw [hTe, hKe] at hP
        refine lv_if_eq (tgt := 137) hx hb dX4_ringLine_130 (by decide) (fun c_65 => ?_) (fun c_65 => ?_)
        · have h := h.1 c_65
          refine lv_iconst (v := (-1)) hx hb dX4_ringLine_137 (by decide) ?_
          obtain ⟨T_63, eT_63⟩ : ∃ z : XT, z = xwi T_50 80 12 (-1) := ⟨_, rfl⟩
          have h := h T_63 eT_63
          refine x_put (CC := RX4) (TT := TX4) (N := 17) (ci := 3) (T1 := T_63) (v := .int (-1)) (ty := .int) (fsf := fun T => fs11 (gem G) b T 80) hx hb hts in_X4 tyX4 tyX4_ok nmX4 hown hK hP hS (xs_80 hP) (by decide) (by decide) rfl (fun _ => xE_11 (xs_80 hP)) rfl 12 (by decide) q309 rfl (Or.inl rfl) rfl rfl rfl (by rw [eT_63]; exact fw11_12 _ b T_50 80 (-1)) (by rw [eT_63]; exact fun q hq => xwi_i hq) (by rw [eT_63]; exact fun _ _ => rfl) (by rw [eT_63]; exact xwi_ty hP (by rw [(xs_80 hP)]; decide)) dX4_ringLine_138 (fun H locs hP hS => ?_)
          exact J141 _ _ _ _ _ _ _ h hle0 hcn hsn hzz hyy hP hS (lv_sub hl [0] rfl)
        · have h := h.2 c_65
          refine lv_iconst (v := 2) hx hb dX4_ringLine_133 (by decide) ?_
          refine lv_goto (tgt := 138) hx hb dX4_ringLine_134 (by decide) ?_
          obtain ⟨T_64, eT_64⟩ : ∃ z : XT, z = xwi T_50 80 12 2 := ⟨_, rfl⟩
          have h := h T_64 eT_64
          refine x_put (CC := RX4) (TT := TX4) (N := 17) (ci := 3) (T1 := T_64) (v := .int 2) (ty := .int) (fsf := fun T => fs11 (gem G) b T 80) hx hb hts in_X4 tyX4 tyX4_ok nmX4 hown hK hP hS (xs_80 hP) (by decide) (by decide) rfl (fun _ => xE_11 (xs_80 hP)) rfl 12 (by decide) q309 rfl (Or.inl rfl) rfl rfl rfl (by rw [eT_64]; exact fw11_12 _ b T_50 80 2) (by rw [eT_64]; exact fun q hq => xwi_i hq) (by rw [eT_64]; exact fun _ _ => rfl) (by rw [eT_64]; exact xwi_ty hP (by rw [(xs_80 hP)]; decide)) dX4_ringLine_138 (fun H locs hP hS => ?_)
          exact J141 _ _ _ _ _ _ _ h hle0 hcn hsn hzz hyy hP hS (lv_sub hl [0] rfl)
      · have h := h.2 c_67
        refine lv_iconst (v := 1) hx hb dX4_ringLine_120 (by decide) ?_
        refine lv_goto (tgt := 138) hx hb dX4_ringLine_121 (by decide) ?_
        obtain ⟨T_66, eT_66⟩ : ∃ z : XT, z = xwi T_50 80 12 1 := ⟨_, rfl⟩
        have h := h T_66 eT_66
        refine x_put (CC := RX4) (TT := TX4) (N := 17) (ci := 3) (T1 := T_66) (v := .int 1) (ty := .int) (fsf := fun T => fs11 (gem G) b T 80) hx hb hts in_X4 tyX4 tyX4_ok nmX4 hown hK hP hS (xs_80 hP) (by decide) (by decide) rfl (fun _ => xE_11 (xs_80 hP)) rfl 12 (by decide) q309 rfl (Or.inl rfl) rfl rfl rfl (by rw [eT_66]; exact fw11_12 _ b T_50 80 1) (by rw [eT_66]; exact fun q hq => xwi_i hq) (by rw [eT_66]; exact fun _ _ => rfl) (by rw [eT_66]; exact xwi_ty hP (by rw [(xs_80 hP)]; decide)) dX4_ringLine_138 (fun H locs hP hS => ?_)
        exact J141 _ _ _ _ _ _ _ h hle0 hcn hsn hzz hyy hP hS (lv_sub hl [0] rfl)
    · have h := h.2 c_69
      refine lv_iconst (v := 0) hx hb dX4_ringLine_107 (by decide) ?_
      refine lv_goto (tgt := 138) hx hb dX4_ringLine_108 (by decide) ?_
      obtain ⟨T_68, eT_68⟩ : ∃ z : XT, z = xwi T_50 80 12 0 := ⟨_, rfl⟩
      have h := h T_68 eT_68
      refine x_put (CC := RX4) (TT := TX4) (N := 17) (ci := 3) (T1 := T_68) (v := .int 0) (ty := .int) (fsf := fun T => fs11 (gem G) b T 80) hx hb hts in_X4 tyX4 tyX4_ok nmX4 hown hK hP hS (xs_80 hP) (by decide) (by decide) rfl (fun _ => xE_11 (xs_80 hP)) rfl 12 (by decide) q309 rfl (Or.inl rfl) rfl rfl rfl (by rw [eT_68]; exact fw11_12 _ b T_50 80 0) (by rw [eT_68]; exact fun q hq => xwi_i hq) (by rw [eT_68]; exact fun _ _ => rfl) (by rw [eT_68]; exact xwi_ty hP (by rw [(xs_80 hP)]; decide)) dX4_ringLine_138 (fun H locs hP hS => ?_)
      exact J141 _ _ _ _ _ _ _ h hle0 hcn hsn hzz hyy hP hS (lv_sub hl [0] rfl)
  have J44 : ∀  (T : XT) (K : XK) (cn sn : Nat) (H : Heap) (locs : List Loc) (ls : Array Slot), wx4_ringLine_j44  Z Y post xpost  K T → kle K0 K → kc K0 + cn = kc K → ks K0 + sn = ks K → kc K ≤ Z → ks K ≤ Y → xW G b hole K T H → va_S (xA b hole) s.heap H locs → lv_has ls 4 [(0, .ref (b + 80))] → W p l e (headSpec (ws_ yX4_ringLine cX4_ringLine 4 none) ({ frames := 7, cells := (Z - kc K0), slots := (Y - ks K0), locals := 208 } : Room)).room s m ([.ref (b + 80)] : List Value).toArray below meth c H locs cn sn (vx_MQ below (xQ G b hole K0 (Z - kc K0) (Y - ks K0) (ρ := Unit) eV (fun r T1 K1 => post T1 K1)) (xXC G b hole K0 (Z - kc K0) (Y - ks K0) xpost) ([.ref (b + 80)] : List Value).toArray s (Z - kc K0) (Y - ks K0) (xA b hole)) (F0 m 44 ls []) := by
    intro  T K cn sn H locs ls h hle0 hcn hsn hzz hyy hP hS hl
    unfold wx4_ringLine_j44 at h
    refine lv_aload_n hx hb dX4_ringLine_44 rfl (lv_at hl 0 rfl) ?_
    refine lv_aload_n hx hb dX4_ringLine_45 rfl (lv_at hl 0 rfl) ?_
    refine x_get (CC := RX4) (TT := TX4) (N := 17) (ci := 3) (v := .int (xi T 80 10)) hx hb hts in_X4 hown hK hP (xs_80 hP) (by decide) (by decide) rfl (xE_11 (xs_80 hP)) 10 (by decide) q306 rfl rfl dX4_ringLine_46 ?_
    refine lv_iconst (v := 2) hx hb dX4_ringLine_49 (by decide) ?_
    refine lv_bipush (v := 97) hx hb dX4_ringLine_50 (by decide) ?_
    refine x_cSN (host := "TermDesk") (As := [.int (xi T 80 10), .int 2, .int 97]) (rest := [.ref (b + 80)]) ⟨hx, hb, hml, hown, hts⟩ (mx1_in l G b hole (xi T 80 10) 2 97 K T  _ h) ⟨va_cnB 3 hts (lw_meth q485) rfl rfl rfl (hV.1.2.1 _ _ _ _ q506) (hts _ q118) cwx_X1_in ⟨Nat.le_of_ble_eq_true rfl, Nat.le_of_ble_eq_true rfl⟩, hts _ q484, trivial⟩ hK hV hb0 hP hS rfl hl.1 rfl (Nat.le_of_ble_eq_true rfl) dX4_ringLine_52 ⟨by first | exact Nat.zero_le _ | (show _ + _ ≤ Z - kc K0; omega), by first | exact Nat.zero_le _ | (show _ + _ ≤ Y - ks K0; omega)⟩ (fun r_70 T1 K1 H locs h hle1 hc1 hs1 hP hS => ?_)
    obtain ⟨h, hTe, hKe⟩ := h
    rw [hTe, hKe] at hP
    refine lv_if_eq (tgt := 74) hx hb dX4_ringLine_55 (by decide) (fun c_84 => ?_) (fun c_84 => ?_)
    · have h := h.1 c_84
      refine lv_iconst (v := 0) hx hb dX4_ringLine_74 (by decide) ?_
      refine lv_iconst (v := 2) hx hb dX4_ringLine_75 (by decide) ?_
      refine x_cVX (k := 80) (As := [.int 0, .int 2]) (rest := []) ⟨hx, hb, hml, hown, hts⟩ (mx4_good l G b hole 0 2 K T  _ _ h) (cwV 2 hts (lw_V q673 q675 qs12 q121 q676) rfl rfl rfl cwx_X4_good ⟨Nat.le_of_ble_eq_true rfl, Nat.le_of_ble_eq_true rfl⟩) (x_recv (CC := RX4) (ci := 3) hK hP (xs_80 hP) (by decide) (by decide) rfl (xE_11 (xs_80 hP))) hK hV hb0 hP hS rfl hl.1 rfl (Nat.le_of_ble_eq_true rfl) dX4_ringLine_76 ⟨by first | exact Nat.zero_le _ | (show _ + _ ≤ Z - kc K0; omega), by first | exact Nat.zero_le _ | (show _ + _ ≤ Y - ks K0; omega)⟩ (fun r_73 T1 K1 H locs h hle1 hc1 hs1 hP hS => ?_) (fun T1 K1 H locs h hle1 hc1 hs1 hP hS => ?_)
      rotate_left
      · obtain ⟨h, hKe⟩ := h
        rw [hKe] at hP
        exact x_out (K0 := K0) (K1 := kset K Z Y) (mc := Z - kc K0) (ms := Y - ks K0) (fun x h9 => (ht9 x h9).elim) hlocks hK hP hS hle0 h (by show Z = _; omega) (by show Y = _; omega) (by omega) (by omega)
      obtain ⟨h, hKe⟩ := h
      rw [hKe] at hP
      generalize T1 = T_74 at h hP
      exact J79 _ _ _ _ _ _ _ h hle0 hcn hsn hzz hyy hP hS (lv_sub hl [0] rfl)
    · have h := h.2 c_84
      refine va_getsN hx hb hV.2.2.2.1.2.2.2.2.1 (x_sS hV hS) hown (va_Nw.use rfl (hV.1.1 _ _ _ _ _ _ q686)) (fun _ h9 => h9) dX4_ringLine_58 ?_
      refine lv_aload_n hx hb dX4_ringLine_61 rfl (lv_at hl 0 rfl) ?_
      refine x_get (CC := RX4) (TT := TX4) (N := 17) (ci := 3) (v := .int (xi T 80 10)) hx hb hts in_X4 hown hK hP (xs_80 hP) (by decide) (by decide) rfl (xE_11 (xs_80 hP)) 10 (by decide) q306 rfl rfl dX4_ringLine_62 ?_
      obtain ⟨j_76, hj_76, ej_76, h⟩ := h
      refine va_ti (v := .int (sprime.getD j_76 0)) hx hb hV.2.2.2.1.2.2.2.2.2.1 (x_sS hV hS) (by rw [ej_76]; exact vp_in_nI hj_76 (by decide)) (by rw [ej_76, nI_clamp (by omega)]) dX4_ringLine_65 ?_
      refine lv_iconst (v := 1) hx hb dX4_ringLine_66 (by decide) ?_
      refine lv_icmp_ne (tgt := 74) hx hb dX4_ringLine_67 (by decide) (fun c_83 => ?_) (fun c_83 => ?_)
      · have h := h.1 c_83
        refine lv_iconst (v := 0) hx hb dX4_ringLine_74 (by decide) ?_
        refine lv_iconst (v := 2) hx hb dX4_ringLine_75 (by decide) ?_
        refine x_cVX (k := 80) (As := [.int 0, .int 2]) (rest := []) ⟨hx, hb, hml, hown, hts⟩ (mx4_good l G b hole 0 2 K T  _ _ h) (cwV 2 hts (lw_V q673 q675 qs12 q121 q676) rfl rfl rfl cwx_X4_good ⟨Nat.le_of_ble_eq_true rfl, Nat.le_of_ble_eq_true rfl⟩) (x_recv (CC := RX4) (ci := 3) hK hP (xs_80 hP) (by decide) (by decide) rfl (xE_11 (xs_80 hP))) hK hV hb0 hP hS rfl hl.1 rfl (Nat.le_of_ble_eq_true rfl) dX4_ringLine_76 ⟨by first | exact Nat.zero_le _ | (show _ + _ ≤ Z - kc K0; omega), by first | exact Nat.zero_le _ | (show _ + _ ≤ Y - ks K0; omega)⟩ (fun r_77 T1 K1 H locs h hle1 hc1 hs1 hP hS => ?_) (fun T1 K1 H locs h hle1 hc1 hs1 hP hS => ?_)
        rotate_left
        · obtain ⟨h, hKe⟩ := h
          rw [hKe] at hP
          exact x_out (K0 := K0) (K1 := kset K Z Y) (mc := Z - kc K0) (ms := Y - ks K0) (fun x h9 => (ht9 x h9).elim) hlocks hK hP hS hle0 h (by show Z = _; omega) (by show Y = _; omega) (by omega) (by omega)
        obtain ⟨h, hKe⟩ := h
        rw [hKe] at hP
        generalize T1 = T_78 at h hP
        exact J79 _ _ _ _ _ _ _ h hle0 hcn hsn hzz hyy hP hS (lv_sub hl [0] rfl)
      · have h := h.2 c_83
        refine lv_iconst (v := 1) hx hb dX4_ringLine_70 (by decide) ?_
        refine lv_goto (tgt := 75) hx hb dX4_ringLine_71 (by decide) ?_
        refine lv_iconst (v := 2) hx hb dX4_ringLine_75 (by decide) ?_
        refine x_cVX (k := 80) (As := [.int 1, .int 2]) (rest := []) ⟨hx, hb, hml, hown, hts⟩ (mx4_good l G b hole 1 2 K T  _ _ h) (cwV 2 hts (lw_V q673 q675 qs12 q121 q676) rfl rfl rfl cwx_X4_good ⟨Nat.le_of_ble_eq_true rfl, Nat.le_of_ble_eq_true rfl⟩) (x_recv (CC := RX4) (ci := 3) hK hP (xs_80 hP) (by decide) (by decide) rfl (xE_11 (xs_80 hP))) hK hV hb0 hP hS rfl hl.1 rfl (Nat.le_of_ble_eq_true rfl) dX4_ringLine_76 ⟨by first | exact Nat.zero_le _ | (show _ + _ ≤ Z - kc K0; omega), by first | exact Nat.zero_le _ | (show _ + _ ≤ Y - ks K0; omega)⟩ (fun r_80 T1 K1 H locs h hle1 hc1 hs1 hP hS => ?_) (fun T1 K1 H locs h hle1 hc1 hs1 hP hS => ?_)
        rotate_left
        · obtain ⟨h, hKe⟩ := h
          rw [hKe] at hP
          exact x_out (K0 := K0) (K1 := kset K Z Y) (mc := Z - kc K0) (ms := Y - ks K0) (fun x h9 => (ht9 x h9).elim) hlocks hK hP hS hle0 h (by show Z = _; omega) (by show Y = _; omega) (by omega) (by omega)
        obtain ⟨h, hKe⟩ := h
        rw [hKe] at hP
        generalize T1 = T_81 at h hP
        exact J79 _ _ _ _ _ _ _ h hle0 hcn hsn hzz hyy hP hS (lv_sub hl [0] rfl)
  have J17 : ∀  (T : XT) (K : XK) (cn sn : Nat) (H : Heap) (locs : List Loc) (ls : Array Slot), wx4_ringLine_j17  Z Y post xpost  K T → kle K0 K → kc K0 + cn = kc K → ks K0 + sn = ks K → kc K ≤ Z → ks K ≤ Y → xW G b hole K T H → va_S (xA b hole) s.heap H locs → lv_has ls 4 [(0, .ref (b + 80))] → W p l e (headSpec (ws_ yX4_ringLine cX4_ringLine 4 none) ({ frames := 7, cells := (Z - kc K0), slots := (Y - ks K0), locals := 208 } : Room)).room s m ([.ref (b + 80)] : List Value).toArray below meth c H locs cn sn (vx_MQ below (xQ G b hole K0 (Z - kc K0) (Y - ks K0) (ρ := Unit) eV (fun r T1 K1 => post T1 K1)) (xXC G b hole K0 (Z - kc K0) (Y - ks K0) xpost) ([.ref (b + 80)] : List Value).toArray s (Z - kc K0) (Y - ks K0) (xA b hole)) (F0 m 17 ls []) := by
    intro  T K cn sn H locs ls h hle0 hcn hsn hzz hyy hP hS hl
    unfold wx4_ringLine_j17 at h
    refine lv_aload_n hx hb dX4_ringLine_17 rfl (lv_at hl 0 rfl) ?_
    obtain ⟨Z_88, Y_89, hz1, hz2, hy1, hy2, h⟩ := h
    refine x_cV (k := 80) (As := []) (rest := []) ⟨hx, hb, hml, hown, hts⟩ (mx4_step l G b hole  K T Z_88 Y_89 hz1 hy1  _ h) (cwV 0 hts (lw_V q494 q496 qs4 q121 q497) rfl rfl rfl cwx_X4_step ⟨Nat.le_of_ble_eq_true rfl, Nat.le_of_ble_eq_true rfl⟩) (x_recv (CC := RX4) (ci := 3) hK hP (xs_80 hP) (by decide) (by decide) rfl (xE_11 (xs_80 hP))) hK hV hb0 hP hS rfl hl.1 rfl (Nat.le_of_ble_eq_true rfl) dX4_ringLine_18 ⟨by first | exact Nat.zero_le _ | (show _ + _ ≤ Z - kc K0; omega), by first | exact Nat.zero_le _ | (show _ + _ ≤ Y - ks K0; omega)⟩ (fun r_85 T1 K1 H locs h hle1 hc1 hs1 hP hS => ?_)
    generalize T1 = T_86 at h hP
    generalize K1 = K_87 at h hP hle1 hc1 hs1
    have hle0 := hle0.tr hle1
    have hcn : kc K0 + (cn + (Z_88 - kc K)) = kc K_87 := by omega
    have hsn : ks K0 + (sn + (Y_89 - ks K)) = ks K_87 := by omega
    have hzz : kc K_87 ≤ Z := by omega
    have hyy : ks K_87 ≤ Y := by omega
    refine lv_aload_n hx hb dX4_ringLine_21 rfl (lv_at hl 0 rfl) ?_
    refine va_ldcS hx hb hown (hV.2.2.2.1.2.1 16 (by decide)) dX4_ringLine_22 ?_
    obtain ⟨Z_93, Y_94, hz1, hz2, hy1, hy2, h⟩ := h
    refine x_cVX (k := 80) (As := [.ref ((gad G).1 16)]) (rest := []) ⟨hx, hb, hml, hown, hts⟩ (mx4_takes l G b hole 16 K_87 T_86 Z_93 Y_94 hz1 hy1 (show 16 < 22 by decide) _ _ h) (cwV 1 hts (lw_V q678 q680 qs13 q121 q681) rfl rfl rfl cwx_X4_takes ⟨Nat.le_of_ble_eq_true rfl, Nat.le_of_ble_eq_true rfl⟩) (x_recv (CC := RX4) (ci := 3) hK hP (xs_80 hP) (by decide) (by decide) rfl (xE_11 (xs_80 hP))) hK hV hb0 hP hS rfl hl.1 rfl (Nat.le_of_ble_eq_true rfl) dX4_ringLine_24 ⟨by first | exact Nat.zero_le _ | (show _ + _ ≤ Z - kc K0; omega), by first | exact Nat.zero_le _ | (show _ + _ ≤ Y - ks K0; omega)⟩ (fun r_90 T1 K1 H locs h hle1 hc1 hs1 hP hS => ?_) (fun T1 K1 H locs h hle1 hc1 hs1 hP hS => ?_)
    rotate_left
    · exact x_out (K0 := K0) (K1 := kset K1 Z Y) (mc := Z - kc K0) (ms := Y - ks K0) (fun x h9 => (ht9 x h9).elim) hlocks hK hP hS (hle0.tr hle1) h (by show Z = _; omega) (by show Y = _; omega) (by omega) (by omega)
    generalize T1 = T_91 at h hP
    generalize K1 = K_92 at h hP hle1 hc1 hs1
    have hle0 := hle0.tr hle1
    have hcn : kc K0 + ((cn + (Z_88 - kc K)) + (Z_93 - kc K_87)) = kc K_92 := by omega
    have hsn : ks K0 + ((sn + (Y_89 - ks K)) + (Y_94 - ks K_87)) = ks K_92 := by omega
    have hzz : kc K_92 ≤ Z := by omega
    have hyy : ks K_92 ≤ Y := by omega
    refine lv_aload_n hx hb dX4_ringLine_27 rfl (lv_at hl 0 rfl) ?_
    refine lv_aload_n hx hb dX4_ringLine_28 rfl (lv_at hl 0 rfl) ?_
    refine x_get (CC := RX4) (TT := TX4) (N := 17) (ci := 3) (v := .int (xi T_91 80 8)) hx hb hts in_X4 hown hK hP (xs_80 hP) (by decide) (by decide) rfl (xE_11 (xs_80 hP)) 8 (by decide) q304 rfl rfl dX4_ringLine_29 ?_
    refine lv_iconst (v := 3) hx hb dX4_ringLine_32 (by decide) ?_
    refine lv_icmp_ne (tgt := 40) hx hb dX4_ringLine_33 (by decide) (fun c_101 => ?_) (fun c_101 => ?_)
    · have h := h.1 c_101
      refine lv_iconst (v := 0) hx hb dX4_ringLine_40 (by decide) ?_
      refine x_cVX (k := 80) (As := [.int 0]) (rest := []) ⟨hx, hb, hml, hown, hts⟩ (mx4_must l G b hole 0 K_92 T_91  _ _ h) (cwV 1 hts (lw_V q594 q596 qs9 q121 q597) rfl rfl rfl cwx_X4_must ⟨Nat.le_of_ble_eq_true rfl, Nat.le_of_ble_eq_true rfl⟩) (x_recv (CC := RX4) (ci := 3) hK hP (xs_80 hP) (by decide) (by decide) rfl (xE_11 (xs_80 hP))) hK hV hb0 hP hS rfl hl.1 rfl (Nat.le_of_ble_eq_true rfl) dX4_ringLine_41 ⟨by first | exact Nat.zero_le _ | (show _ + _ ≤ Z - kc K0; omega), by first | exact Nat.zero_le _ | (show _ + _ ≤ Y - ks K0; omega)⟩ (fun r_95 T1 K1 H locs h hle1 hc1 hs1 hP hS => ?_) (fun T1 K1 H locs h hle1 hc1 hs1 hP hS => ?_)
      rotate_left
      · obtain ⟨h, hKe⟩ := h
        rw [hKe] at hP
        exact x_out (K0 := K0) (K1 := kset K_92 Z Y) (mc := Z - kc K0) (ms := Y - ks K0) (fun x h9 => (ht9 x h9).elim) hlocks hK hP hS hle0 h (by show Z = _; omega) (by show Y = _; omega) (by omega) (by omega)
      obtain ⟨h, hKe⟩ := h
      rw [hKe] at hP
      generalize T1 = T_96 at h hP
      exact J44 _ _ _ _ _ _ _ h hle0 hcn hsn hzz hyy hP hS (lv_sub hl [0] rfl)
    · have h := h.2 c_101
      refine lv_iconst (v := 1) hx hb dX4_ringLine_36 (by decide) ?_
      refine lv_goto (tgt := 41) hx hb dX4_ringLine_37 (by decide) ?_
      refine x_cVX (k := 80) (As := [.int 1]) (rest := []) ⟨hx, hb, hml, hown, hts⟩ (mx4_must l G b hole 1 K_92 T_91  _ _ h) (cwV 1 hts (lw_V q594 q596 qs9 q121 q597) rfl rfl rfl cwx_X4_must ⟨Nat.le_of_ble_eq_true rfl, Nat.le_of_ble_eq_true rfl⟩) (x_recv (CC := RX4) (ci := 3) hK hP (xs_80 hP) (by decide) (by decide) rfl (xE_11 (xs_80 hP))) hK hV hb0 hP hS rfl hl.1 rfl (Nat.le_of_ble_eq_true rfl) dX4_ringLine_41 ⟨by first | exact Nat.zero_le _ | (show _ + _ ≤ Z - kc K0; omega), by first | exact Nat.zero_le _ | (show _ + _ ≤ Y - ks K0; omega)⟩ (fun r_98 T1 K1 H locs h hle1 hc1 hs1 hP hS => ?_) (fun T1 K1 H locs h hle1 hc1 hs1 hP hS => ?_)
      rotate_left
      · obtain ⟨h, hKe⟩ := h
        rw [hKe] at hP
        exact x_out (K0 := K0) (K1 := kset K_92 Z Y) (mc := Z - kc K0) (ms := Y - ks K0) (fun x h9 => (ht9 x h9).elim) hlocks hK hP hS hle0 h (by show Z = _; omega) (by show Y = _; omega) (by omega) (by omega)
      obtain ⟨h, hKe⟩ := h
      rw [hKe] at hP
      generalize T1 = T_99 at h hP
      exact J44 _ _ _ _ _ _ _ h hle0 hcn hsn hzz hyy hP hS (lv_sub hl [0] rfl)
  have hcn : kc K0 + 0 = kc K0 := rfl
  have hsn : ks K0 + 0 = ks K0 := rfl
  have hzz := hZ
  have hyy := hY
  unfold wx4_ringLine at h
  refine lv_aload_n hx hb dX4_ringLine_0 rfl (lv_at hl 0 rfl) ?_
  refine lv_aload_n hx hb dX4_ringLine_1 rfl (lv_at hl 0 rfl) ?_
  refine x_get (CC := RX4) (TT := TX4) (N := 17) (ci := 3) (v := .int (xi T 80 15)) hx hb hts in_X4 hown hK hP (xs_80 hP) (by decide) (by decide) rfl (xE_11 (xs_80 hP)) 15 (by decide) q314 rfl rfl dX4_ringLine_2 ?_
  refine lv_if_ne (tgt := 12) hx hb dX4_ringLine_5 (by decide) (fun c_108 => ?_) (fun c_108 => ?_)
  · have h := h.1 c_108
    refine lv_iconst (v := 0) hx hb dX4_ringLine_12 (by decide) ?_
    refine lv_iconst (v := 3) hx hb dX4_ringLine_13 (by decide) ?_
    refine x_cVX (k := 80) (As := [.int 0, .int 3]) (rest := []) ⟨hx, hb, hml, hown, hts⟩ (mx4_good l G b hole 0 3 K0 T  _ _ h) (cwV 2 hts (lw_V q673 q675 qs12 q121 q676) rfl rfl rfl cwx_X4_good ⟨Nat.le_of_ble_eq_true rfl, Nat.le_of_ble_eq_true rfl⟩) (x_recv (CC := RX4) (ci := 3) hK hP (xs_80 hP) (by decide) (by decide) rfl (xE_11 (xs_80 hP))) hK hV hb0 hP hS rfl hl.1 rfl (Nat.le_of_ble_eq_true rfl) dX4_ringLine_14 ⟨by first | exact Nat.zero_le _ | (show _ + _ ≤ Z - kc K0; omega), by first | exact Nat.zero_le _ | (show _ + _ ≤ Y - ks K0; omega)⟩ (fun r_102 T1 K1 H locs h hle1 hc1 hs1 hP hS => ?_) (fun T1 K1 H locs h hle1 hc1 hs1 hP hS => ?_)
    rotate_left
    · obtain ⟨h, hKe⟩ := h
      rw [hKe] at hP
      exact x_out (K0 := K0) (K1 := kset K0 Z Y) (mc := Z - kc K0) (ms := Y - ks K0) (fun x h9 => (ht9 x h9).elim) hlocks hK hP hS hle0 h (by show Z = _; omega) (by show Y = _; omega) (by omega) (by omega)
    obtain ⟨h, hKe⟩ := h
    rw [hKe] at hP
    generalize T1 = T_103 at h hP
    exact J17 _ _ _ _ _ _ _ h hle0 hcn hsn hzz hyy hP hS (lv_sub hl [0] rfl)
  · have h := h.2 c_108
    refine lv_iconst (v := 1) hx hb dX4_ringLine_8 (by decide) ?_
    refine lv_goto (tgt := 13) hx hb dX4_ringLine_9 (by decide) ?_
    refine lv_iconst (v := 3) hx hb dX4_ringLine_13 (by decide) ?_
    refine x_cVX (k := 80) (As := [.int 1, .int 3]) (rest := []) ⟨hx, hb, hml, hown, hts⟩ (mx4_good l G b hole 1 3 K0 T  _ _ h) (cwV 2 hts (lw_V q673 q675 qs12 q121 q676) rfl rfl rfl cwx_X4_good ⟨Nat.le_of_ble_eq_true rfl, Nat.le_of_ble_eq_true rfl⟩) (x_recv (CC := RX4) (ci := 3) hK hP (xs_80 hP) (by decide) (by decide) rfl (xE_11 (xs_80 hP))) hK hV hb0 hP hS rfl hl.1 rfl (Nat.le_of_ble_eq_true rfl) dX4_ringLine_14 ⟨by first | exact Nat.zero_le _ | (show _ + _ ≤ Z - kc K0; omega), by first | exact Nat.zero_le _ | (show _ + _ ≤ Y - ks K0; omega)⟩ (fun r_105 T1 K1 H locs h hle1 hc1 hs1 hP hS => ?_) (fun T1 K1 H locs h hle1 hc1 hs1 hP hS => ?_)
    rotate_left
    · obtain ⟨h, hKe⟩ := h
      rw [hKe] at hP
      exact x_out (K0 := K0) (K1 := kset K0 Z Y) (mc := Z - kc K0) (ms := Y - ks K0) (fun x h9 => (ht9 x h9).elim) hlocks hK hP hS hle0 h (by show Z = _; omega) (by show Y = _; omega) (by omega) (by omega)
    obtain ⟨h, hKe⟩ := h
    rw [hKe] at hP
    generalize T1 = T_106 at h hP
    exact J17 _ _ _ _ _ _ _ h hle0 hcn hsn hzz hyy hP hS (lv_sub hl [0] rfl)
theorem cwx_X4_termHere : yX4_termHere.cls = RX4 ∧ yX4_termHere.cls ≠ "java/lang/invoke/MethodHandle" ∧ yX4_termHere.cls ≠ "java/lang/invoke/VarHandle" ∧ (parseMethodDescriptor yX4_termHere.desc).map (fun d => d.parameters.length) = some 1 := by decide +kernel
def wx4_termHere_j194 (p1 : Int32) (Z Y : Nat) (post : XT → XK → Prop) (xpost : XT → XK → Prop)  (K : XK) (T : XT) : Prop :=
    ∃ j_1 : Nat, j_1 < 6 ∧ (xi T 80 13) = nI j_1 ∧
    ∃ j_2 : Nat, j_2 < 6 ∧ (xi T 80 13) = nI j_2 ∧ ∀ T_3 : XT, T_3 = xwi T 85 j_2 ((xi T 85 j_1) + 1) →
    post T_3 (kset K Z Y)
def wx4_termHere_j149 (p1 : Int32) (Z Y : Nat) (post : XT → XK → Prop) (xpost : XT → XK → Prop) (R74 : Int32 → Int32 → Int32 → XT → XK → Prop) (x2 : Int32) (x3 : Int32) (x4 : Int32) (x5 : Int32) (x6 : Int32) (x7 : Int32) (K : XK) (T : XT) : Prop :=
        ∀ x5_4 : Int32, x5_4 = (x5 ||| (jshl x7 (4 * x6))) →
        wx4_unknown  K T (fun r_5 =>
        R74 x4 x5_4 r_5 T K)
def wx4_termHere_j100 (p1 : Int32) (Z Y : Nat) (post : XT → XK → Prop) (xpost : XT → XK → Prop) (R74 : Int32 → Int32 → Int32 → XT → XK → Prop) (x2 : Int32) (x3 : Int32) (x4 : Int32) (x5 : Int32) (x6 : Int32) (K : XK) (T : XT) : Prop :=
        ∀ x4_8 : Int32, x4_8 = (x4 ||| (jshl 1 x6)) →
        ∃ Z_12 Y_13 : Nat, kc K ≤ Z_12 ∧ Z_12 ≤ Z ∧ ks K ≤ Y_13 ∧ Y_13 ≤ Y ∧ wx4_step  K T Z_12 Y_13 (fun T_10 K_11 =>
        ((¬ (xi T_10 80 8) = 3 →
          wx4_termHere_j149 p1 Z Y post xpost R74 x2 x3 x4_8 x5 x6 1 K_11 T_10) ∧
         ((xi T_10 80 8) = 3 →
          wx1_in (xi T_10 80 10) 1 15 K_11 T_10 (fun r_14 =>
          wx4_good r_14 4 K_11 T_10 (fun T_18 =>
          ∃ Z_23 Y_24 : Nat, kc K_11 ≤ Z_23 ∧ Z_23 ≤ Z ∧ ks K_11 ≤ Y_24 ∧ Y_24 ≤ Y ∧ wx4_step  K_11 T_18 Z_23 Y_24 (fun T_21 K_22 =>
          wx4_termHere_j149 p1 Z Y post xpost R74 x2 x3 x4_8 x5 x6 (xi T_18 80 10) K_22 T_21)) (fun T9 => xpost T9 (kset K_11 Z Y))))))
def wx4_termHere_b74 (p1 : Int32) (Z Y : Nat) (post : XT → XK → Prop) (xpost : XT → XK → Prop) (R74 : Int32 → Int32 → Int32 → XT → XK → Prop) (x2 : Int32) (x3 : Int32) (x4 : Int32) (x5 : Int32) (x6 : Int32) (K : XK) (T : XT) : Prop :=
      ((x6 = (-1) →
        ∃ j_26 : Nat, j_26 < 72 ∧ x2 = nI j_26 ∧ ∀ T_27 : XT, T_27 = xwi T 83 j_26 x5 →
        ((p1 = 0 →
          ∃ j_28 : Nat, j_28 < 72 ∧ x2 = nI j_28 ∧ ∀ T_29 : XT, T_29 = xwi T_27 84 j_28 x3 →
          wx4_termHere_j194 p1 Z Y post xpost  K T_29) ∧
         (¬ (p1 = 0) →
          ∃ j_30 : Nat, j_30 < 72 ∧ x2 = nI j_30 ∧ ∀ T_31 : XT, T_31 = xwi T_27 84 j_30 (-x3) →
          wx4_termHere_j194 p1 Z Y post xpost  K T_31))) ∧
       (¬ (x6 = (-1)) →
        ((¬ ((jshr x4 x6) &&& 1) = 0 →
          wx4_good 0 3 K T (fun T_34 =>
          wx4_termHere_j100 p1 Z Y post xpost R74 x2 x3 x4 x5 x6 K T_34) (fun T9 => xpost T9 (kset K Z Y))) ∧
         (((jshr x4 x6) &&& 1) = 0 →
          wx4_good 1 3 K T (fun T_37 =>
          wx4_termHere_j100 p1 Z Y post xpost R74 x2 x3 x4 x5 x6 K T_37) (fun T9 => xpost T9 (kset K Z Y))))))
def wx4_termHere_l74 (p1 : Int32) (Z Y : Nat) (post : XT → XK → Prop) (xpost : XT → XK → Prop) (x2 : Int32) (x3 : Int32) (x4 : Int32) (x5 : Int32) (x6 : Int32) (K : XK) (T : XT) : Prop := wLoop (fun (R : ((Int32) × (Int32) × (Int32) × (XT) × (XK)) → Prop) (v : (Int32) × (Int32) × (Int32) × (XT) × (XK)) => wx4_termHere_b74 p1 Z Y post xpost (fun x4 x5 x6 T K => R (x4, x5, x6, T, K)) x2 x3 v.1 v.2.1 v.2.2.1 v.2.2.2.2 v.2.2.2.1) (x4, x5, x6, T, K)
def wx4_termHere_j62 (p1 : Int32) (Z Y : Nat) (post : XT → XK → Prop) (xpost : XT → XK → Prop) (x2 : Int32) (x3 : Int32) (K : XK) (T : XT) : Prop :=
    wx4_unknown  K T (fun r_41 =>
    wx4_termHere_l74 p1 Z Y post xpost x2 x3 0 0 r_41 K T)
def wx4_termHere_j45 (p1 : Int32) (Z Y : Nat) (post : XT → XK → Prop) (xpost : XT → XK → Prop) (x2 : Int32) (x3 : Int32) (K : XK) (T : XT) : Prop :=
    ((¬ (xi T 80 8) = 3 →
      wx4_termHere_j62 p1 Z Y post xpost x2 x3 K T) ∧
     ((xi T 80 8) = 3 →
      ∃ Z_47 Y_48 : Nat, kc K ≤ Z_47 ∧ Z_47 ≤ Z ∧ ks K ≤ Y_48 ∧ Y_48 ≤ Y ∧ wx4_step  K T Z_47 Y_48 (fun T_45 K_46 =>
      wx4_termHere_j62 p1 Z Y post xpost x2 (xi T 80 10) K_46 T_45)))
def wx4_termHere (p1 : Int32) (K0 : XK) (T : XT) (Z Y : Nat) (post : XT → XK → Prop) (xpost : XT → XK → Prop) : Prop :=
  ∃ j_50 : Nat, j_50 < 6 ∧ (xi T 80 13) = nI j_50 ∧
  ∀ x2_51 : Int32, x2_51 = ((12 * (xi T 80 13)) + (xi T 85 j_50)) →
  (((xi T 80 8) = 3 →
    wx4_must 1 K0 T (fun T_53 =>
    wx4_termHere_j45 p1 Z Y post xpost x2_51 1 K0 T_53) (fun T9 => xpost T9 (kset K0 Z Y))) ∧
   (¬ ((xi T 80 8) = 3) →
    wx4_unknown  K0 T (fun r_55 =>
    ((r_55 = (-1) →
      wx4_must 0 K0 T (fun T_59 =>
      wx4_termHere_j45 p1 Z Y post xpost x2_51 1 K0 T_59) (fun T9 => xpost T9 (kset K0 Z Y))) ∧
     (¬ (r_55 = (-1)) →
      wx4_must 1 K0 T (fun T_62 =>
      wx4_termHere_j45 p1 Z Y post xpost x2_51 1 K0 T_62) (fun T9 => xpost T9 (kset K0 Z Y)))))))
set_option maxHeartbeats 4000000 in
theorem mx4_termHere (l : Launch) (G : XG) (b : Nat) (hole : Nat → Prop) (p1 : Int32) (K0 : XK) (T : XT) (Z Y : Nat) (hZ : kc K0 ≤ Z) (hY : ks K0 ≤ Y)  (post : XT → XK → Prop) (xpost : XT → XK → Prop) (h : wx4_termHere p1 K0 T Z Y post xpost) : vx_Met l yX4_termHere (ws_ yX4_termHere cX4_termHere 8 none) ({ frames := 6, cells := (Z - kc K0), slots := (Y - ks K0), locals := 187 } : Room) (xPc G b hole [.ref (b + 80), .int p1] K0 T) (xQ G b hole K0 (Z - kc K0) (Y - ks K0) (ρ := Unit) eV (fun r T1 K1 => post T1 K1)) (xXC G b hole K0 (Z - kc K0) (Y - ks K0) xpost) (Z - kc K0) (Y - ks K0) (xA b hole) := by
  refine vx_ofW (cc := cX4_termHere) (maxL := 8) (ret := none) (by decide) rfl ?_
  intro p e s m args below meth c s₁ B hml ht9 hv
  obtain ⟨rfl, hP, hK, hV⟩ := hv
  have hx := B.exec
  have hb := B.bytes
  have hr := B.returns
  have hts := atoms_spec (ws := ws_ yX4_termHere cX4_termHere 8 none) B.pre
  have hts : ∀ w ∈ lw_all, w.before _ s = true := fun w h => hts w (List.mem_cons_of_mem _ h)
  have hown : s.vm.findClass RX4 = some m.cls := findClass_of_methodNamed B.named
  have hlocks := B.notSynchronized
  have hb0 : b ≤ s.heap.size := by rw [hP.2.2.2]; exact Nat.le_add_right _ _
  have hS : va_S (xA b hole) s.heap s.heap [] := va_S.rf
  have hl := lv_entry ([.ref (b + 80), .int p1]) (n := 8) (Nat.le_of_ble_eq_true rfl)
  rw [lg_entry_eq]
  generalize (lg_sl ([.ref (b + 80), .int p1]) ++ List.replicate (8 - (lg_sl ([.ref (b + 80), .int p1])).length) Slot.unset).toArray = ls at hl ⊢
  have hl : lv_has ls 8 [(0, .ref (b + 80)), (1, .int p1)] := hl
  have hle0 : kle K0 K0 := kle.rf
  have J194 : ∀  (T : XT) (K : XK) (cn sn : Nat) (H : Heap) (locs : List Loc) (ls : Array Slot), wx4_termHere_j194 p1 Z Y post xpost  K T → kle K0 K → kc K0 + cn = kc K → ks K0 + sn = ks K → kc K ≤ Z → ks K ≤ Y → xW G b hole K T H → va_S (xA b hole) s.heap H locs → lv_has ls 8 [(0, .ref (b + 80))] → W p l e (headSpec (ws_ yX4_termHere cX4_termHere 8 none) ({ frames := 6, cells := (Z - kc K0), slots := (Y - ks K0), locals := 187 } : Room)).room s m ([.ref (b + 80), .int p1] : List Value).toArray below meth c H locs cn sn (vx_MQ below (xQ G b hole K0 (Z - kc K0) (Y - ks K0) (ρ := Unit) eV (fun r T1 K1 => post T1 K1)) (xXC G b hole K0 (Z - kc K0) (Y - ks K0) xpost) ([.ref (b + 80), .int p1] : List Value).toArray s (Z - kc K0) (Y - ks K0) (xA b hole)) (F0 m 194 ls []) := by
    intro  T K cn sn H locs ls h hle0 hcn hsn hzz hyy hP hS hl
    unfold wx4_termHere_j194 at h
    refine lv_aload_n hx hb dX4_termHere_194 rfl (lv_at hl 0 rfl) ?_
    refine x_get (CC := RX4) (TT := TX4) (N := 17) (ci := 3) (v := .ref (b + 85)) hx hb hts in_X4 hown hK hP (xs_80 hP) (by decide) (by decide) rfl (xE_11 (xs_80 hP)) 4 (by decide) q299 rfl rfl dX4_termHere_195 ?_
    refine lv_aload_n hx hb dX4_termHere_198 rfl (lv_at hl 0 rfl) ?_
    refine x_get (CC := RX4) (TT := TX4) (N := 17) (ci := 3) (v := .int (xi T 80 13)) hx hb hts in_X4 hown hK hP (xs_80 hP) (by decide) (by decide) rfl (xE_11 (xs_80 hP)) 13 (by decide) q311 rfl rfl dX4_termHere_199 ?_
    refine lv_dup2_11 hx hb dX4_termHere_202 rfl rfl ?_
    obtain ⟨j_1, hj_1, ej_1, h⟩ := h
    refine x_iald hx hb hK hP (xs_85 hP) ej_1 (by rw [xl_85 hP]; exact hj_1) dX4_termHere_203 ?_
    refine lv_iconst (v := 1) hx hb dX4_termHere_204 (by decide) ?_
    refine lv_iadd hx hb dX4_termHere_205 ?_
    obtain ⟨j_2, hj_2, ej_2, h⟩ := h
    obtain ⟨T_3, eT_3⟩ : ∃ z : XT, z = xwi T 85 j_2 ((xi T 85 j_1) + 1) := ⟨_, rfl⟩
    have h := h T_3 eT_3
    refine x_iast hx hb hK hP hS (xs_85 hP) ej_2 (by rw [xl_85 hP]; exact hj_2) dX4_termHere_206 (fun H locs hP hS => ?_)
    rw [← eT_3] at hP
    refine vx_ret ?_
    refine W.widen (k := Z - kc K0) (n := Y - ks K0) (by omega) (by omega) ?_
    exact W.vret hx hb hr (fun t ht hW => ⟨⟨(), T_3, (kset K Z Y), rfl, h, hle0, (by show Z = _; omega), (by show Y = _; omega), by rw [ht]; exact hP, va_K.moved hW.alike hK⟩, hS.F ht⟩) hS.2.2 dX4_termHere_207
  have L74 : ∀ (x2 : Int32) (x3 : Int32) (x4 : Int32) (x5 : Int32) (x6 : Int32) (T : XT) (K : XK) (cn sn : Nat) (H : Heap) (locs : List Loc) (ls : Array Slot), wx4_termHere_l74 p1 Z Y post xpost x2 x3 x4 x5 x6 K T → kle K0 K → kc K0 + cn = kc K → ks K0 + sn = ks K → kc K ≤ Z → ks K ≤ Y → xW G b hole K T H → va_S (xA b hole) s.heap H locs → lv_has ls 8 [(0, .ref (b + 80)), (1, .int p1), (2, .int x2), (3, .int x3), (4, .int x4), (5, .int x5), (6, .int x6)] → W p l e (headSpec (ws_ yX4_termHere cX4_termHere 8 none) ({ frames := 6, cells := (Z - kc K0), slots := (Y - ks K0), locals := 187 } : Room)).room s m ([.ref (b + 80), .int p1] : List Value).toArray below meth c H locs cn sn (vx_MQ below (xQ G b hole K0 (Z - kc K0) (Y - ks K0) (ρ := Unit) eV (fun r T1 K1 => post T1 K1)) (xXC G b hole K0 (Z - kc K0) (Y - ks K0) xpost) ([.ref (b + 80), .int p1] : List Value).toArray s (Z - kc K0) (Y - ks K0) (xA b hole)) (F0 m 74 ls []) := by
    intro x2 x3 x4 x5 x6 T K cn sn H locs ls h hle0 hcn hsn hzz hyy hP hS hl
    obtain ⟨I74, n74, hI, hstep74⟩ := h
    induction n74 using Nat.strongRecOn generalizing x4 x5 x6 T K cn sn H locs ls with
    | ind n74 ih74 =>
      have h : wx4_termHere_b74 p1 Z Y post xpost (fun x4 x5 x6 T K => ∃ mm, mm < n74 ∧ I74 mm (x4, x5, x6, T, K)) x2 x3 x4 x5 x6 K T := hstep74 n74 _ hI
      clear hI
      have J149 : ∀ (x4 : Int32) (x5 : Int32) (x6 : Int32) (x7 : Int32) (T : XT) (K : XK) (cn sn : Nat) (H : Heap) (locs : List Loc) (ls : Array Slot), wx4_termHere_j149 p1 Z Y post xpost (fun x4 x5 x6 T K => ∃ mm, mm < n74 ∧ I74 mm (x4, x5, x6, T, K)) x2 x3 x4 x5 x6 x7 K T → kle K0 K → kc K0 + cn = kc K → ks K0 + sn = ks K → kc K ≤ Z → ks K ≤ Y → xW G b hole K T H → va_S (xA b hole) s.heap H locs → lv_has ls 8 [(0, .ref (b + 80)), (1, .int p1), (2, .int x2), (3, .int x3), (4, .int x4), (5, .int x5), (6, .int x6), (7, .int x7)] → W p l e (headSpec (ws_ yX4_termHere cX4_termHere 8 none) ({ frames := 6, cells := (Z - kc K0), slots := (Y - ks K0), locals := 187 } : Room)).room s m ([.ref (b + 80), .int p1] : List Value).toArray below meth c H locs cn sn (vx_MQ below (xQ G b hole K0 (Z - kc K0) (Y - ks K0) (ρ := Unit) eV (fun r T1 K1 => post T1 K1)) (xXC G b hole K0 (Z - kc K0) (Y - ks K0) xpost) ([.ref (b + 80), .int p1] : List Value).toArray s (Z - kc K0) (Y - ks K0) (xA b hole)) (F0 m 149 ls []) := by
        intro x4 x5 x6 x7 T K cn sn H locs ls h hle0 hcn hsn hzz hyy hP hS hl
        unfold wx4_termHere_j149 at h
        refine lv_iload hx hb dX4_termHere_149 (lv_at hl 5 rfl) ?_
        refine lv_iload hx hb dX4_termHere_151 (lv_at hl 7 rfl) ?_
        refine lv_iconst (v := 4) hx hb dX4_termHere_153 (by decide) ?_
        refine lv_iload hx hb dX4_termHere_154 (lv_at hl 6 rfl) ?_
        refine lv_imul hx hb dX4_termHere_156 ?_
        refine m_ishl hx hb dX4_termHere_157 ?_
        refine lv_ior hx hb dX4_termHere_158 ?_
        refine lv_topi (fun x5_4 ex5_4 => ?_)
        have h := h x5_4 ex5_4
        refine lv_istore (lv' := [(5, .int x5_4), (0, .ref (b + 80)), (1, .int p1), (2, .int x2), (3, .int x3), (4, .int x4), (6, .int x6), (7, .int x7)]) hx hb dX4_termHere_159 hl (by decide) rfl (fun ls hl => ?_)
        refine lv_aload_n hx hb dX4_termHere_161 rfl (lv_at hl 1 rfl) ?_
        refine x_cV (k := 80) (As := []) (rest := []) ⟨hx, hb, hml, hown, hts⟩ (mx4_unknown l G b hole  K T  _ h) (cwV 0 hts (lw_V q692 q694 qs15 q121 q695) rfl rfl rfl cwx_X4_unknown ⟨Nat.le_of_ble_eq_true rfl, Nat.le_of_ble_eq_true rfl⟩) (x_recv (CC := RX4) (ci := 3) hK hP (xs_80 hP) (by decide) (by decide) rfl (xE_11 (xs_80 hP))) hK hV hb0 hP hS rfl hl.1 rfl (Nat.le_of_ble_eq_true rfl) dX4_termHere_162 ⟨by first | exact Nat.zero_le _ | (show _ + _ ≤ Z - kc K0; omega), by first | exact Nat.zero_le _ | (show _ + _ ≤ Y - ks K0; omega)⟩ (fun r_5 T1 K1 H locs h hle1 hc1 hs1 hP hS => ?_)
        obtain ⟨h, hTe, hKe⟩ := h
        rw [hTe, hKe] at hP
        refine lv_istore (lv' := [(6, .int r_5), (5, .int x5_4), (0, .ref (b + 80)), (1, .int p1), (2, .int x2), (3, .int x3), (4, .int x4), (7, .int x7)]) hx hb dX4_termHere_165 hl (by decide) rfl (fun ls hl => ?_)
        refine lv_goto (tgt := 74) hx hb dX4_termHere_167 (by decide) ?_
        obtain ⟨mm, hmm, h⟩ := h
        exact ih74 mm hmm _ _ _ _ _ _ _ _ _ _ hle0 hcn hsn hzz hyy hP hS (lv_sub hl [2, 3, 4, 5, 6, 1, 0] rfl) h
      have J100 : ∀ (x4 : Int32) (x5 : Int32) (x6 : Int32) (T : XT) (K : XK) (cn sn : Nat) (H : Heap) (locs : List Loc) (ls : Array Slot), wx4_termHere_j100 p1 Z Y post xpost (fun x4 x5 x6 T K => ∃ mm, mm < n74 ∧ I74 mm (x4, x5, x6, T, K)) x2 x3 x4 x5 x6 K T → kle K0 K → kc K0 + cn = kc K → ks K0 + sn = ks K → kc K ≤ Z → ks K ≤ Y → xW G b hole K T H → va_S (xA b hole) s.heap H locs → lv_has ls 8 [(0, .ref (b + 80)), (1, .int p1), (2, .int x2), (3, .int x3), (4, .int x4), (5, .int x5), (6, .int x6)] → W p l e (headSpec (ws_ yX4_termHere cX4_termHere 8 none) ({ frames := 6, cells := (Z - kc K0), slots := (Y - ks K0), locals := 187 } : Room)).room s m ([.ref (b + 80), .int p1] : List Value).toArray below meth c H locs cn sn (vx_MQ below (xQ G b hole K0 (Z - kc K0) (Y - ks K0) (ρ := Unit) eV (fun r T1 K1 => post T1 K1)) (xXC G b hole K0 (Z - kc K0) (Y - ks K0) xpost) ([.ref (b + 80), .int p1] : List Value).toArray s (Z - kc K0) (Y - ks K0) (xA b hole)) (F0 m 100 ls []) := by
        intro x4 x5 x6 T K cn sn H locs ls h hle0 hcn hsn hzz hyy hP hS hl
        unfold wx4_termHere_j100 at h
        refine lv_iload hx hb dX4_termHere_100 (lv_at hl 4 rfl) ?_
        refine lv_iconst (v := 1) hx hb dX4_termHere_102 (by decide) ?_
        refine lv_iload hx hb dX4_termHere_103 (lv_at hl 6 rfl) ?_
        refine m_ishl hx hb dX4_termHere_105 ?_
        refine lv_ior hx hb dX4_termHere_106 ?_
        refine lv_topi (fun x4_8 ex4_8 => ?_)
        have h := h x4_8 ex4_8
        refine lv_istore (lv' := [(4, .int x4_8), (0, .ref (b + 80)), (1, .int p1), (2, .int x2), (3, .int x3), (5, .int x5), (6, .int x6)]) hx hb dX4_termHere_107 hl (by decide) rfl (fun ls hl => ?_)
        refine lv_aload_n hx hb dX4_termHere_109 rfl (lv_at hl 1 rfl) ?_
        obtain ⟨Z_12, Y_13, hz1, hz2, hy1, hy2, h⟩ := h
        refine x_cV (k := 80) (As := []) (rest := []) ⟨hx, hb, hml, hown, hts⟩ (mx4_step l G b hole  K T Z_12 Y_13 hz1 hy1  _ h) (cwV 0 hts (lw_V q494 q496 qs4 q121 q497) rfl rfl rfl cwx_X4_step ⟨Nat.le_of_ble_eq_true rfl, Nat.le_of_ble_eq_true rfl⟩) (x_recv (CC := RX4) (ci := 3) hK hP (xs_80 hP) (by decide) (by decide) rfl (xE_11 (xs_80 hP))) hK hV hb0 hP hS rfl hl.1 rfl (Nat.le_of_ble_eq_true rfl) dX4_termHere_110 ⟨by first | exact Nat.zero_le _ | (show _ + _ ≤ Z - kc K0; omega), by first | exact Nat.zero_le _ | (show _ + _ ≤ Y - ks K0; omega)⟩ (fun r_9 T1 K1 H locs h hle1 hc1 hs1 hP hS => ?_)
        generalize T1 = T_10 at h hP
        generalize K1 = K_11 at h hP hle1 hc1 hs1
        have hle0 := hle0.tr hle1
        have hcn : kc K0 + (cn + (Z_12 - kc K)) = kc K_11 := by omega
        have hsn : ks K0 + (sn + (Y_13 - ks K)) = ks K_11 := by omega
        have hzz : kc K_11 ≤ Z := by omega
        have hyy : ks K_11 ≤ Y := by omega
        refine lv_iconst (v := 1) hx hb dX4_termHere_113 (by decide) ?_
        refine lv_istore (lv' := [(7, .int 1), (4, .int x4_8), (0, .ref (b + 80)), (1, .int p1), (2, .int x2), (3, .int x3), (5, .int x5), (6, .int x6)]) hx hb dX4_termHere_114 hl (by decide) rfl (fun ls hl => ?_)
        refine lv_aload_n hx hb dX4_termHere_116 rfl (lv_at hl 2 rfl) ?_
        refine x_get (CC := RX4) (TT := TX4) (N := 17) (ci := 3) (v := .int (xi T_10 80 8)) hx hb hts in_X4 hown hK hP (xs_80 hP) (by decide) (by decide) rfl (xE_11 (xs_80 hP)) 8 (by decide) q304 rfl rfl dX4_termHere_117 ?_
        refine lv_iconst (v := 3) hx hb dX4_termHere_120 (by decide) ?_
        refine lv_icmp_ne (tgt := 149) hx hb dX4_termHere_121 (by decide) (fun c_25 => ?_) (fun c_25 => ?_)
        · have h := h.1 c_25
          exact J149 _ _ _ _ _ _ _ _ _ _ _ h hle0 hcn hsn hzz hyy hP hS (lv_sub hl [2, 3, 4, 5, 1, 6, 7, 0] rfl)
        · have h := h.2 c_25
          refine lv_aload_n hx hb dX4_termHere_124 rfl (lv_at hl 2 rfl) ?_
          refine lv_aload_n hx hb dX4_termHere_125 rfl (lv_at hl 2 rfl) ?_
          refine x_get (CC := RX4) (TT := TX4) (N := 17) (ci := 3) (v := .int (xi T_10 80 10)) hx hb hts in_X4 hown hK hP (xs_80 hP) (by decide) (by decide) rfl (xE_11 (xs_80 hP)) 10 (by decide) q306 rfl rfl dX4_termHere_126 ?_
          refine lv_iconst (v := 1) hx hb dX4_termHere_129 (by decide) ?_
          refine lv_bipush (v := 15) hx hb dX4_termHere_130 (by decide) ?_
          refine x_cSN (host := "TermDesk") (As := [.int (xi T_10 80 10), .int 1, .int 15]) (rest := [.ref (b + 80)]) ⟨hx, hb, hml, hown, hts⟩ (mx1_in l G b hole (xi T_10 80 10) 1 15 K_11 T_10  _ h) ⟨va_cnB 3 hts (lw_meth q485) rfl rfl rfl (hV.1.2.1 _ _ _ _ q506) (hts _ q118) cwx_X1_in ⟨Nat.le_of_ble_eq_true rfl, Nat.le_of_ble_eq_true rfl⟩, hts _ q484, trivial⟩ hK hV hb0 hP hS rfl hl.1 rfl (Nat.le_of_ble_eq_true rfl) dX4_termHere_132 ⟨by first | exact Nat.zero_le _ | (show _ + _ ≤ Z - kc K0; omega), by first | exact Nat.zero_le _ | (show _ + _ ≤ Y - ks K0; omega)⟩ (fun r_14 T1 K1 H locs h hle1 hc1 hs1 hP hS => ?_)
          obtain ⟨h, hTe, hKe⟩ := h
          rw [hTe, hKe] at hP
          refine lv_iconst (v := 4) hx hb dX4_termHere_135 (by decide) ?_
          refine x_cVX (k := 80) (As := [.int r_14, .int 4]) (rest := []) ⟨hx, hb, hml, hown, hts⟩ (mx4_good l G b hole r_14 4 K_11 T_10  _ _ h) (cwV 2 hts (lw_V q673 q675 qs12 q121 q676) rfl rfl rfl cwx_X4_good ⟨Nat.le_of_ble_eq_true rfl, Nat.le_of_ble_eq_true rfl⟩) (x_recv (CC := RX4) (ci := 3) hK hP (xs_80 hP) (by decide) (by decide) rfl (xE_11 (xs_80 hP))) hK hV hb0 hP hS rfl hl.1 rfl (Nat.le_of_ble_eq_true rfl) dX4_termHere_136 ⟨by first | exact Nat.zero_le _ | (show _ + _ ≤ Z - kc K0; omega), by first | exact Nat.zero_le _ | (show _ + _ ≤ Y - ks K0; omega)⟩ (fun r_17 T1 K1 H locs h hle1 hc1 hs1 hP hS => ?_) (fun T1 K1 H locs h hle1 hc1 hs1 hP hS => ?_)
          rotate_left
          · obtain ⟨h, hKe⟩ := h
            rw [hKe] at hP
            exact x_out (K0 := K0) (K1 := kset K_11 Z Y) (mc := Z - kc K0) (ms := Y - ks K0) (fun x h9 => (ht9 x h9).elim) hlocks hK hP hS hle0 h (by show Z = _; omega) (by show Y = _; omega) (by omega) (by omega)
          obtain ⟨h, hKe⟩ := h
          rw [hKe] at hP
          generalize T1 = T_18 at h hP
          refine lv_aload_n hx hb dX4_termHere_139 rfl (lv_at hl 2 rfl) ?_
          refine x_get (CC := RX4) (TT := TX4) (N := 17) (ci := 3) (v := .int (xi T_18 80 10)) hx hb hts in_X4 hown hK hP (xs_80 hP) (by decide) (by decide) rfl (xE_11 (xs_80 hP)) 10 (by decide) q306 rfl rfl dX4_termHere_140 ?_
          refine lv_istore (lv' := [(7, .int (xi T_18 80 10)), (4, .int x4_8), (0, .ref (b + 80)), (1, .int p1), (2, .int x2), (3, .int x3), (5, .int x5), (6, .int x6)]) hx hb dX4_termHere_143 hl (by decide) rfl (fun ls hl => ?_)
          refine lv_aload_n hx hb dX4_termHere_145 rfl (lv_at hl 2 rfl) ?_
          obtain ⟨Z_23, Y_24, hz1, hz2, hy1, hy2, h⟩ := h
          refine x_cV (k := 80) (As := []) (rest := []) ⟨hx, hb, hml, hown, hts⟩ (mx4_step l G b hole  K_11 T_18 Z_23 Y_24 hz1 hy1  _ h) (cwV 0 hts (lw_V q494 q496 qs4 q121 q497) rfl rfl rfl cwx_X4_step ⟨Nat.le_of_ble_eq_true rfl, Nat.le_of_ble_eq_true rfl⟩) (x_recv (CC := RX4) (ci := 3) hK hP (xs_80 hP) (by decide) (by decide) rfl (xE_11 (xs_80 hP))) hK hV hb0 hP hS rfl hl.1 rfl (Nat.le_of_ble_eq_true rfl) dX4_termHere_146 ⟨by first | exact Nat.zero_le _ | (show _ + _ ≤ Z - kc K0; omega), by first | exact Nat.zero_le _ | (show _ + _ ≤ Y - ks K0; omega)⟩ (fun r_20 T1 K1 H locs h hle1 hc1 hs1 hP hS => ?_)
          generalize T1 = T_21 at h hP
          generalize K1 = K_22 at h hP hle1 hc1 hs1
          have hle0 := hle0.tr hle1
          have hcn : kc K0 + ((cn + (Z_12 - kc K)) + (Z_23 - kc K_11)) = kc K_22 := by omega
          have hsn : ks K0 + ((sn + (Y_13 - ks K)) + (Y_24 - ks K_11)) = ks K_22 := by omega
          have hzz : kc K_22 ≤ Z := by omega
          have hyy : ks K_22 ≤ Y := by omega
          exact J149 _ _ _ _ _ _ _ _ _ _ _ h hle0 hcn hsn hzz hyy hP hS (lv_sub hl [2, 3, 4, 5, 1, 6, 7, 0] rfl)
      unfold wx4_termHere_b74 at h
      refine lv_iload hx hb dX4_termHere_74 (lv_at hl 6 rfl) ?_
      refine lv_iconst (v := (-1)) hx hb dX4_termHere_76 (by decide) ?_
      refine lv_icmp_eq (tgt := 170) hx hb dX4_termHere_77 (by decide) (fun c_40 => ?_) (fun c_40 => ?_)
      · have h := h.1 c_40
        refine lv_aload_n hx hb dX4_termHere_170 rfl (lv_at hl 0 rfl) ?_
        refine x_get (CC := RX4) (TT := TX4) (N := 17) (ci := 3) (v := .ref (b + 83)) hx hb hts in_X4 hown hK hP (xs_80 hP) (by decide) (by decide) rfl (xE_11 (xs_80 hP)) 2 (by decide) q297 rfl rfl dX4_termHere_171 ?_
        refine lv_iload_n hx hb dX4_termHere_174 rfl (lv_at hl 2 rfl) ?_
        refine lv_iload hx hb dX4_termHere_175 (lv_at hl 5 rfl) ?_
        obtain ⟨j_26, hj_26, ej_26, h⟩ := h
        obtain ⟨T_27, eT_27⟩ : ∃ z : XT, z = xwi T 83 j_26 x5 := ⟨_, rfl⟩
        have h := h T_27 eT_27
        refine x_iast hx hb hK hP hS (xs_83 hP) ej_26 (by rw [xl_83 hP]; exact hj_26) dX4_termHere_177 (fun H locs hP hS => ?_)
        rw [← eT_27] at hP
        refine lv_aload_n hx hb dX4_termHere_178 rfl (lv_at hl 0 rfl) ?_
        refine x_get (CC := RX4) (TT := TX4) (N := 17) (ci := 3) (v := .ref (b + 84)) hx hb hts in_X4 hown hK hP (xs_80 hP) (by decide) (by decide) rfl (xE_11 (xs_80 hP)) 3 (by decide) q298 rfl rfl dX4_termHere_179 ?_
        refine lv_iload_n hx hb dX4_termHere_182 rfl (lv_at hl 2 rfl) ?_
        refine lv_iload_n hx hb dX4_termHere_183 rfl (lv_at hl 1 rfl) ?_
        refine lv_if_eq (tgt := 192) hx hb dX4_termHere_184 (by decide) (fun c_32 => ?_) (fun c_32 => ?_)
        · have h := h.1 c_32
          refine lv_iload_n hx hb dX4_termHere_192 rfl (lv_at hl 3 rfl) ?_
          obtain ⟨j_28, hj_28, ej_28, h⟩ := h
          obtain ⟨T_29, eT_29⟩ : ∃ z : XT, z = xwi T_27 84 j_28 x3 := ⟨_, rfl⟩
          have h := h T_29 eT_29
          refine x_iast hx hb hK hP hS (xs_84 hP) ej_28 (by rw [xl_84 hP]; exact hj_28) dX4_termHere_193 (fun H locs hP hS => ?_)
          rw [← eT_29] at hP
          exact J194 _ _ _ _ _ _ _ h hle0 hcn hsn hzz hyy hP hS (lv_sub hl [0] rfl)
        · have h := h.2 c_32
          refine lv_iload_n hx hb dX4_termHere_187 rfl (lv_at hl 3 rfl) ?_
          refine lv_ineg hx hb dX4_termHere_188 ?_
          refine lv_goto (tgt := 193) hx hb dX4_termHere_189 (by decide) ?_
          obtain ⟨j_30, hj_30, ej_30, h⟩ := h
          obtain ⟨T_31, eT_31⟩ : ∃ z : XT, z = xwi T_27 84 j_30 (-x3) := ⟨_, rfl⟩
          have h := h T_31 eT_31
          refine x_iast hx hb hK hP hS (xs_84 hP) ej_30 (by rw [xl_84 hP]; exact hj_30) dX4_termHere_193 (fun H locs hP hS => ?_)
          rw [← eT_31] at hP
          exact J194 _ _ _ _ _ _ _ h hle0 hcn hsn hzz hyy hP hS (lv_sub hl [0] rfl)
      · have h := h.2 c_40
        refine lv_aload_n hx hb dX4_termHere_80 rfl (lv_at hl 0 rfl) ?_
        refine lv_iload hx hb dX4_termHere_81 (lv_at hl 4 rfl) ?_
        refine lv_iload hx hb dX4_termHere_83 (lv_at hl 6 rfl) ?_
        refine m_ishr hx hb dX4_termHere_85 ?_
        refine lv_iconst (v := 1) hx hb dX4_termHere_86 (by decide) ?_
        refine lv_iand hx hb dX4_termHere_87 ?_
        refine lv_if_ne (tgt := 95) hx hb dX4_termHere_88 (by decide) (fun c_39 => ?_) (fun c_39 => ?_)
        · have h := h.1 c_39
          refine lv_iconst (v := 0) hx hb dX4_termHere_95 (by decide) ?_
          refine lv_iconst (v := 3) hx hb dX4_termHere_96 (by decide) ?_
          refine x_cVX (k := 80) (As := [.int 0, .int 3]) (rest := []) ⟨hx, hb, hml, hown, hts⟩ (mx4_good l G b hole 0 3 K T  _ _ h) (cwV 2 hts (lw_V q673 q675 qs12 q121 q676) rfl rfl rfl cwx_X4_good ⟨Nat.le_of_ble_eq_true rfl, Nat.le_of_ble_eq_true rfl⟩) (x_recv (CC := RX4) (ci := 3) hK hP (xs_80 hP) (by decide) (by decide) rfl (xE_11 (xs_80 hP))) hK hV hb0 hP hS rfl hl.1 rfl (Nat.le_of_ble_eq_true rfl) dX4_termHere_97 ⟨by first | exact Nat.zero_le _ | (show _ + _ ≤ Z - kc K0; omega), by first | exact Nat.zero_le _ | (show _ + _ ≤ Y - ks K0; omega)⟩ (fun r_33 T1 K1 H locs h hle1 hc1 hs1 hP hS => ?_) (fun T1 K1 H locs h hle1 hc1 hs1 hP hS => ?_)
          rotate_left
          · obtain ⟨h, hKe⟩ := h
            rw [hKe] at hP
            exact x_out (K0 := K0) (K1 := kset K Z Y) (mc := Z - kc K0) (ms := Y - ks K0) (fun x h9 => (ht9 x h9).elim) hlocks hK hP hS hle0 h (by show Z = _; omega) (by show Y = _; omega) (by omega) (by omega)
          obtain ⟨h, hKe⟩ := h
          rw [hKe] at hP
          generalize T1 = T_34 at h hP
          exact J100 _ _ _ _ _ _ _ _ _ _ h hle0 hcn hsn hzz hyy hP hS (lv_sub hl [0, 1, 2, 3, 4, 5, 6] rfl)
        · have h := h.2 c_39
          refine lv_iconst (v := 1) hx hb dX4_termHere_91 (by decide) ?_
          refine lv_goto (tgt := 96) hx hb dX4_termHere_92 (by decide) ?_
          refine lv_iconst (v := 3) hx hb dX4_termHere_96 (by decide) ?_
          refine x_cVX (k := 80) (As := [.int 1, .int 3]) (rest := []) ⟨hx, hb, hml, hown, hts⟩ (mx4_good l G b hole 1 3 K T  _ _ h) (cwV 2 hts (lw_V q673 q675 qs12 q121 q676) rfl rfl rfl cwx_X4_good ⟨Nat.le_of_ble_eq_true rfl, Nat.le_of_ble_eq_true rfl⟩) (x_recv (CC := RX4) (ci := 3) hK hP (xs_80 hP) (by decide) (by decide) rfl (xE_11 (xs_80 hP))) hK hV hb0 hP hS rfl hl.1 rfl (Nat.le_of_ble_eq_true rfl) dX4_termHere_97 ⟨by first | exact Nat.zero_le _ | (show _ + _ ≤ Z - kc K0; omega), by first | exact Nat.zero_le _ | (show _ + _ ≤ Y - ks K0; omega)⟩ (fun r_36 T1 K1 H locs h hle1 hc1 hs1 hP hS => ?_) (fun T1 K1 H locs h hle1 hc1 hs1 hP hS => ?_)
          rotate_left
          · obtain ⟨h, hKe⟩ := h
            rw [hKe] at hP
            exact x_out (K0 := K0) (K1 := kset K Z Y) (mc := Z - kc K0) (ms := Y - ks K0) (fun x h9 => (ht9 x h9).elim) hlocks hK hP hS hle0 h (by show Z = _; omega) (by show Y = _; omega) (by omega) (by omega)
          obtain ⟨h, hKe⟩ := h
          rw [hKe] at hP
          generalize T1 = T_37 at h hP
          exact J100 _ _ _ _ _ _ _ _ _ _ h hle0 hcn hsn hzz hyy hP hS (lv_sub hl [0, 1, 2, 3, 4, 5, 6] rfl)
  have J62 : ∀ (x2 : Int32) (x3 : Int32) (T : XT) (K : XK) (cn sn : Nat) (H : Heap) (locs : List Loc) (ls : Array Slot), wx4_termHere_j62 p1 Z Y post xpost x2 x3 K T → kle K0 K → kc K0 + cn = kc K → ks K0 + sn = ks K → kc K ≤ Z → ks K ≤ Y → xW G b hole K T H → va_S (xA b hole) s.heap H locs → lv_has ls 8 [(0, .ref (b + 80)), (1, .int p1), (2, .int x2), (3, .int x3)] → W p l e (headSpec (ws_ yX4_termHere cX4_termHere 8 none) ({ frames := 6, cells := (Z - kc K0), slots := (Y - ks K0), locals := 187 } : Room)).room s m ([.ref (b + 80), .int p1] : List Value).toArray below meth c H locs cn sn (vx_MQ below (xQ G b hole K0 (Z - kc K0) (Y - ks K0) (ρ := Unit) eV (fun r T1 K1 => post T1 K1)) (xXC G b hole K0 (Z - kc K0) (Y - ks K0) xpost) ([.ref (b + 80), .int p1] : List Value).toArray s (Z - kc K0) (Y - ks K0) (xA b hole)) (F0 m 62 ls []) := by
    intro x2 x3 T K cn sn H locs ls h hle0 hcn hsn hzz hyy hP hS hl
    unfold wx4_termHere_j62 at h
    refine lv_iconst (v := 0) hx hb dX4_termHere_62 (by decide) ?_
    refine lv_istore (lv' := [(4, .int 0), (0, .ref (b + 80)), (1, .int p1), (2, .int x2), (3, .int x3)]) hx hb dX4_termHere_63 hl (by decide) rfl (fun ls hl => ?_)
    refine lv_iconst (v := 0) hx hb dX4_termHere_65 (by decide) ?_
    refine lv_istore (lv' := [(5, .int 0), (4, .int 0), (0, .ref (b + 80)), (1, .int p1), (2, .int x2), (3, .int x3)]) hx hb dX4_termHere_66 hl (by decide) rfl (fun ls hl => ?_)
    refine lv_aload_n hx hb dX4_termHere_68 rfl (lv_at hl 2 rfl) ?_
    refine x_cV (k := 80) (As := []) (rest := []) ⟨hx, hb, hml, hown, hts⟩ (mx4_unknown l G b hole  K T  _ h) (cwV 0 hts (lw_V q692 q694 qs15 q121 q695) rfl rfl rfl cwx_X4_unknown ⟨Nat.le_of_ble_eq_true rfl, Nat.le_of_ble_eq_true rfl⟩) (x_recv (CC := RX4) (ci := 3) hK hP (xs_80 hP) (by decide) (by decide) rfl (xE_11 (xs_80 hP))) hK hV hb0 hP hS rfl hl.1 rfl (Nat.le_of_ble_eq_true rfl) dX4_termHere_69 ⟨by first | exact Nat.zero_le _ | (show _ + _ ≤ Z - kc K0; omega), by first | exact Nat.zero_le _ | (show _ + _ ≤ Y - ks K0; omega)⟩ (fun r_41 T1 K1 H locs h hle1 hc1 hs1 hP hS => ?_)
    obtain ⟨h, hTe, hKe⟩ := h
    rw [hTe, hKe] at hP
    refine lv_istore (lv' := [(6, .int r_41), (5, .int 0), (4, .int 0), (0, .ref (b + 80)), (1, .int p1), (2, .int x2), (3, .int x3)]) hx hb dX4_termHere_72 hl (by decide) rfl (fun ls hl => ?_)
    exact L74 _ _ _ _ _ _ _ _ _ _ _ _ h hle0 hcn hsn hzz hyy hP hS (lv_sub hl [3, 4, 5, 6, 2, 1, 0] rfl)
  have J45 : ∀ (x2 : Int32) (x3 : Int32) (T : XT) (K : XK) (cn sn : Nat) (H : Heap) (locs : List Loc) (ls : Array Slot), wx4_termHere_j45 p1 Z Y post xpost x2 x3 K T → kle K0 K → kc K0 + cn = kc K → ks K0 + sn = ks K → kc K ≤ Z → ks K ≤ Y → xW G b hole K T H → va_S (xA b hole) s.heap H locs → lv_has ls 8 [(0, .ref (b + 80)), (1, .int p1), (2, .int x2), (3, .int x3)] → W p l e (headSpec (ws_ yX4_termHere cX4_termHere 8 none) ({ frames := 6, cells := (Z - kc K0), slots := (Y - ks K0), locals := 187 } : Room)).room s m ([.ref (b + 80), .int p1] : List Value).toArray below meth c H locs cn sn (vx_MQ below (xQ G b hole K0 (Z - kc K0) (Y - ks K0) (ρ := Unit) eV (fun r T1 K1 => post T1 K1)) (xXC G b hole K0 (Z - kc K0) (Y - ks K0) xpost) ([.ref (b + 80), .int p1] : List Value).toArray s (Z - kc K0) (Y - ks K0) (xA b hole)) (F0 m 45 ls []) := by
    intro x2 x3 T K cn sn H locs ls h hle0 hcn hsn hzz hyy hP hS hl
    unfold wx4_termHere_j45 at h
    refine lv_aload_n hx hb dX4_termHere_45 rfl (lv_at hl 0 rfl) ?_
    refine x_get (CC := RX4) (TT := TX4) (N := 17) (ci := 3) (v := .int (xi T 80 8)) hx hb hts in_X4 hown hK hP (xs_80 hP) (by decide) (by decide) rfl (xE_11 (xs_80 hP)) 8 (by decide) q304 rfl rfl dX4_termHere_46 ?_
    refine lv_iconst (v := 3) hx hb dX4_termHere_49 (by decide) ?_
    refine lv_icmp_ne (tgt := 62) hx hb dX4_termHere_50 (by decide) (fun c_49 => ?_) (fun c_49 => ?_)
    · have h := h.1 c_49
      exact J62 _ _ _ _ _ _ _ _ _ h hle0 hcn hsn hzz hyy hP hS (lv_sub hl [0, 1, 2, 3] rfl)
    · have h := h.2 c_49
      refine lv_aload_n hx hb dX4_termHere_53 rfl (lv_at hl 0 rfl) ?_
      refine x_get (CC := RX4) (TT := TX4) (N := 17) (ci := 3) (v := .int (xi T 80 10)) hx hb hts in_X4 hown hK hP (xs_80 hP) (by decide) (by decide) rfl (xE_11 (xs_80 hP)) 10 (by decide) q306 rfl rfl dX4_termHere_54 ?_
      refine lv_istore_n (lv' := [(3, .int (xi T 80 10)), (0, .ref (b + 80)), (1, .int p1), (2, .int x2)]) hx hb dX4_termHere_57 rfl hl (by decide) rfl (fun ls hl => ?_)
      refine lv_aload_n hx hb dX4_termHere_58 rfl (lv_at hl 1 rfl) ?_
      obtain ⟨Z_47, Y_48, hz1, hz2, hy1, hy2, h⟩ := h
      refine x_cV (k := 80) (As := []) (rest := []) ⟨hx, hb, hml, hown, hts⟩ (mx4_step l G b hole  K T Z_47 Y_48 hz1 hy1  _ h) (cwV 0 hts (lw_V q494 q496 qs4 q121 q497) rfl rfl rfl cwx_X4_step ⟨Nat.le_of_ble_eq_true rfl, Nat.le_of_ble_eq_true rfl⟩) (x_recv (CC := RX4) (ci := 3) hK hP (xs_80 hP) (by decide) (by decide) rfl (xE_11 (xs_80 hP))) hK hV hb0 hP hS rfl hl.1 rfl (Nat.le_of_ble_eq_true rfl) dX4_termHere_59 ⟨by first | exact Nat.zero_le _ | (show _ + _ ≤ Z - kc K0; omega), by first | exact Nat.zero_le _ | (show _ + _ ≤ Y - ks K0; omega)⟩ (fun r_44 T1 K1 H locs h hle1 hc1 hs1 hP hS => ?_)
      generalize T1 = T_45 at h hP
      generalize K1 = K_46 at h hP hle1 hc1 hs1
      have hle0 := hle0.tr hle1
      have hcn : kc K0 + (cn + (Z_47 - kc K)) = kc K_46 := by omega
      have hsn : ks K0 + (sn + (Y_48 - ks K)) = ks K_46 := by omega
      have hzz : kc K_46 ≤ Z := by omega
      have hyy : ks K_46 ≤ Y := by omega
      exact J62 _ _ _ _ _ _ _ _ _ h hle0 hcn hsn hzz hyy hP hS (lv_sub hl [1, 2, 3, 0] rfl)
  have hcn : kc K0 + 0 = kc K0 := rfl
  have hsn : ks K0 + 0 = ks K0 := rfl
  have hzz := hZ
  have hyy := hY
  unfold wx4_termHere at h
  refine lv_bipush (v := 12) hx hb dX4_termHere_0 (by decide) ?_
  refine lv_aload_n hx hb dX4_termHere_2 rfl (lv_at hl 0 rfl) ?_
  refine x_get (CC := RX4) (TT := TX4) (N := 17) (ci := 3) (v := .int (xi T 80 13)) hx hb hts in_X4 hown hK hP (xs_80 hP) (by decide) (by decide) rfl (xE_11 (xs_80 hP)) 13 (by decide) q311 rfl rfl dX4_termHere_3 ?_
  refine lv_imul hx hb dX4_termHere_6 ?_
  refine lv_aload_n hx hb dX4_termHere_7 rfl (lv_at hl 0 rfl) ?_
  refine x_get (CC := RX4) (TT := TX4) (N := 17) (ci := 3) (v := .ref (b + 85)) hx hb hts in_X4 hown hK hP (xs_80 hP) (by decide) (by decide) rfl (xE_11 (xs_80 hP)) 4 (by decide) q299 rfl rfl dX4_termHere_8 ?_
  refine lv_aload_n hx hb dX4_termHere_11 rfl (lv_at hl 0 rfl) ?_
  refine x_get (CC := RX4) (TT := TX4) (N := 17) (ci := 3) (v := .int (xi T 80 13)) hx hb hts in_X4 hown hK hP (xs_80 hP) (by decide) (by decide) rfl (xE_11 (xs_80 hP)) 13 (by decide) q311 rfl rfl dX4_termHere_12 ?_
  obtain ⟨j_50, hj_50, ej_50, h⟩ := h
  refine x_iald hx hb hK hP (xs_85 hP) ej_50 (by rw [xl_85 hP]; exact hj_50) dX4_termHere_15 ?_
  refine lv_iadd hx hb dX4_termHere_16 ?_
  refine lv_topi (fun x2_51 ex2_51 => ?_)
  have h := h x2_51 ex2_51
  refine lv_istore_n (lv' := [(2, .int x2_51), (0, .ref (b + 80)), (1, .int p1)]) hx hb dX4_termHere_17 rfl hl (by decide) rfl (fun ls hl => ?_)
  refine lv_iconst (v := 1) hx hb dX4_termHere_18 (by decide) ?_
  refine lv_istore_n (lv' := [(3, .int 1), (2, .int x2_51), (0, .ref (b + 80)), (1, .int p1)]) hx hb dX4_termHere_19 rfl hl (by decide) rfl (fun ls hl => ?_)
  refine lv_aload_n hx hb dX4_termHere_20 rfl (lv_at hl 2 rfl) ?_
  refine lv_aload_n hx hb dX4_termHere_21 rfl (lv_at hl 2 rfl) ?_
  refine x_get (CC := RX4) (TT := TX4) (N := 17) (ci := 3) (v := .int (xi T 80 8)) hx hb hts in_X4 hown hK hP (xs_80 hP) (by decide) (by decide) rfl (xE_11 (xs_80 hP)) 8 (by decide) q304 rfl rfl dX4_termHere_22 ?_
  refine lv_iconst (v := 3) hx hb dX4_termHere_25 (by decide) ?_
  refine lv_icmp_eq (tgt := 37) hx hb dX4_termHere_26 (by decide) (fun c_65 => ?_) (fun c_65 => ?_)
  · have h := h.1 c_65
    refine lv_iconst (v := 1) hx hb dX4_termHere_37 (by decide) ?_
    refine lv_goto (tgt := 42) hx hb dX4_termHere_38 (by decide) ?_
    refine x_cVX (k := 80) (As := [.int 1]) (rest := []) ⟨hx, hb, hml, hown, hts⟩ (mx4_must l G b hole 1 K0 T  _ _ h) (cwV 1 hts (lw_V q594 q596 qs9 q121 q597) rfl rfl rfl cwx_X4_must ⟨Nat.le_of_ble_eq_true rfl, Nat.le_of_ble_eq_true rfl⟩) (x_recv (CC := RX4) (ci := 3) hK hP (xs_80 hP) (by decide) (by decide) rfl (xE_11 (xs_80 hP))) hK hV hb0 hP hS rfl hl.1 rfl (Nat.le_of_ble_eq_true rfl) dX4_termHere_42 ⟨by first | exact Nat.zero_le _ | (show _ + _ ≤ Z - kc K0; omega), by first | exact Nat.zero_le _ | (show _ + _ ≤ Y - ks K0; omega)⟩ (fun r_52 T1 K1 H locs h hle1 hc1 hs1 hP hS => ?_) (fun T1 K1 H locs h hle1 hc1 hs1 hP hS => ?_)
    rotate_left
    · obtain ⟨h, hKe⟩ := h
      rw [hKe] at hP
      exact x_out (K0 := K0) (K1 := kset K0 Z Y) (mc := Z - kc K0) (ms := Y - ks K0) (fun x h9 => (ht9 x h9).elim) hlocks hK hP hS hle0 h (by show Z = _; omega) (by show Y = _; omega) (by omega) (by omega)
    obtain ⟨h, hKe⟩ := h
    rw [hKe] at hP
    generalize T1 = T_53 at h hP
    exact J45 _ _ _ _ _ _ _ _ _ h hle0 hcn hsn hzz hyy hP hS (lv_sub hl [2, 3, 1, 0] rfl)
  · have h := h.2 c_65
    refine lv_aload_n hx hb dX4_termHere_29 rfl (lv_at hl 2 rfl) ?_
    refine x_cV (k := 80) (As := []) (rest := [.ref (b + 80)]) ⟨hx, hb, hml, hown, hts⟩ (mx4_unknown l G b hole  K0 T  _ h) (cwV 0 hts (lw_V q692 q694 qs15 q121 q695) rfl rfl rfl cwx_X4_unknown ⟨Nat.le_of_ble_eq_true rfl, Nat.le_of_ble_eq_true rfl⟩) (x_recv (CC := RX4) (ci := 3) hK hP (xs_80 hP) (by decide) (by decide) rfl (xE_11 (xs_80 hP))) hK hV hb0 hP hS rfl hl.1 rfl (Nat.le_of_ble_eq_true rfl) dX4_termHere_30 ⟨by first | exact Nat.zero_le _ | (show _ + _ ≤ Z - kc K0; omega), by first | exact Nat.zero_le _ | (show _ + _ ≤ Y - ks K0; omega)⟩ (fun r_55 T1 K1 H locs h hle1 hc1 hs1 hP hS => ?_)
    obtain ⟨h, hTe, hKe⟩ := h
    rw [hTe, hKe] at hP
    refine lv_iconst (v := (-1)) hx hb dX4_termHere_33 (by decide) ?_
    refine lv_icmp_eq (tgt := 41) hx hb dX4_termHere_34 (by decide) (fun c_64 => ?_) (fun c_64 => ?_)
    · have h := h.1 c_64
      refine lv_iconst (v := 0) hx hb dX4_termHere_41 (by decide) ?_
      refine x_cVX (k := 80) (As := [.int 0]) (rest := []) ⟨hx, hb, hml, hown, hts⟩ (mx4_must l G b hole 0 K0 T  _ _ h) (cwV 1 hts (lw_V q594 q596 qs9 q121 q597) rfl rfl rfl cwx_X4_must ⟨Nat.le_of_ble_eq_true rfl, Nat.le_of_ble_eq_true rfl⟩) (x_recv (CC := RX4) (ci := 3) hK hP (xs_80 hP) (by decide) (by decide) rfl (xE_11 (xs_80 hP))) hK hV hb0 hP hS rfl hl.1 rfl (Nat.le_of_ble_eq_true rfl) dX4_termHere_42 ⟨by first | exact Nat.zero_le _ | (show _ + _ ≤ Z - kc K0; omega), by first | exact Nat.zero_le _ | (show _ + _ ≤ Y - ks K0; omega)⟩ (fun r_58 T1 K1 H locs h hle1 hc1 hs1 hP hS => ?_) (fun T1 K1 H locs h hle1 hc1 hs1 hP hS => ?_)
      rotate_left
      · obtain ⟨h, hKe⟩ := h
        rw [hKe] at hP
        exact x_out (K0 := K0) (K1 := kset K0 Z Y) (mc := Z - kc K0) (ms := Y - ks K0) (fun x h9 => (ht9 x h9).elim) hlocks hK hP hS hle0 h (by show Z = _; omega) (by show Y = _; omega) (by omega) (by omega)
      obtain ⟨h, hKe⟩ := h
      rw [hKe] at hP
      generalize T1 = T_59 at h hP
      exact J45 _ _ _ _ _ _ _ _ _ h hle0 hcn hsn hzz hyy hP hS (lv_sub hl [2, 3, 1, 0] rfl)
    · have h := h.2 c_64
      refine lv_iconst (v := 1) hx hb dX4_termHere_37 (by decide) ?_
      refine lv_goto (tgt := 42) hx hb dX4_termHere_38 (by decide) ?_
      refine x_cVX (k := 80) (As := [.int 1]) (rest := []) ⟨hx, hb, hml, hown, hts⟩ (mx4_must l G b hole 1 K0 T  _ _ h) (cwV 1 hts (lw_V q594 q596 qs9 q121 q597) rfl rfl rfl cwx_X4_must ⟨Nat.le_of_ble_eq_true rfl, Nat.le_of_ble_eq_true rfl⟩) (x_recv (CC := RX4) (ci := 3) hK hP (xs_80 hP) (by decide) (by decide) rfl (xE_11 (xs_80 hP))) hK hV hb0 hP hS rfl hl.1 rfl (Nat.le_of_ble_eq_true rfl) dX4_termHere_42 ⟨by first | exact Nat.zero_le _ | (show _ + _ ≤ Z - kc K0; omega), by first | exact Nat.zero_le _ | (show _ + _ ≤ Y - ks K0; omega)⟩ (fun r_61 T1 K1 H locs h hle1 hc1 hs1 hP hS => ?_) (fun T1 K1 H locs h hle1 hc1 hs1 hP hS => ?_)
      rotate_left
      · obtain ⟨h, hKe⟩ := h
        rw [hKe] at hP
        exact x_out (K0 := K0) (K1 := kset K0 Z Y) (mc := Z - kc K0) (ms := Y - ks K0) (fun x h9 => (ht9 x h9).elim) hlocks hK hP hS hle0 h (by show Z = _; omega) (by show Y = _; omega) (by omega) (by omega)
      obtain ⟨h, hKe⟩ := h
      rw [hKe] at hP
      generalize T1 = T_62 at h hP
      exact J45 _ _ _ _ _ _ _ _ _ h hle0 hcn hsn hzz hyy hP hS (lv_sub hl [2, 3, 1, 0] rfl)
theorem cwx_X4_polyLine : yX4_polyLine.cls = RX4 ∧ yX4_polyLine.cls ≠ "java/lang/invoke/MethodHandle" ∧ yX4_polyLine.cls ≠ "java/lang/invoke/VarHandle" ∧ (parseMethodDescriptor yX4_polyLine.desc).map (fun d => d.parameters.length) = some 0 := by decide +kernel
def wx4_polyLine_j128  (Z Y : Nat) (post : XT → XK → Prop) (xpost : XT → XK → Prop) (R71 : XT → XK → Prop) (x1 : Int32) (K : XK) (T : XT) : Prop :=
        ∃ Z_4 Y_5 : Nat, kc K ≤ Z_4 ∧ Z_4 ≤ Z ∧ ks K ≤ Y_5 ∧ Y_5 ≤ Y ∧ wx4_step  K T Z_4 Y_5 (fun T_2 K_3 =>
        ∃ Z_9 Y_10 : Nat, kc K_3 ≤ Z_9 ∧ Z_9 ≤ Z ∧ ks K_3 ≤ Y_10 ∧ Y_10 ≤ Y ∧ wx4_termHere x1 K_3 T_2 Z_9 Y_10 (fun T_7 K_8 =>
        R71 T_7 K_8) (fun T9 K9 => xpost T9 (kset K9 Z Y)))
def wx4_polyLine_j113  (Z Y : Nat) (post : XT → XK → Prop) (xpost : XT → XK → Prop) (R71 : XT → XK → Prop)  (K : XK) (T : XT) : Prop :=
        ((¬ (xi T 80 8) = 45 →
          wx4_polyLine_j128  Z Y post xpost R71 0 K T) ∧
         ((xi T 80 8) = 45 →
          wx4_polyLine_j128  Z Y post xpost R71 1 K T))
def wx4_polyLine_j89  (Z Y : Nat) (post : XT → XK → Prop) (xpost : XT → XK → Prop) (R71 : XT → XK → Prop)  (K : XK) (T : XT) : Prop :=
        ∃ j_12 : Nat, j_12 < 6 ∧ (xi T 80 13) = nI j_12 ∧
        ((12 ≤ (xi T 85 j_12) →
          wx4_good 0 5 K T (fun T_14 =>
          wx4_polyLine_j113  Z Y post xpost R71  K T_14) (fun T9 => xpost T9 (kset K Z Y))) ∧
         (¬ (12 ≤ (xi T 85 j_12)) →
          wx4_good 1 5 K T (fun T_17 =>
          wx4_polyLine_j113  Z Y post xpost R71  K T_17) (fun T9 => xpost T9 (kset K Z Y))))
def wx4_polyLine_b71  (Z Y : Nat) (post : XT → XK → Prop) (xpost : XT → XK → Prop) (R71 : XT → XK → Prop)   (K : XK) (T : XT) : Prop :=
      (((xi T 80 8) = 43 →
        wx4_polyLine_j89  Z Y post xpost R71  K T) ∧
       (¬ ((xi T 80 8) = 43) →
        ((¬ (xi T 80 8) = 45 →
          ∀ T_20 : XT, T_20 = xwi T 80 13 ((xi T 80 13) + 1) →
          post T_20 (kset K Z Y)) ∧
         ((xi T 80 8) = 45 →
          wx4_polyLine_j89  Z Y post xpost R71  K T))))
def wx4_polyLine_l71  (Z Y : Nat) (post : XT → XK → Prop) (xpost : XT → XK → Prop)   (K : XK) (T : XT) : Prop := wLoop (fun (R : ((XT) × (XK)) → Prop) (v : (XT) × (XK)) => wx4_polyLine_b71  Z Y post xpost (fun T K => R (T, K))   v.2 v.1) (T, K)
def wx4_polyLine_j66  (Z Y : Nat) (post : XT → XK → Prop) (xpost : XT → XK → Prop) (x1 : Int32) (K : XK) (T : XT) : Prop :=
    ∃ Z_26 Y_27 : Nat, kc K ≤ Z_26 ∧ Z_26 ≤ Z ∧ ks K ≤ Y_27 ∧ Y_27 ≤ Y ∧ wx4_termHere x1 K T Z_26 Y_27 (fun T_24 K_25 =>
    wx4_polyLine_l71  Z Y post xpost  K_25 T_24) (fun T9 K9 => xpost T9 (kset K9 Z Y))
def wx4_polyLine_j58  (Z Y : Nat) (post : XT → XK → Prop) (xpost : XT → XK → Prop) (x1 : Int32) (K : XK) (T : XT) : Prop :=
    ((x1 = 0 →
      wx4_polyLine_j66  Z Y post xpost x1 K T) ∧
     (¬ (x1 = 0) →
      ∃ Z_31 Y_32 : Nat, kc K ≤ Z_31 ∧ Z_31 ≤ Z ∧ ks K ≤ Y_32 ∧ Y_32 ≤ Y ∧ wx4_step  K T Z_31 Y_32 (fun T_29 K_30 =>
      wx4_polyLine_j66  Z Y post xpost x1 K_30 T_29)))
def wx4_polyLine_j19  (Z Y : Nat) (post : XT → XK → Prop) (xpost : XT → XK → Prop)  (K : XK) (T : XT) : Prop :=
    wx4_good (xi T 80 15) 6 K T (fun T_35 =>
    ∃ Z_40 Y_41 : Nat, kc K ≤ Z_40 ∧ Z_40 ≤ Z ∧ ks K ≤ Y_41 ∧ Y_41 ≤ Y ∧ wx4_step  K T_35 Z_40 Y_41 (fun T_38 K_39 =>
    ∃ j_42 : Nat, j_42 < 6 ∧ (xi T_38 80 13) = nI j_42 ∧ ∀ T_43 : XT, T_43 = xwi T_38 85 j_42 0 →
    ((¬ (xi T_43 80 8) = 45 →
      wx4_polyLine_j58  Z Y post xpost 0 K_39 T_43) ∧
     ((xi T_43 80 8) = 45 →
      wx4_polyLine_j58  Z Y post xpost 1 K_39 T_43)))) (fun T9 => xpost T9 (kset K Z Y))
def wx4_polyLine  (K0 : XK) (T : XT) (Z Y : Nat) (post : XT → XK → Prop) (xpost : XT → XK → Prop) : Prop :=
  ((6 ≤ (xi T 80 13) →
    wx4_good 0 5 K0 T (fun T_46 =>
    wx4_polyLine_j19  Z Y post xpost  K0 T_46) (fun T9 => xpost T9 (kset K0 Z Y))) ∧
   (¬ (6 ≤ (xi T 80 13)) →
    wx4_good 1 5 K0 T (fun T_49 =>
    wx4_polyLine_j19  Z Y post xpost  K0 T_49) (fun T9 => xpost T9 (kset K0 Z Y))))
set_option maxHeartbeats 4000000 in
theorem mx4_polyLine (l : Launch) (G : XG) (b : Nat) (hole : Nat → Prop)  (K0 : XK) (T : XT) (Z Y : Nat) (hZ : kc K0 ≤ Z) (hY : ks K0 ≤ Y)  (post : XT → XK → Prop) (xpost : XT → XK → Prop) (h : wx4_polyLine  K0 T Z Y post xpost) : vx_Met l yX4_polyLine (ws_ yX4_polyLine cX4_polyLine 2 none) ({ frames := 7, cells := (Z - kc K0), slots := (Y - ks K0), locals := 214 } : Room) (xPc G b hole [.ref (b + 80)] K0 T) (xQ G b hole K0 (Z - kc K0) (Y - ks K0) (ρ := Unit) eV (fun r T1 K1 => post T1 K1)) (xXC G b hole K0 (Z - kc K0) (Y - ks K0) xpost) (Z - kc K0) (Y - ks K0) (xA b hole) := by
  refine vx_ofW (cc := cX4_polyLine) (maxL := 2) (ret := none) (by decide) rfl ?_
  intro p e s m args below meth c s₁ B hml ht9 hv
  obtain ⟨rfl, hP, hK, hV⟩ := hv
  have hx := B.exec
  have hb := B.bytes
  have hr := B.returns
  have hts := atoms_spec (ws := ws_ yX4_polyLine cX4_polyLine 2 none) B.pre
  have hts : ∀ w ∈ lw_all, w.before _ s = true := fun w h => hts w (List.mem_cons_of_mem _ h)
  have hown : s.vm.findClass RX4 = some m.cls := findClass_of_methodNamed B.named
  have hlocks := B.notSynchronized
  have hb0 : b ≤ s.heap.size := by rw [hP.2.2.2]; exact Nat.le_add_right _ _
  have hS : va_S (xA b hole) s.heap s.heap [] := va_S.rf
  have hl := lv_entry ([.ref (b + 80)]) (n := 2) (Nat.le_of_ble_eq_true rfl)
  rw [lg_entry_eq]
  generalize (lg_sl ([.ref (b + 80)]) ++ List.replicate (2 - (lg_sl ([.ref (b + 80)])).length) Slot.unset).toArray = ls at hl ⊢
  have hl : lv_has ls 2 [(0, .ref (b + 80))] := hl
  have hle0 : kle K0 K0 := kle.rf
  have L71 : ∀  (T : XT) (K : XK) (cn sn : Nat) (H : Heap) (locs : List Loc) (ls : Array Slot), wx4_polyLine_l71  Z Y post xpost   K T → kle K0 K → kc K0 + cn = kc K → ks K0 + sn = ks K → kc K ≤ Z → ks K ≤ Y → xW G b hole K T H → va_S (xA b hole) s.heap H locs → lv_has ls 2 [(0, .ref (b + 80))] → W p l e (headSpec (ws_ yX4_polyLine cX4_polyLine 2 none) ({ frames := 7, cells := (Z - kc K0), slots := (Y - ks K0), locals := 214 } : Room)).room s m ([.ref (b + 80)] : List Value).toArray below meth c H locs cn sn (vx_MQ below (xQ G b hole K0 (Z - kc K0) (Y - ks K0) (ρ := Unit) eV (fun r T1 K1 => post T1 K1)) (xXC G b hole K0 (Z - kc K0) (Y - ks K0) xpost) ([.ref (b + 80)] : List Value).toArray s (Z - kc K0) (Y - ks K0) (xA b hole)) (F0 m 71 ls []) := by
    intro  T K cn sn H locs ls h hle0 hcn hsn hzz hyy hP hS hl
    obtain ⟨I71, n71, hI, hstep71⟩ := h
    induction n71 using Nat.strongRecOn generalizing T K cn sn H locs ls with
    | ind n71 ih71 =>
      have h : wx4_polyLine_b71  Z Y post xpost (fun T K => ∃ mm, mm < n71 ∧ I71 mm (T, K))   K T := hstep71 n71 _ hI
      clear hI
      have J128 : ∀ (x1 : Int32) (T : XT) (K : XK) (cn sn : Nat) (H : Heap) (locs : List Loc) (ls : Array Slot), wx4_polyLine_j128  Z Y post xpost (fun T K => ∃ mm, mm < n71 ∧ I71 mm (T, K)) x1 K T → kle K0 K → kc K0 + cn = kc K → ks K0 + sn = ks K → kc K ≤ Z → ks K ≤ Y → xW G b hole K T H → va_S (xA b hole) s.heap H locs → lv_has ls 2 [(0, .ref (b + 80)), (1, .int x1)] → W p l e (headSpec (ws_ yX4_polyLine cX4_polyLine 2 none) ({ frames := 7, cells := (Z - kc K0), slots := (Y - ks K0), locals := 214 } : Room)).room s m ([.ref (b + 80)] : List Value).toArray below meth c H locs cn sn (vx_MQ below (xQ G b hole K0 (Z - kc K0) (Y - ks K0) (ρ := Unit) eV (fun r T1 K1 => post T1 K1)) (xXC G b hole K0 (Z - kc K0) (Y - ks K0) xpost) ([.ref (b + 80)] : List Value).toArray s (Z - kc K0) (Y - ks K0) (xA b hole)) (F0 m 128 ls []) := by
        intro x1 T K cn sn H locs ls h hle0 hcn hsn hzz hyy hP hS hl
        unfold wx4_polyLine_j128 at h
        refine lv_aload_n hx hb dX4_polyLine_128 rfl (lv_at hl 0 rfl) ?_
        obtain ⟨Z_4, Y_5, hz1, hz2, hy1, hy2, h⟩ := h
        refine x_cV (k := 80) (As := []) (rest := []) ⟨hx, hb, hml, hown, hts⟩ (mx4_step l G b hole  K T Z_4 Y_5 hz1 hy1  _ h) (cwV 0 hts (lw_V q494 q496 qs4 q121 q497) rfl rfl rfl cwx_X4_step ⟨Nat.le_of_ble_eq_true rfl, Nat.le_of_ble_eq_true rfl⟩) (x_recv (CC := RX4) (ci := 3) hK hP (xs_80 hP) (by decide) (by decide) rfl (xE_11 (xs_80 hP))) hK hV hb0 hP hS rfl hl.1 rfl (Nat.le_of_ble_eq_true rfl) dX4_polyLine_129 ⟨by first | exact Nat.zero_le _ | (show _ + _ ≤ Z - kc K0; omega), by first | exact Nat.zero_le _ | (show _ + _ ≤ Y - ks K0; omega)⟩ (fun r_1 T1 K1 H locs h hle1 hc1 hs1 hP hS => ?_)
        generalize T1 = T_2 at h hP
        generalize K1 = K_3 at h hP hle1 hc1 hs1
        have hle0 := hle0.tr hle1
        have hcn : kc K0 + (cn + (Z_4 - kc K)) = kc K_3 := by omega
        have hsn : ks K0 + (sn + (Y_5 - ks K)) = ks K_3 := by omega
        have hzz : kc K_3 ≤ Z := by omega
        have hyy : ks K_3 ≤ Y := by omega
        refine lv_aload_n hx hb dX4_polyLine_132 rfl (lv_at hl 0 rfl) ?_
        refine lv_iload_n hx hb dX4_polyLine_133 rfl (lv_at hl 1 rfl) ?_
        obtain ⟨Z_9, Y_10, hz1, hz2, hy1, hy2, h⟩ := h
        refine x_cVX (k := 80) (As := [.int x1]) (rest := []) ⟨hx, hb, hml, hown, hts⟩ (mx4_termHere l G b hole x1 K_3 T_2 Z_9 Y_10 hz1 hy1  _ _ h) (cwV 1 hts (lw_V q703 q705 qs17 q121 q706) rfl rfl rfl cwx_X4_termHere ⟨Nat.le_of_ble_eq_true rfl, Nat.le_of_ble_eq_true rfl⟩) (x_recv (CC := RX4) (ci := 3) hK hP (xs_80 hP) (by decide) (by decide) rfl (xE_11 (xs_80 hP))) hK hV hb0 hP hS rfl hl.1 rfl (Nat.le_of_ble_eq_true rfl) dX4_polyLine_134 ⟨by first | exact Nat.zero_le _ | (show _ + _ ≤ Z - kc K0; omega), by first | exact Nat.zero_le _ | (show _ + _ ≤ Y - ks K0; omega)⟩ (fun r_6 T1 K1 H locs h hle1 hc1 hs1 hP hS => ?_) (fun T1 K1 H locs h hle1 hc1 hs1 hP hS => ?_)
        rotate_left
        · exact x_out (K0 := K0) (K1 := kset K1 Z Y) (mc := Z - kc K0) (ms := Y - ks K0) (fun x h9 => (ht9 x h9).elim) hlocks hK hP hS (hle0.tr hle1) h (by show Z = _; omega) (by show Y = _; omega) (by omega) (by omega)
        generalize T1 = T_7 at h hP
        generalize K1 = K_8 at h hP hle1 hc1 hs1
        have hle0 := hle0.tr hle1
        have hcn : kc K0 + ((cn + (Z_4 - kc K)) + (Z_9 - kc K_3)) = kc K_8 := by omega
        have hsn : ks K0 + ((sn + (Y_5 - ks K)) + (Y_10 - ks K_3)) = ks K_8 := by omega
        have hzz : kc K_8 ≤ Z := by omega
        have hyy : ks K_8 ≤ Y := by omega
        refine lv_goto (tgt := 71) hx hb dX4_polyLine_137 (by decide) ?_
        obtain ⟨mm, hmm, h⟩ := h
        exact ih71 mm hmm _ _ _ _ _ _ _ hle0 hcn hsn hzz hyy hP hS (lv_sub hl [0] rfl) h
      have J113 : ∀  (T : XT) (K : XK) (cn sn : Nat) (H : Heap) (locs : List Loc) (ls : Array Slot), wx4_polyLine_j113  Z Y post xpost (fun T K => ∃ mm, mm < n71 ∧ I71 mm (T, K))  K T → kle K0 K → kc K0 + cn = kc K → ks K0 + sn = ks K → kc K ≤ Z → ks K ≤ Y → xW G b hole K T H → va_S (xA b hole) s.heap H locs → lv_has ls 2 [(0, .ref (b + 80))] → W p l e (headSpec (ws_ yX4_polyLine cX4_polyLine 2 none) ({ frames := 7, cells := (Z - kc K0), slots := (Y - ks K0), locals := 214 } : Room)).room s m ([.ref (b + 80)] : List Value).toArray below meth c H locs cn sn (vx_MQ below (xQ G b hole K0 (Z - kc K0) (Y - ks K0) (ρ := Unit) eV (fun r T1 K1 => post T1 K1)) (xXC G b hole K0 (Z - kc K0) (Y - ks K0) xpost) ([.ref (b + 80)] : List Value).toArray s (Z - kc K0) (Y - ks K0) (xA b hole)) (F0 m 113 ls []) := by
        intro  T K cn sn H locs ls h hle0 hcn hsn hzz hyy hP hS hl
        unfold wx4_polyLine_j113 at h
        refine lv_aload_n hx hb dX4_polyLine_113 rfl (lv_at hl 0 rfl) ?_
        refine x_get (CC := RX4) (TT := TX4) (N := 17) (ci := 3) (v := .int (xi T 80 8)) hx hb hts in_X4 hown hK hP (xs_80 hP) (by decide) (by decide) rfl (xE_11 (xs_80 hP)) 8 (by decide) q304 rfl rfl dX4_polyLine_114 ?_
        refine lv_bipush (v := 45) hx hb dX4_polyLine_117 (by decide) ?_
        refine lv_icmp_ne (tgt := 126) hx hb dX4_polyLine_119 (by decide) (fun c_11 => ?_) (fun c_11 => ?_)
        · have h := h.1 c_11
          refine lv_iconst (v := 0) hx hb dX4_polyLine_126 (by decide) ?_
          refine lv_istore_n (lv' := [(1, .int 0), (0, .ref (b + 80))]) hx hb dX4_polyLine_127 rfl hl (by decide) rfl (fun ls hl => ?_)
          exact J128 _ _ _ _ _ _ _ _ h hle0 hcn hsn hzz hyy hP hS (lv_sub hl [1, 0] rfl)
        · have h := h.2 c_11
          refine lv_iconst (v := 1) hx hb dX4_polyLine_122 (by decide) ?_
          refine lv_goto (tgt := 127) hx hb dX4_polyLine_123 (by decide) ?_
          refine lv_istore_n (lv' := [(1, .int 1), (0, .ref (b + 80))]) hx hb dX4_polyLine_127 rfl hl (by decide) rfl (fun ls hl => ?_)
          exact J128 _ _ _ _ _ _ _ _ h hle0 hcn hsn hzz hyy hP hS (lv_sub hl [1, 0] rfl)
      have J89 : ∀  (T : XT) (K : XK) (cn sn : Nat) (H : Heap) (locs : List Loc) (ls : Array Slot), wx4_polyLine_j89  Z Y post xpost (fun T K => ∃ mm, mm < n71 ∧ I71 mm (T, K))  K T → kle K0 K → kc K0 + cn = kc K → ks K0 + sn = ks K → kc K ≤ Z → ks K ≤ Y → xW G b hole K T H → va_S (xA b hole) s.heap H locs → lv_has ls 2 [(0, .ref (b + 80))] → W p l e (headSpec (ws_ yX4_polyLine cX4_polyLine 2 none) ({ frames := 7, cells := (Z - kc K0), slots := (Y - ks K0), locals := 214 } : Room)).room s m ([.ref (b + 80)] : List Value).toArray below meth c H locs cn sn (vx_MQ below (xQ G b hole K0 (Z - kc K0) (Y - ks K0) (ρ := Unit) eV (fun r T1 K1 => post T1 K1)) (xXC G b hole K0 (Z - kc K0) (Y - ks K0) xpost) ([.ref (b + 80)] : List Value).toArray s (Z - kc K0) (Y - ks K0) (xA b hole)) (F0 m 89 ls []) := by
        intro  T K cn sn H locs ls h hle0 hcn hsn hzz hyy hP hS hl
        unfold wx4_polyLine_j89 at h
        refine lv_aload_n hx hb dX4_polyLine_89 rfl (lv_at hl 0 rfl) ?_
        refine lv_aload_n hx hb dX4_polyLine_90 rfl (lv_at hl 0 rfl) ?_
        refine x_get (CC := RX4) (TT := TX4) (N := 17) (ci := 3) (v := .ref (b + 85)) hx hb hts in_X4 hown hK hP (xs_80 hP) (by decide) (by decide) rfl (xE_11 (xs_80 hP)) 4 (by decide) q299 rfl rfl dX4_polyLine_91 ?_
        refine lv_aload_n hx hb dX4_polyLine_94 rfl (lv_at hl 0 rfl) ?_
        refine x_get (CC := RX4) (TT := TX4) (N := 17) (ci := 3) (v := .int (xi T 80 13)) hx hb hts in_X4 hown hK hP (xs_80 hP) (by decide) (by decide) rfl (xE_11 (xs_80 hP)) 13 (by decide) q311 rfl rfl dX4_polyLine_95 ?_
        obtain ⟨j_12, hj_12, ej_12, h⟩ := h
        refine x_iald hx hb hK hP (xs_85 hP) ej_12 (by rw [xl_85 hP]; exact hj_12) dX4_polyLine_98 ?_
        refine lv_bipush (v := 12) hx hb dX4_polyLine_99 (by decide) ?_
        refine lv_icmp_ge (tgt := 108) hx hb dX4_polyLine_101 (by decide) (fun c_19 => ?_) (fun c_19 => ?_)
        · have h := h.1 c_19
          refine lv_iconst (v := 0) hx hb dX4_polyLine_108 (by decide) ?_
          refine lv_iconst (v := 5) hx hb dX4_polyLine_109 (by decide) ?_
          refine x_cVX (k := 80) (As := [.int 0, .int 5]) (rest := []) ⟨hx, hb, hml, hown, hts⟩ (mx4_good l G b hole 0 5 K T  _ _ h) (cwV 2 hts (lw_V q673 q675 qs12 q121 q676) rfl rfl rfl cwx_X4_good ⟨Nat.le_of_ble_eq_true rfl, Nat.le_of_ble_eq_true rfl⟩) (x_recv (CC := RX4) (ci := 3) hK hP (xs_80 hP) (by decide) (by decide) rfl (xE_11 (xs_80 hP))) hK hV hb0 hP hS rfl hl.1 rfl (Nat.le_of_ble_eq_true rfl) dX4_polyLine_110 ⟨by first | exact Nat.zero_le _ | (show _ + _ ≤ Z - kc K0; omega), by first | exact Nat.zero_le _ | (show _ + _ ≤ Y - ks K0; omega)⟩ (fun r_13 T1 K1 H locs h hle1 hc1 hs1 hP hS => ?_) (fun T1 K1 H locs h hle1 hc1 hs1 hP hS => ?_)
          rotate_left
          · obtain ⟨h, hKe⟩ := h
            rw [hKe] at hP
            exact x_out (K0 := K0) (K1 := kset K Z Y) (mc := Z - kc K0) (ms := Y - ks K0) (fun x h9 => (ht9 x h9).elim) hlocks hK hP hS hle0 h (by show Z = _; omega) (by show Y = _; omega) (by omega) (by omega)
          obtain ⟨h, hKe⟩ := h
          rw [hKe] at hP
          generalize T1 = T_14 at h hP
          exact J113 _ _ _ _ _ _ _ h hle0 hcn hsn hzz hyy hP hS (lv_sub hl [0] rfl)
        · have h := h.2 c_19
          refine lv_iconst (v := 1) hx hb dX4_polyLine_104 (by decide) ?_
          refine lv_goto (tgt := 109) hx hb dX4_polyLine_105 (by decide) ?_
          refine lv_iconst (v := 5) hx hb dX4_polyLine_109 (by decide) ?_
          refine x_cVX (k := 80) (As := [.int 1, .int 5]) (rest := []) ⟨hx, hb, hml, hown, hts⟩ (mx4_good l G b hole 1 5 K T  _ _ h) (cwV 2 hts (lw_V q673 q675 qs12 q121 q676) rfl rfl rfl cwx_X4_good ⟨Nat.le_of_ble_eq_true rfl, Nat.le_of_ble_eq_true rfl⟩) (x_recv (CC := RX4) (ci := 3) hK hP (xs_80 hP) (by decide) (by decide) rfl (xE_11 (xs_80 hP))) hK hV hb0 hP hS rfl hl.1 rfl (Nat.le_of_ble_eq_true rfl) dX4_polyLine_110 ⟨by first | exact Nat.zero_le _ | (show _ + _ ≤ Z - kc K0; omega), by first | exact Nat.zero_le _ | (show _ + _ ≤ Y - ks K0; omega)⟩ (fun r_16 T1 K1 H locs h hle1 hc1 hs1 hP hS => ?_) (fun T1 K1 H locs h hle1 hc1 hs1 hP hS => ?_)
          rotate_left
          · obtain ⟨h, hKe⟩ := h
            rw [hKe] at hP
            exact x_out (K0 := K0) (K1 := kset K Z Y) (mc := Z - kc K0) (ms := Y - ks K0) (fun x h9 => (ht9 x h9).elim) hlocks hK hP hS hle0 h (by show Z = _; omega) (by show Y = _; omega) (by omega) (by omega)
          obtain ⟨h, hKe⟩ := h
          rw [hKe] at hP
          generalize T1 = T_17 at h hP
          exact J113 _ _ _ _ _ _ _ h hle0 hcn hsn hzz hyy hP hS (lv_sub hl [0] rfl)
      unfold wx4_polyLine_b71 at h
      refine lv_aload_n hx hb dX4_polyLine_71 rfl (lv_at hl 0 rfl) ?_
      refine x_get (CC := RX4) (TT := TX4) (N := 17) (ci := 3) (v := .int (xi T 80 8)) hx hb hts in_X4 hown hK hP (xs_80 hP) (by decide) (by decide) rfl (xE_11 (xs_80 hP)) 8 (by decide) q304 rfl rfl dX4_polyLine_72 ?_
      refine lv_bipush (v := 43) hx hb dX4_polyLine_75 (by decide) ?_
      refine lv_icmp_eq (tgt := 89) hx hb dX4_polyLine_77 (by decide) (fun c_22 => ?_) (fun c_22 => ?_)
      · have h := h.1 c_22
        exact J89 _ _ _ _ _ _ _ h hle0 hcn hsn hzz hyy hP hS (lv_sub hl [0] rfl)
      · have h := h.2 c_22
        refine lv_aload_n hx hb dX4_polyLine_80 rfl (lv_at hl 0 rfl) ?_
        refine x_get (CC := RX4) (TT := TX4) (N := 17) (ci := 3) (v := .int (xi T 80 8)) hx hb hts in_X4 hown hK hP (xs_80 hP) (by decide) (by decide) rfl (xE_11 (xs_80 hP)) 8 (by decide) q304 rfl rfl dX4_polyLine_81 ?_
        refine lv_bipush (v := 45) hx hb dX4_polyLine_84 (by decide) ?_
        refine lv_icmp_ne (tgt := 140) hx hb dX4_polyLine_86 (by decide) (fun c_21 => ?_) (fun c_21 => ?_)
        · have h := h.1 c_21
          refine lv_aload_n hx hb dX4_polyLine_140 rfl (lv_at hl 0 rfl) ?_
          refine lv_dup hx hb dX4_polyLine_141 rfl ?_
          refine x_get (CC := RX4) (TT := TX4) (N := 17) (ci := 3) (v := .int (xi T 80 13)) hx hb hts in_X4 hown hK hP (xs_80 hP) (by decide) (by decide) rfl (xE_11 (xs_80 hP)) 13 (by decide) q311 rfl rfl dX4_polyLine_142 ?_
          refine lv_iconst (v := 1) hx hb dX4_polyLine_145 (by decide) ?_
          refine lv_iadd hx hb dX4_polyLine_146 ?_
          obtain ⟨T_20, eT_20⟩ : ∃ z : XT, z = xwi T 80 13 ((xi T 80 13) + 1) := ⟨_, rfl⟩
          have h := h T_20 eT_20
          refine x_put (CC := RX4) (TT := TX4) (N := 17) (ci := 3) (T1 := T_20) (v := .int ((xi T 80 13) + 1)) (ty := .int) (fsf := fun T => fs11 (gem G) b T 80) hx hb hts in_X4 tyX4 tyX4_ok nmX4 hown hK hP hS (xs_80 hP) (by decide) (by decide) rfl (fun _ => xE_11 (xs_80 hP)) rfl 13 (by decide) q311 rfl (Or.inl rfl) rfl rfl rfl (by rw [eT_20]; exact fw11_13 _ b T 80 ((xi T 80 13) + 1)) (by rw [eT_20]; exact fun q hq => xwi_i hq) (by rw [eT_20]; exact fun _ _ => rfl) (by rw [eT_20]; exact xwi_ty hP (by rw [(xs_80 hP)]; decide)) dX4_polyLine_147 (fun H locs hP hS => ?_)
          refine vx_ret ?_
          refine W.widen (k := Z - kc K0) (n := Y - ks K0) (by omega) (by omega) ?_
          exact W.vret hx hb hr (fun t ht hW => ⟨⟨(), T_20, (kset K Z Y), rfl, h, hle0, (by show Z = _; omega), (by show Y = _; omega), by rw [ht]; exact hP, va_K.moved hW.alike hK⟩, hS.F ht⟩) hS.2.2 dX4_polyLine_150
        · have h := h.2 c_21
          exact J89 _ _ _ _ _ _ _ h hle0 hcn hsn hzz hyy hP hS (lv_sub hl [0] rfl)
  have J66 : ∀ (x1 : Int32) (T : XT) (K : XK) (cn sn : Nat) (H : Heap) (locs : List Loc) (ls : Array Slot), wx4_polyLine_j66  Z Y post xpost x1 K T → kle K0 K → kc K0 + cn = kc K → ks K0 + sn = ks K → kc K ≤ Z → ks K ≤ Y → xW G b hole K T H → va_S (xA b hole) s.heap H locs → lv_has ls 2 [(0, .ref (b + 80)), (1, .int x1)] → W p l e (headSpec (ws_ yX4_polyLine cX4_polyLine 2 none) ({ frames := 7, cells := (Z - kc K0), slots := (Y - ks K0), locals := 214 } : Room)).room s m ([.ref (b + 80)] : List Value).toArray below meth c H locs cn sn (vx_MQ below (xQ G b hole K0 (Z - kc K0) (Y - ks K0) (ρ := Unit) eV (fun r T1 K1 => post T1 K1)) (xXC G b hole K0 (Z - kc K0) (Y - ks K0) xpost) ([.ref (b + 80)] : List Value).toArray s (Z - kc K0) (Y - ks K0) (xA b hole)) (F0 m 66 ls []) := by
    intro x1 T K cn sn H locs ls h hle0 hcn hsn hzz hyy hP hS hl
    unfold wx4_polyLine_j66 at h
    refine lv_aload_n hx hb dX4_polyLine_66 rfl (lv_at hl 0 rfl) ?_
    refine lv_iload_n hx hb dX4_polyLine_67 rfl (lv_at hl 1 rfl) ?_
    obtain ⟨Z_26, Y_27, hz1, hz2, hy1, hy2, h⟩ := h
    refine x_cVX (k := 80) (As := [.int x1]) (rest := []) ⟨hx, hb, hml, hown, hts⟩ (mx4_termHere l G b hole x1 K T Z_26 Y_27 hz1 hy1  _ _ h) (cwV 1 hts (lw_V q703 q705 qs17 q121 q706) rfl rfl rfl cwx_X4_termHere ⟨Nat.le_of_ble_eq_true rfl, Nat.le_of_ble_eq_true rfl⟩) (x_recv (CC := RX4) (ci := 3) hK hP (xs_80 hP) (by decide) (by decide) rfl (xE_11 (xs_80 hP))) hK hV hb0 hP hS rfl hl.1 rfl (Nat.le_of_ble_eq_true rfl) dX4_polyLine_68 ⟨by first | exact Nat.zero_le _ | (show _ + _ ≤ Z - kc K0; omega), by first | exact Nat.zero_le _ | (show _ + _ ≤ Y - ks K0; omega)⟩ (fun r_23 T1 K1 H locs h hle1 hc1 hs1 hP hS => ?_) (fun T1 K1 H locs h hle1 hc1 hs1 hP hS => ?_)
    rotate_left
    · exact x_out (K0 := K0) (K1 := kset K1 Z Y) (mc := Z - kc K0) (ms := Y - ks K0) (fun x h9 => (ht9 x h9).elim) hlocks hK hP hS (hle0.tr hle1) h (by show Z = _; omega) (by show Y = _; omega) (by omega) (by omega)
    generalize T1 = T_24 at h hP
    generalize K1 = K_25 at h hP hle1 hc1 hs1
    have hle0 := hle0.tr hle1
    have hcn : kc K0 + (cn + (Z_26 - kc K)) = kc K_25 := by omega
    have hsn : ks K0 + (sn + (Y_27 - ks K)) = ks K_25 := by omega
    have hzz : kc K_25 ≤ Z := by omega
    have hyy : ks K_25 ≤ Y := by omega
    exact L71 _ _ _ _ _ _ _ h hle0 hcn hsn hzz hyy hP hS (lv_sub hl [0] rfl)
  have J58 : ∀ (x1 : Int32) (T : XT) (K : XK) (cn sn : Nat) (H : Heap) (locs : List Loc) (ls : Array Slot), wx4_polyLine_j58  Z Y post xpost x1 K T → kle K0 K → kc K0 + cn = kc K → ks K0 + sn = ks K → kc K ≤ Z → ks K ≤ Y → xW G b hole K T H → va_S (xA b hole) s.heap H locs → lv_has ls 2 [(0, .ref (b + 80)), (1, .int x1)] → W p l e (headSpec (ws_ yX4_polyLine cX4_polyLine 2 none) ({ frames := 7, cells := (Z - kc K0), slots := (Y - ks K0), locals := 214 } : Room)).room s m ([.ref (b + 80)] : List Value).toArray below meth c H locs cn sn (vx_MQ below (xQ G b hole K0 (Z - kc K0) (Y - ks K0) (ρ := Unit) eV (fun r T1 K1 => post T1 K1)) (xXC G b hole K0 (Z - kc K0) (Y - ks K0) xpost) ([.ref (b + 80)] : List Value).toArray s (Z - kc K0) (Y - ks K0) (xA b hole)) (F0 m 58 ls []) := by
    intro x1 T K cn sn H locs ls h hle0 hcn hsn hzz hyy hP hS hl
    unfold wx4_polyLine_j58 at h
    refine lv_iload_n hx hb dX4_polyLine_58 rfl (lv_at hl 1 rfl) ?_
    refine lv_if_eq (tgt := 66) hx hb dX4_polyLine_59 (by decide) (fun c_33 => ?_) (fun c_33 => ?_)
    · have h := h.1 c_33
      exact J66 _ _ _ _ _ _ _ _ h hle0 hcn hsn hzz hyy hP hS (lv_sub hl [0, 1] rfl)
    · have h := h.2 c_33
      refine lv_aload_n hx hb dX4_polyLine_62 rfl (lv_at hl 0 rfl) ?_
      obtain ⟨Z_31, Y_32, hz1, hz2, hy1, hy2, h⟩ := h
      refine x_cV (k := 80) (As := []) (rest := []) ⟨hx, hb, hml, hown, hts⟩ (mx4_step l G b hole  K T Z_31 Y_32 hz1 hy1  _ h) (cwV 0 hts (lw_V q494 q496 qs4 q121 q497) rfl rfl rfl cwx_X4_step ⟨Nat.le_of_ble_eq_true rfl, Nat.le_of_ble_eq_true rfl⟩) (x_recv (CC := RX4) (ci := 3) hK hP (xs_80 hP) (by decide) (by decide) rfl (xE_11 (xs_80 hP))) hK hV hb0 hP hS rfl hl.1 rfl (Nat.le_of_ble_eq_true rfl) dX4_polyLine_63 ⟨by first | exact Nat.zero_le _ | (show _ + _ ≤ Z - kc K0; omega), by first | exact Nat.zero_le _ | (show _ + _ ≤ Y - ks K0; omega)⟩ (fun r_28 T1 K1 H locs h hle1 hc1 hs1 hP hS => ?_)
      generalize T1 = T_29 at h hP
      generalize K1 = K_30 at h hP hle1 hc1 hs1
      have hle0 := hle0.tr hle1
      have hcn : kc K0 + (cn + (Z_31 - kc K)) = kc K_30 := by omega
      have hsn : ks K0 + (sn + (Y_32 - ks K)) = ks K_30 := by omega
      have hzz : kc K_30 ≤ Z := by omega
      have hyy : ks K_30 ≤ Y := by omega
      exact J66 _ _ _ _ _ _ _ _ h hle0 hcn hsn hzz hyy hP hS (lv_sub hl [0, 1] rfl)
  have J19 : ∀  (T : XT) (K : XK) (cn sn : Nat) (H : Heap) (locs : List Loc) (ls : Array Slot), wx4_polyLine_j19  Z Y post xpost  K T → kle K0 K → kc K0 + cn = kc K → ks K0 + sn = ks K → kc K ≤ Z → ks K ≤ Y → xW G b hole K T H → va_S (xA b hole) s.heap H locs → lv_has ls 2 [(0, .ref (b + 80))] → W p l e (headSpec (ws_ yX4_polyLine cX4_polyLine 2 none) ({ frames := 7, cells := (Z - kc K0), slots := (Y - ks K0), locals := 214 } : Room)).room s m ([.ref (b + 80)] : List Value).toArray below meth c H locs cn sn (vx_MQ below (xQ G b hole K0 (Z - kc K0) (Y - ks K0) (ρ := Unit) eV (fun r T1 K1 => post T1 K1)) (xXC G b hole K0 (Z - kc K0) (Y - ks K0) xpost) ([.ref (b + 80)] : List Value).toArray s (Z - kc K0) (Y - ks K0) (xA b hole)) (F0 m 19 ls []) := by
    intro  T K cn sn H locs ls h hle0 hcn hsn hzz hyy hP hS hl
    unfold wx4_polyLine_j19 at h
    refine lv_aload_n hx hb dX4_polyLine_19 rfl (lv_at hl 0 rfl) ?_
    refine lv_aload_n hx hb dX4_polyLine_20 rfl (lv_at hl 0 rfl) ?_
    refine x_get (CC := RX4) (TT := TX4) (N := 17) (ci := 3) (v := .int (xi T 80 15)) hx hb hts in_X4 hown hK hP (xs_80 hP) (by decide) (by decide) rfl (xE_11 (xs_80 hP)) 15 (by decide) q314 rfl rfl dX4_polyLine_21 ?_
    refine lv_bipush (v := 6) hx hb dX4_polyLine_24 (by decide) ?_
    refine x_cVX (k := 80) (As := [.int (xi T 80 15), .int 6]) (rest := []) ⟨hx, hb, hml, hown, hts⟩ (mx4_good l G b hole (xi T 80 15) 6 K T  _ _ h) (cwV 2 hts (lw_V q673 q675 qs12 q121 q676) rfl rfl rfl cwx_X4_good ⟨Nat.le_of_ble_eq_true rfl, Nat.le_of_ble_eq_true rfl⟩) (x_recv (CC := RX4) (ci := 3) hK hP (xs_80 hP) (by decide) (by decide) rfl (xE_11 (xs_80 hP))) hK hV hb0 hP hS rfl hl.1 rfl (Nat.le_of_ble_eq_true rfl) dX4_polyLine_26 ⟨by first | exact Nat.zero_le _ | (show _ + _ ≤ Z - kc K0; omega), by first | exact Nat.zero_le _ | (show _ + _ ≤ Y - ks K0; omega)⟩ (fun r_34 T1 K1 H locs h hle1 hc1 hs1 hP hS => ?_) (fun T1 K1 H locs h hle1 hc1 hs1 hP hS => ?_)
    rotate_left
    · obtain ⟨h, hKe⟩ := h
      rw [hKe] at hP
      exact x_out (K0 := K0) (K1 := kset K Z Y) (mc := Z - kc K0) (ms := Y - ks K0) (fun x h9 => (ht9 x h9).elim) hlocks hK hP hS hle0 h (by show Z = _; omega) (by show Y = _; omega) (by omega) (by omega)
    obtain ⟨h, hKe⟩ := h
    rw [hKe] at hP
    generalize T1 = T_35 at h hP
    refine lv_aload_n hx hb dX4_polyLine_29 rfl (lv_at hl 0 rfl) ?_
    obtain ⟨Z_40, Y_41, hz1, hz2, hy1, hy2, h⟩ := h
    refine x_cV (k := 80) (As := []) (rest := []) ⟨hx, hb, hml, hown, hts⟩ (mx4_step l G b hole  K T_35 Z_40 Y_41 hz1 hy1  _ h) (cwV 0 hts (lw_V q494 q496 qs4 q121 q497) rfl rfl rfl cwx_X4_step ⟨Nat.le_of_ble_eq_true rfl, Nat.le_of_ble_eq_true rfl⟩) (x_recv (CC := RX4) (ci := 3) hK hP (xs_80 hP) (by decide) (by decide) rfl (xE_11 (xs_80 hP))) hK hV hb0 hP hS rfl hl.1 rfl (Nat.le_of_ble_eq_true rfl) dX4_polyLine_30 ⟨by first | exact Nat.zero_le _ | (show _ + _ ≤ Z - kc K0; omega), by first | exact Nat.zero_le _ | (show _ + _ ≤ Y - ks K0; omega)⟩ (fun r_37 T1 K1 H locs h hle1 hc1 hs1 hP hS => ?_)
    generalize T1 = T_38 at h hP
    generalize K1 = K_39 at h hP hle1 hc1 hs1
    have hle0 := hle0.tr hle1
    have hcn : kc K0 + (cn + (Z_40 - kc K)) = kc K_39 := by omega
    have hsn : ks K0 + (sn + (Y_41 - ks K)) = ks K_39 := by omega
    have hzz : kc K_39 ≤ Z := by omega
    have hyy : ks K_39 ≤ Y := by omega
    refine lv_aload_n hx hb dX4_polyLine_33 rfl (lv_at hl 0 rfl) ?_
    refine x_get (CC := RX4) (TT := TX4) (N := 17) (ci := 3) (v := .ref (b + 85)) hx hb hts in_X4 hown hK hP (xs_80 hP) (by decide) (by decide) rfl (xE_11 (xs_80 hP)) 4 (by decide) q299 rfl rfl dX4_polyLine_34 ?_
    refine lv_aload_n hx hb dX4_polyLine_37 rfl (lv_at hl 0 rfl) ?_
    refine x_get (CC := RX4) (TT := TX4) (N := 17) (ci := 3) (v := .int (xi T_38 80 13)) hx hb hts in_X4 hown hK hP (xs_80 hP) (by decide) (by decide) rfl (xE_11 (xs_80 hP)) 13 (by decide) q311 rfl rfl dX4_polyLine_38 ?_
    refine lv_iconst (v := 0) hx hb dX4_polyLine_41 (by decide) ?_
    obtain ⟨j_42, hj_42, ej_42, h⟩ := h
    obtain ⟨T_43, eT_43⟩ : ∃ z : XT, z = xwi T_38 85 j_42 0 := ⟨_, rfl⟩
    have h := h T_43 eT_43
    refine x_iast hx hb hK hP hS (xs_85 hP) ej_42 (by rw [xl_85 hP]; exact hj_42) dX4_polyLine_42 (fun H locs hP hS => ?_)
    rw [← eT_43] at hP
    refine lv_aload_n hx hb dX4_polyLine_43 rfl (lv_at hl 0 rfl) ?_
    refine x_get (CC := RX4) (TT := TX4) (N := 17) (ci := 3) (v := .int (xi T_43 80 8)) hx hb hts in_X4 hown hK hP (xs_80 hP) (by decide) (by decide) rfl (xE_11 (xs_80 hP)) 8 (by decide) q304 rfl rfl dX4_polyLine_44 ?_
    refine lv_bipush (v := 45) hx hb dX4_polyLine_47 (by decide) ?_
    refine lv_icmp_ne (tgt := 56) hx hb dX4_polyLine_49 (by decide) (fun c_44 => ?_) (fun c_44 => ?_)
    · have h := h.1 c_44
      refine lv_iconst (v := 0) hx hb dX4_polyLine_56 (by decide) ?_
      refine lv_istore_n (lv' := [(1, .int 0), (0, .ref (b + 80))]) hx hb dX4_polyLine_57 rfl hl (by decide) rfl (fun ls hl => ?_)
      exact J58 _ _ _ _ _ _ _ _ h hle0 hcn hsn hzz hyy hP hS (lv_sub hl [1, 0] rfl)
    · have h := h.2 c_44
      refine lv_iconst (v := 1) hx hb dX4_polyLine_52 (by decide) ?_
      refine lv_goto (tgt := 57) hx hb dX4_polyLine_53 (by decide) ?_
      refine lv_istore_n (lv' := [(1, .int 1), (0, .ref (b + 80))]) hx hb dX4_polyLine_57 rfl hl (by decide) rfl (fun ls hl => ?_)
      exact J58 _ _ _ _ _ _ _ _ h hle0 hcn hsn hzz hyy hP hS (lv_sub hl [1, 0] rfl)
  have hcn : kc K0 + 0 = kc K0 := rfl
  have hsn : ks K0 + 0 = ks K0 := rfl
  have hzz := hZ
  have hyy := hY
  unfold wx4_polyLine at h
  refine lv_aload_n hx hb dX4_polyLine_0 rfl (lv_at hl 0 rfl) ?_
  refine lv_aload_n hx hb dX4_polyLine_1 rfl (lv_at hl 0 rfl) ?_
  refine x_get (CC := RX4) (TT := TX4) (N := 17) (ci := 3) (v := .int (xi T 80 13)) hx hb hts in_X4 hown hK hP (xs_80 hP) (by decide) (by decide) rfl (xE_11 (xs_80 hP)) 13 (by decide) q311 rfl rfl dX4_polyLine_2 ?_
  refine lv_bipush (v := 6) hx hb dX4_polyLine_5 (by decide) ?_
  refine lv_icmp_ge (tgt := 14) hx hb dX4_polyLine_7 (by decide) (fun c_51 => ?_) (fun c_51 => ?_)
  · have h := h.1 c_51
    refine lv_iconst (v := 0) hx hb dX4_polyLine_14 (by decide) ?_
    refine lv_iconst (v := 5) hx hb dX4_polyLine_15 (by decide) ?_
    refine x_cVX (k := 80) (As := [.int 0, .int 5]) (rest := []) ⟨hx, hb, hml, hown, hts⟩ (mx4_good l G b hole 0 5 K0 T  _ _ h) (cwV 2 hts (lw_V q673 q675 qs12 q121 q676) rfl rfl rfl cwx_X4_good ⟨Nat.le_of_ble_eq_true rfl, Nat.le_of_ble_eq_true rfl⟩) (x_recv (CC := RX4) (ci := 3) hK hP (xs_80 hP) (by decide) (by decide) rfl (xE_11 (xs_80 hP))) hK hV hb0 hP hS rfl hl.1 rfl (Nat.le_of_ble_eq_true rfl) dX4_polyLine_16 ⟨by first | exact Nat.zero_le _ | (show _ + _ ≤ Z - kc K0; omega), by first | exact Nat.zero_le _ | (show _ + _ ≤ Y - ks K0; omega)⟩ (fun r_45 T1 K1 H locs h hle1 hc1 hs1 hP hS => ?_) (fun T1 K1 H locs h hle1 hc1 hs1 hP hS => ?_)
    rotate_left
    · obtain ⟨h, hKe⟩ := h
      rw [hKe] at hP
      exact x_out (K0 := K0) (K1 := kset K0 Z Y) (mc := Z - kc K0) (ms := Y - ks K0) (fun x h9 => (ht9 x h9).elim) hlocks hK hP hS hle0 h (by show Z = _; omega) (by show Y = _; omega) (by omega) (by omega)
    obtain ⟨h, hKe⟩ := h
    rw [hKe] at hP
    generalize T1 = T_46 at h hP
    exact J19 _ _ _ _ _ _ _ h hle0 hcn hsn hzz hyy hP hS (lv_sub hl [0] rfl)
  · have h := h.2 c_51
    refine lv_iconst (v := 1) hx hb dX4_polyLine_10 (by decide) ?_
    refine lv_goto (tgt := 15) hx hb dX4_polyLine_11 (by decide) ?_
    refine lv_iconst (v := 5) hx hb dX4_polyLine_15 (by decide) ?_
    refine x_cVX (k := 80) (As := [.int 1, .int 5]) (rest := []) ⟨hx, hb, hml, hown, hts⟩ (mx4_good l G b hole 1 5 K0 T  _ _ h) (cwV 2 hts (lw_V q673 q675 qs12 q121 q676) rfl rfl rfl cwx_X4_good ⟨Nat.le_of_ble_eq_true rfl, Nat.le_of_ble_eq_true rfl⟩) (x_recv (CC := RX4) (ci := 3) hK hP (xs_80 hP) (by decide) (by decide) rfl (xE_11 (xs_80 hP))) hK hV hb0 hP hS rfl hl.1 rfl (Nat.le_of_ble_eq_true rfl) dX4_polyLine_16 ⟨by first | exact Nat.zero_le _ | (show _ + _ ≤ Z - kc K0; omega), by first | exact Nat.zero_le _ | (show _ + _ ≤ Y - ks K0; omega)⟩ (fun r_48 T1 K1 H locs h hle1 hc1 hs1 hP hS => ?_) (fun T1 K1 H locs h hle1 hc1 hs1 hP hS => ?_)
    rotate_left
    · obtain ⟨h, hKe⟩ := h
      rw [hKe] at hP
      exact x_out (K0 := K0) (K1 := kset K0 Z Y) (mc := Z - kc K0) (ms := Y - ks K0) (fun x h9 => (ht9 x h9).elim) hlocks hK hP hS hle0 h (by show Z = _; omega) (by show Y = _; omega) (by omega) (by omega)
    obtain ⟨h, hKe⟩ := h
    rw [hKe] at hP
    generalize T1 = T_49 at h hP
    exact J19 _ _ _ _ _ _ _ h hle0 hcn hsn hzz hyy hP hS (lv_sub hl [0] rfl)
theorem cwx_J4_isLatin1 : yJ4_isLatin1.cls = RJ4 ∧ yJ4_isLatin1.cls ≠ "java/lang/invoke/MethodHandle" ∧ yJ4_isLatin1.cls ≠ "java/lang/invoke/VarHandle" ∧ (parseMethodDescriptor yJ4_isLatin1.desc).map (fun d => d.parameters.length) = some 0 := by decide +kernel
def wxJ4_isLatin1 (p0 : Nat) (K : XK) (T : XT) (post : Int32 → Prop) : Prop :=
  (((1 : Int32) = 0 →
    post 0) ∧
   (¬ ((1 : Int32) = 0) →
    ((¬ (xi T p0 1) = 0 →
      post 0) ∧
     ((xi T p0 1) = 0 →
      post 1))))
set_option maxHeartbeats 4000000 in
theorem mxJ4_isLatin1 (l : Launch) (G : XG) (b : Nat) (hole : Nat → Prop) (p0 : Nat) (K : XK) (T : XT) (hk_p0 : kd K p0 = 15) (post : Int32 → Prop) (h : wxJ4_isLatin1 p0 K T post) : Met l yJ4_isLatin1 (ws_ yJ4_isLatin1 cJ4_isLatin1 1 (some .boolean)) ({ frames := 0, cells := 0, slots := 0, locals := 0 } : Room) (xPc G b hole [.ref (b + p0)] K T) (xQ G b hole K 0 0 (ρ := Int32) eI (fun r T1 K1 => post r ∧ T1 = T ∧ K1 = K)) 0 0 (xA b hole) := by
  refine Met.ofW (cc := cJ4_isLatin1) (maxL := 1) (ret := (some .boolean)) (by decide) rfl ?_
  intro p e s m args below meth c s₁ B hml hv
  obtain ⟨rfl, hP, hK, hV⟩ := hv
  have hx := B.exec
  have hb := B.bytes
  have hr := B.returns
  have hts := atoms_spec (ws := ws_ yJ4_isLatin1 cJ4_isLatin1 1 (some .boolean)) B.pre
  have hts : ∀ w ∈ lw_all, w.before _ s = true := fun w h => hts w (List.mem_cons_of_mem _ h)
  have hown : s.vm.findClass RJ4 = some m.cls := findClass_of_methodNamed B.named
  have hlocks := B.notSynchronized
  have hb0 : b ≤ s.heap.size := by rw [hP.2.2.2]; exact Nat.le_add_right _ _
  have hS : va_S (xA b hole) s.heap s.heap [] := va_S.rf
  have hl := lv_entry ([.ref (b + p0)]) (n := 1) (Nat.le_of_ble_eq_true rfl)
  rw [lg_entry_eq]
  generalize (lg_sl ([.ref (b + p0)]) ++ List.replicate (1 - (lg_sl ([.ref (b + p0)])).length) Slot.unset).toArray = ls at hl ⊢
  have hl : lv_has ls 1 [(0, .ref (b + p0))] := hl
  unfold wxJ4_isLatin1 at h
  refine va_gets hx hb hV.2.2.2.1.2.2.1 (x_sS hV hS) hown (hts _ q528) (fun _ h9 => h9) dJ4_isLatin1_0 ?_
  refine lv_if_eq (tgt := 17) hx hb dJ4_isLatin1_3 (by decide) (fun c_2 => ?_) (fun c_2 => ?_)
  · have h := h.1 c_2
    refine lv_iconst (v := 0) hx hb dJ4_isLatin1_17 (by decide) ?_
    exact W.zret (v := 0) hx hb hr rfl (fun t ht hW => ⟨⟨0, T, K, rfl, ⟨h, rfl, rfl⟩, kle.rf, rfl, rfl, by rw [ht]; exact hP, va_K.moved hW.alike hK⟩, hS.F ht⟩) hS.2.2 dJ4_isLatin1_18
  · have h := h.2 c_2
    refine lv_aload_n hx hb dJ4_isLatin1_6 rfl (lv_at hl 0 rfl) ?_
    refine x_get (CC := RJ4) (TT := TJ4) (N := 4) (ci := 7) (v := .int (xi T p0 1)) hx hb hts in_J4 hown hK hP hk_p0 (by decide) (by decide) rfl (xE_15 hk_p0) 1 (by decide) q573 rfl rfl dJ4_isLatin1_7 ?_
    refine lv_if_ne (tgt := 17) hx hb dJ4_isLatin1_10 (by decide) (fun c_1 => ?_) (fun c_1 => ?_)
    · have h := h.1 c_1
      refine lv_iconst (v := 0) hx hb dJ4_isLatin1_17 (by decide) ?_
      exact W.zret (v := 0) hx hb hr rfl (fun t ht hW => ⟨⟨0, T, K, rfl, ⟨h, rfl, rfl⟩, kle.rf, rfl, rfl, by rw [ht]; exact hP, va_K.moved hW.alike hK⟩, hS.F ht⟩) hS.2.2 dJ4_isLatin1_18
    · have h := h.2 c_1
      refine lv_iconst (v := 1) hx hb dJ4_isLatin1_13 (by decide) ?_
      refine lv_goto (tgt := 18) hx hb dJ4_isLatin1_14 (by decide) ?_
      exact W.zret (v := 1) hx hb hr rfl (fun t ht hW => ⟨⟨1, T, K, rfl, ⟨h, rfl, rfl⟩, kle.rf, rfl, rfl, by rw [ht]; exact hP, va_K.moved hW.alike hK⟩, hS.F ht⟩) hS.2.2 dJ4_isLatin1_18
