set_option maxRecDepth 100000
theorem cwx_X1_swap : yX1_swap.cls = RX1 ∧ yX1_swap.cls ≠ "java/lang/invoke/MethodHandle" ∧ yX1_swap.cls ≠ "java/lang/invoke/VarHandle" ∧ (parseMethodDescriptor yX1_swap.desc).map (fun d => d.parameters.length) = some 4 := by decide +kernel
def wx1_swap_b67 (p1 : Int32) (p2 : Int32) (p3 : Int32) (p4 : Int32) (Z Y : Nat) (post : Int32 → XT → XK → Prop) (R67 : Int32 → XT → Prop) (x5 : Nat) (x6 : Nat) (x7 : Int32) (K : XK) (T : XT) : Prop :=
      (((xi T x6 2) ≤ x7 →
        ∃ Z_4 Y_5 : Nat, kc K ≤ Z_4 ∧ Z_4 ≤ Z ∧ ks K ≤ Y_5 ∧ Y_5 ≤ Y ∧ wx1_sorted x5 K T Z_4 Y_5 (fun r_1 T_2 K_3 =>
        ∃ Z_9 Y_10 : Nat, kc K_3 ≤ Z_9 ∧ Z_9 ≤ Z ∧ ks K_3 ≤ Y_10 ∧ Y_10 ≤ Y ∧ wx1_lays (some r_1) p4 K_3 T_2 Z_9 Y_10 (fun r_6 T_7 K_8 =>
        post r_6 T_7 (kset K_8 Z Y)))) ∧
       (¬ ((xi T x6 2) ≤ x7) →
        ∃ v_11 : Nat, xr T x6 0 = some v_11 ∧
        ∃ j_12 : Nat, j_12 < kl K v_11 ∧ x7 = nI j_12 ∧
        wx1_exponent (xi T v_11 j_12) p2 K T (fun r_13 =>
        ∃ v_16 : Nat, xr T x6 0 = some v_16 ∧
        ∃ j_17 : Nat, j_17 < kl K v_16 ∧ x7 = nI j_17 ∧
        wx1_exponent (xi T v_16 j_17) p3 K T (fun r_18 =>
        ∃ v_21 : Nat, xr T x6 0 = some v_21 ∧
        ∃ j_22 : Nat, j_22 < kl K v_21 ∧ x7 = nI j_22 ∧
        ∀ x10_23 : Int32, x10_23 = ((xi T v_21 j_22) &&& (((jshl 15 (4 * p2)) ||| (jshl 15 (4 * p3))) ^^^ (-1))) →
        ∃ v_24 : Nat, xr T x6 1 = some v_24 ∧
        ∃ j_25 : Nat, j_25 < kl K v_24 ∧ x7 = nI j_25 ∧
        ∃ j_26 : Nat, j_26 < kl K x5 ∧ ((x10_23 ||| (jshl r_18 (4 * p2))) ||| (jshl r_13 (4 * p3))) = nI j_26 ∧ ∀ T_27 : XT, T_27 = xwi T x5 j_26 (xi T v_24 j_25) →
        ∀ x7_28 : Int32, x7_28 = x7 + 1 →
        R67 x7_28 T_27))))
def wx1_swap_l67 (p1 : Int32) (p2 : Int32) (p3 : Int32) (p4 : Int32) (Z Y : Nat) (post : Int32 → XT → XK → Prop) (x5 : Nat) (x6 : Nat) (x7 : Int32) (K : XK) (T : XT) : Prop := wLoop (fun (R : ((Int32) × (XT)) → Prop) (v : (Int32) × (XT)) => wx1_swap_b67 p1 p2 p3 p4 Z Y post (fun x7 T => R (x7, T)) x5 x6 v.1 K v.2) (x7, T)
def wx1_swap_j50 (p1 : Int32) (p2 : Int32) (p3 : Int32) (p4 : Int32) (Z Y : Nat) (post : Int32 → XT → XK → Prop)  (K : XK) (T : XT) : Prop :=
    wx1_blank  K T (fun r_30 T_31 =>
    ∃ v_33 : Nat, xr T_31 0 18 = some v_33 ∧
    ∃ j_34 : Nat, j_34 < kl K v_33 ∧ p1 = nI j_34 ∧ ∃ v_35 : Nat, xr T_31 v_33 j_34 = some v_35 ∧
    wx1_swap_l67 p1 p2 p3 p4 Z Y post r_30 v_35 0 K T_31)
def wx1_swap (p1 : Int32) (p2 : Int32) (p3 : Int32) (p4 : Int32) (K0 : XK) (T : XT) (Z Y : Nat) (post : Int32 → XT → XK → Prop) : Prop :=
  kc K0 + 1 ≤ Z ∧ ks K0 + 2 ≤ Y ∧ ∀ K_36 : XK, K_36 = knew K0 1 2 2 → ∀ T_37 : XT, T_37 = xnil T (kz K0) →
  ∃ j_38 : Nat, j_38 < kl K_36 (kz K0) ∧ 0 = nI j_38 ∧ ∀ T_39 : XT, T_39 = xwi T_37 (kz K0) j_38 p1 →
  ∃ j_40 : Nat, j_40 < kl K_36 (kz K0) ∧ 1 = nI j_40 ∧ ∀ T_41 : XT, T_41 = xwi T_39 (kz K0) j_40 p4 →
  wx1_is (kz K0) K_36 T_41 (fun r_42 =>
  ((r_42 = 0 →
    wx1_why 0 K_36 T_41 (fun r_45 =>
    wx1_isRefused r_45 K_36 T_41 (fun r_48 T_49 =>
    ((r_48 = 0 →
      wx1_swap_j50 p1 p2 p3 p4 Z Y post  K_36 T_49) ∧
     (¬ (r_48 = 0) →
      post (-1) T_49 (kset K_36 Z Y)))))) ∧
   (¬ (r_42 = 0) →
    wx1_isUnknown p2 K_36 T_41 (fun r_52 =>
    ((r_52 = 0 →
      wx1_why 0 K_36 T_41 (fun r_55 =>
      wx1_isRefused r_55 K_36 T_41 (fun r_58 T_59 =>
      ((r_58 = 0 →
        wx1_swap_j50 p1 p2 p3 p4 Z Y post  K_36 T_59) ∧
       (¬ (r_58 = 0) →
        post (-1) T_59 (kset K_36 Z Y)))))) ∧
     (¬ (r_52 = 0) →
      wx1_isUnknown p3 K_36 T_41 (fun r_62 =>
      ((r_62 = 0 →
        wx1_why 0 K_36 T_41 (fun r_65 =>
        wx1_isRefused r_65 K_36 T_41 (fun r_68 T_69 =>
        ((r_68 = 0 →
          wx1_swap_j50 p1 p2 p3 p4 Z Y post  K_36 T_69) ∧
         (¬ (r_68 = 0) →
          post (-1) T_69 (kset K_36 Z Y)))))) ∧
       (¬ (r_62 = 0) →
        wx1_why 1 K_36 T_41 (fun r_72 =>
        wx1_isRefused r_72 K_36 T_41 (fun r_75 T_76 =>
        ((r_75 = 0 →
          wx1_swap_j50 p1 p2 p3 p4 Z Y post  K_36 T_76) ∧
         (¬ (r_75 = 0) →
          post (-1) T_76 (kset K_36 Z Y))))))))))))))
set_option maxHeartbeats 4000000 in
theorem mx1_swap (l : Launch) (G : XG) (b : Nat) (hole : Nat → Prop) (p1 : Int32) (p2 : Int32) (p3 : Int32) (p4 : Int32) (K0 : XK) (T : XT) (Z Y : Nat) (hZ : kc K0 ≤ Z) (hY : ks K0 ≤ Y)  (post : Int32 → XT → XK → Prop) (h : wx1_swap p1 p2 p3 p4 K0 T Z Y post) : Met l yX1_swap (ws_ yX1_swap cX1_swap 11 (some .int)) ({ frames := 5, cells := (Z - kc K0), slots := (Y - ks K0), locals := 115 } : Room) (xPc G b hole [.ref (b + 0), .int p1, .int p2, .int p3, .int p4] K0 T) (xQ G b hole K0 (Z - kc K0) (Y - ks K0) (ρ := Int32) eI (fun r T1 K1 => post r T1 K1)) (Z - kc K0) (Y - ks K0) (xA b hole) := by
  refine Met.ofW (cc := cX1_swap) (maxL := 11) (ret := (some .int)) (by decide) rfl ?_
  intro p e s m args below meth c s₁ B hml hv
  obtain ⟨rfl, hP, hK, hV⟩ := hv
  have hx := B.exec
  have hb := B.bytes
  have hr := B.returns
  have hts := atoms_spec (ws := ws_ yX1_swap cX1_swap 11 (some .int)) B.pre
  have hts : ∀ w ∈ lw_all, w.before _ s = true := fun w h => hts w (List.mem_cons_of_mem _ h)
  have hown : s.vm.findClass RX1 = some m.cls := findClass_of_methodNamed B.named
  have hlocks := B.notSynchronized
  have hb0 : b ≤ s.heap.size := by rw [hP.2.2.2]; exact Nat.le_add_right _ _
  have hS : va_S (xA b hole) s.heap s.heap [] := va_S.rf
  have hl := lv_entry ([.ref (b + 0), .int p1, .int p2, .int p3, .int p4]) (n := 11) (Nat.le_of_ble_eq_true rfl)
  rw [lg_entry_eq]
  generalize (lg_sl ([.ref (b + 0), .int p1, .int p2, .int p3, .int p4]) ++ List.replicate (11 - (lg_sl ([.ref (b + 0), .int p1, .int p2, .int p3, .int p4])).length) Slot.unset).toArray = ls at hl ⊢
  have hl : lv_has ls 11 [(0, .ref (b + 0)), (1, .int p1), (2, .int p2), (3, .int p3), (4, .int p4)] := hl
  have hle0 : kle K0 K0 := kle.rf
  have L67 : ∀ (x5 : Nat) (x6 : Nat) (x7 : Int32) (T : XT) (K : XK) (cn sn : Nat) (H : Heap) (locs : List Loc) (ls : Array Slot), wx1_swap_l67 p1 p2 p3 p4 Z Y post x5 x6 x7 K T → kle K0 K → kc K0 + cn = kc K → ks K0 + sn = ks K → kc K ≤ Z → ks K ≤ Y → (kd K x5 = 1) → (kd K x6 = 2) → xW G b hole K T H → va_S (xA b hole) s.heap H locs → lv_has ls 11 [(0, .ref (b + 0)), (2, .int p2), (3, .int p3), (4, .int p4), (5, .ref (b + x5)), (6, .ref (b + x6)), (7, .int x7)] → W p l e (headSpec (ws_ yX1_swap cX1_swap 11 (some .int)) ({ frames := 5, cells := (Z - kc K0), slots := (Y - ks K0), locals := 115 } : Room)).room s m ([.ref (b + 0), .int p1, .int p2, .int p3, .int p4] : List Value).toArray below meth c H locs cn sn (MQ below (xQ G b hole K0 (Z - kc K0) (Y - ks K0) (ρ := Int32) eI (fun r T1 K1 => post r T1 K1)) ([.ref (b + 0), .int p1, .int p2, .int p3, .int p4] : List Value).toArray s (Z - kc K0) (Y - ks K0) (xA b hole)) (F0 m 67 ls []) := by
    intro x5 x6 x7 T K cn sn H locs ls h hle0 hcn hsn hzz hyy hk_x5 hk_x6 hP hS hl
    obtain ⟨I67, n67, hI, hstep67⟩ := h
    induction n67 using Nat.strongRecOn generalizing x7 T H locs ls with
    | ind n67 ih67 =>
      have h : wx1_swap_b67 p1 p2 p3 p4 Z Y post (fun x7 T => ∃ mm, mm < n67 ∧ I67 mm (x7, T)) x5 x6 x7 K T := hstep67 n67 _ hI
      clear hI
      unfold wx1_swap_b67 at h
      refine lv_iload hx hb dX1_swap_67 (lv_at hl 6 rfl) ?_
      refine lv_aload hx hb dX1_swap_69 (lv_at hl 5 rfl) ?_
      refine x_get (CC := RX6) (TT := TX6) (N := 3) (ci := 5) (v := .int (xi T x6 2)) hx hb hts in_X6 hown hK hP hk_x6 (by decide) (by decide) rfl (xE_2 hk_x6) 2 (by decide) q372 rfl rfl dX1_swap_71 ?_
      refine lv_icmp_ge (tgt := 164) hx hb dX1_swap_74 (by decide) (fun c_29 => ?_) (fun c_29 => ?_)
      · have h := h.1 c_29
        refine lv_aload_n hx hb dX1_swap_164 rfl (lv_at hl 0 rfl) ?_
        refine lv_aload_n hx hb dX1_swap_165 rfl (lv_at hl 0 rfl) ?_
        refine lv_aload hx hb dX1_swap_166 (lv_at hl 4 rfl) ?_
        obtain ⟨Z_4, Y_5, hz1, hz2, hy1, hy2, h⟩ := h
        refine x_cV (k := 0) (As := [.ref (b + x5)]) (rest := [.ref (b + 0)]) ⟨hx, hb, hml, hown, hts⟩ (mx1_sorted l G b hole x5 K T Z_4 Y_5 hz1 hy1 hk_x5 _ h) (cwV 1 hts (lw_V q1067 q750 qs23 q118 q751) rfl rfl rfl cwx_X1_sorted ⟨Nat.le_of_ble_eq_true rfl, Nat.le_of_ble_eq_true rfl⟩) (x_recv (CC := RX1) (ci := 0) hK hP (xs_0 hP) (by decide) (by decide) rfl (xE_8 (xs_0 hP))) hK hV hb0 hP hS rfl hl.1 rfl (Nat.le_of_ble_eq_true rfl) dX1_swap_168 ⟨by first | exact Nat.zero_le _ | (show _ + _ ≤ Z - kc K0; omega), by first | exact Nat.zero_le _ | (show _ + _ ≤ Y - ks K0; omega)⟩ (fun r_1 T1 K1 H locs h hle1 hc1 hs1 hP hS => ?_)
        obtain ⟨h, hk_r_1⟩ := h
        generalize T1 = T_2 at h hP
        generalize K1 = K_3 at h hP hle1 hc1 hs1 hk_r_1
        have hk_x5 : kd K_3 x5 = 1 := hle1.kd hk_x5
        have hk_x6 : kd K_3 x6 = 2 := hle1.kd hk_x6
        have hle0 := hle0.tr hle1
        have hcn : kc K0 + (cn + (Z_4 - kc K)) = kc K_3 := by omega
        have hsn : ks K0 + (sn + (Y_5 - ks K)) = ks K_3 := by omega
        have hzz : kc K_3 ≤ Z := by omega
        have hyy : ks K_3 ≤ Y := by omega
        refine lv_iload hx hb dX1_swap_171 (lv_at hl 3 rfl) ?_
        obtain ⟨Z_9, Y_10, hz1, hz2, hy1, hy2, h⟩ := h
        refine x_cV (k := 0) (As := [.ref (b + r_1), .int p4]) (rest := []) ⟨hx, hb, hml, hown, hts⟩ (mx1_lays l G b hole (some r_1) p4 K_3 T_2 Z_9 Y_10 hz1 hy1 (fun _ e9 => by cases e9; exact hk_r_1) _ h) (cwV 2 hts (lw_V q995 q997 qs43 q118 q998) rfl rfl rfl cwx_X1_lays ⟨Nat.le_of_ble_eq_true rfl, Nat.le_of_ble_eq_true rfl⟩) (x_recv (CC := RX1) (ci := 0) hK hP (xs_0 hP) (by decide) (by decide) rfl (xE_8 (xs_0 hP))) hK hV hb0 hP hS rfl hl.1 rfl (Nat.le_of_ble_eq_true rfl) dX1_swap_173 ⟨by first | exact Nat.zero_le _ | (show _ + _ ≤ Z - kc K0; omega), by first | exact Nat.zero_le _ | (show _ + _ ≤ Y - ks K0; omega)⟩ (fun r_6 T1 K1 H locs h hle1 hc1 hs1 hP hS => ?_)
        generalize T1 = T_7 at h hP
        generalize K1 = K_8 at h hP hle1 hc1 hs1
        have hk_x5 : kd K_8 x5 = 1 := hle1.kd hk_x5
        have hk_x6 : kd K_8 x6 = 2 := hle1.kd hk_x6
        have hle0 := hle0.tr hle1
        have hcn : kc K0 + ((cn + (Z_4 - kc K)) + (Z_9 - kc K_3)) = kc K_8 := by omega
        have hsn : ks K0 + ((sn + (Y_5 - ks K)) + (Y_10 - ks K_3)) = ks K_8 := by omega
        have hzz : kc K_8 ≤ Z := by omega
        have hyy : ks K_8 ≤ Y := by omega
        refine W.widen (k := Z - kc K0) (n := Y - ks K0) (by omega) (by omega) ?_
        exact W.iret (v := r_6) hx hb hr (fun t ht hW => ⟨⟨r_6, T_7, (kset K_8 Z Y), rfl, h, hle0, (by show Z = _; omega), (by show Y = _; omega), by rw [ht]; exact hP, va_K.moved hW.alike hK⟩, hS.F ht⟩) hS.2.2 dX1_swap_176
      · have h := h.2 c_29
        refine lv_aload hx hb dX1_swap_77 (lv_at hl 5 rfl) ?_
        obtain ⟨v_11, ev_11, h⟩ := h
        refine x_get (CC := RX6) (TT := TX6) (N := 3) (ci := 5) (v := rfv b (xr T x6 0)) hx hb hts in_X6 hown hK hP hk_x6 (by decide) (by decide) rfl (xE_2 hk_x6) 0 (by decide) q366 rfl rfl dX1_swap_79 ?_
        refine x_some ev_11 ?_
        have hk_v_11 : kd K v_11 = 1 := hP.ty hk_x6 (by decide) ev_11
        refine lv_iload hx hb dX1_swap_82 (lv_at hl 6 rfl) ?_
        obtain ⟨j_12, hj_12, ej_12, h⟩ := h
        refine x_iald hx hb hK hP hk_v_11 ej_12 hj_12 dX1_swap_84 ?_
        refine lv_iload_n hx hb dX1_swap_85 rfl (lv_at hl 1 rfl) ?_
        refine x_cS (As := [.int (xi T v_11 j_12), .int p2]) (rest := []) ⟨hx, hb, hml, hown, hts⟩ (mx1_exponent l G b hole (xi T v_11 j_12) p2 K T  _ h) (va_cwS 2 hts (lw_S q723 q724 q118 q725) rfl rfl rfl cwx_X1_exponent ⟨Nat.le_of_ble_eq_true rfl, Nat.le_of_ble_eq_true rfl⟩) hK hV hb0 hP hS rfl hl.1 rfl (Nat.le_of_ble_eq_true rfl) dX1_swap_86 ⟨by first | exact Nat.zero_le _ | (show _ + _ ≤ Z - kc K0; omega), by first | exact Nat.zero_le _ | (show _ + _ ≤ Y - ks K0; omega)⟩ (fun r_13 T1 K1 H locs h hle1 hc1 hs1 hP hS => ?_)
        obtain ⟨h, hTe, hKe⟩ := h
        rw [hTe, hKe] at hP
        refine lv_istore (lv' := [(8, .int r_13), (0, .ref (b + 0)), (2, .int p2), (3, .int p3), (4, .int p4), (5, .ref (b + x5)), (6, .ref (b + x6)), (7, .int x7)]) hx hb dX1_swap_89 hl (by decide) rfl (fun ls hl => ?_)
        refine lv_aload hx hb dX1_swap_91 (lv_at hl 6 rfl) ?_
        obtain ⟨v_16, ev_16, h⟩ := h
        refine x_get (CC := RX6) (TT := TX6) (N := 3) (ci := 5) (v := rfv b (xr T x6 0)) hx hb hts in_X6 hown hK hP hk_x6 (by decide) (by decide) rfl (xE_2 hk_x6) 0 (by decide) q366 rfl rfl dX1_swap_93 ?_
        refine x_some ev_16 ?_
        have hk_v_16 : kd K v_16 = 1 := hP.ty hk_x6 (by decide) ev_16
        refine lv_iload hx hb dX1_swap_96 (lv_at hl 7 rfl) ?_
        obtain ⟨j_17, hj_17, ej_17, h⟩ := h
        refine x_iald hx hb hK hP hk_v_16 ej_17 hj_17 dX1_swap_98 ?_
        refine lv_iload_n hx hb dX1_swap_99 rfl (lv_at hl 3 rfl) ?_
        refine x_cS (As := [.int (xi T v_16 j_17), .int p3]) (rest := []) ⟨hx, hb, hml, hown, hts⟩ (mx1_exponent l G b hole (xi T v_16 j_17) p3 K T  _ h) (va_cwS 2 hts (lw_S q723 q724 q118 q725) rfl rfl rfl cwx_X1_exponent ⟨Nat.le_of_ble_eq_true rfl, Nat.le_of_ble_eq_true rfl⟩) hK hV hb0 hP hS rfl hl.1 rfl (Nat.le_of_ble_eq_true rfl) dX1_swap_100 ⟨by first | exact Nat.zero_le _ | (show _ + _ ≤ Z - kc K0; omega), by first | exact Nat.zero_le _ | (show _ + _ ≤ Y - ks K0; omega)⟩ (fun r_18 T1 K1 H locs h hle1 hc1 hs1 hP hS => ?_)
        obtain ⟨h, hTe, hKe⟩ := h
        rw [hTe, hKe] at hP
        refine lv_istore (lv' := [(9, .int r_18), (8, .int r_13), (0, .ref (b + 0)), (2, .int p2), (3, .int p3), (4, .int p4), (5, .ref (b + x5)), (6, .ref (b + x6)), (7, .int x7)]) hx hb dX1_swap_103 hl (by decide) rfl (fun ls hl => ?_)
        refine lv_aload hx hb dX1_swap_105 (lv_at hl 7 rfl) ?_
        obtain ⟨v_21, ev_21, h⟩ := h
        refine x_get (CC := RX6) (TT := TX6) (N := 3) (ci := 5) (v := rfv b (xr T x6 0)) hx hb hts in_X6 hown hK hP hk_x6 (by decide) (by decide) rfl (xE_2 hk_x6) 0 (by decide) q366 rfl rfl dX1_swap_107 ?_
        refine x_some ev_21 ?_
        have hk_v_21 : kd K v_21 = 1 := hP.ty hk_x6 (by decide) ev_21
        refine lv_iload hx hb dX1_swap_110 (lv_at hl 8 rfl) ?_
        obtain ⟨j_22, hj_22, ej_22, h⟩ := h
        refine x_iald hx hb hK hP hk_v_21 ej_22 hj_22 dX1_swap_112 ?_
        refine lv_bipush (v := 15) hx hb dX1_swap_113 (by decide) ?_
        refine lv_iconst (v := 4) hx hb dX1_swap_115 (by decide) ?_
        refine lv_iload_n hx hb dX1_swap_116 rfl (lv_at hl 3 rfl) ?_
        refine lv_imul hx hb dX1_swap_117 ?_
        refine m_ishl hx hb dX1_swap_118 ?_
        refine lv_bipush (v := 15) hx hb dX1_swap_119 (by decide) ?_
        refine lv_iconst (v := 4) hx hb dX1_swap_121 (by decide) ?_
        refine lv_iload_n hx hb dX1_swap_122 rfl (lv_at hl 4 rfl) ?_
        refine lv_imul hx hb dX1_swap_123 ?_
        refine m_ishl hx hb dX1_swap_124 ?_
        refine lv_ior hx hb dX1_swap_125 ?_
        refine lv_iconst (v := (-1)) hx hb dX1_swap_126 (by decide) ?_
        refine lv_ixor hx hb dX1_swap_127 ?_
        refine lv_iand hx hb dX1_swap_128 ?_
        refine lv_topi (fun x10_23 ex10_23 => ?_)
        have h := h x10_23 ex10_23
        refine lv_istore (lv' := [(10, .int x10_23), (9, .int r_18), (8, .int r_13), (0, .ref (b + 0)), (2, .int p2), (3, .int p3), (4, .int p4), (5, .ref (b + x5)), (6, .ref (b + x6)), (7, .int x7)]) hx hb dX1_swap_129 hl (by decide) rfl (fun ls hl => ?_)
        refine lv_aload hx hb dX1_swap_131 (lv_at hl 7 rfl) ?_
        refine lv_iload hx hb dX1_swap_133 (lv_at hl 0 rfl) ?_
        refine lv_iload hx hb dX1_swap_135 (lv_at hl 1 rfl) ?_
        refine lv_iconst (v := 4) hx hb dX1_swap_137 (by decide) ?_
        refine lv_iload_n hx hb dX1_swap_138 rfl (lv_at hl 4 rfl) ?_
        refine lv_imul hx hb dX1_swap_139 ?_
        refine m_ishl hx hb dX1_swap_140 ?_
        refine lv_ior hx hb dX1_swap_141 ?_
        refine lv_iload hx hb dX1_swap_142 (lv_at hl 2 rfl) ?_
        refine lv_iconst (v := 4) hx hb dX1_swap_144 (by decide) ?_
        refine lv_iload_n hx hb dX1_swap_145 rfl (lv_at hl 5 rfl) ?_
        refine lv_imul hx hb dX1_swap_146 ?_
        refine m_ishl hx hb dX1_swap_147 ?_
        refine lv_ior hx hb dX1_swap_148 ?_
        refine lv_aload hx hb dX1_swap_149 (lv_at hl 8 rfl) ?_
        obtain ⟨v_24, ev_24, h⟩ := h
        refine x_get (CC := RX6) (TT := TX6) (N := 3) (ci := 5) (v := rfv b (xr T x6 1)) hx hb hts in_X6 hown hK hP hk_x6 (by decide) (by decide) rfl (xE_2 hk_x6) 1 (by decide) q369 rfl rfl dX1_swap_151 ?_
        refine x_some ev_24 ?_
        have hk_v_24 : kd K v_24 = 1 := hP.ty hk_x6 (by decide) ev_24
        refine lv_iload hx hb dX1_swap_154 (lv_at hl 9 rfl) ?_
        obtain ⟨j_25, hj_25, ej_25, h⟩ := h
        refine x_iald hx hb hK hP hk_v_24 ej_25 hj_25 dX1_swap_156 ?_
        obtain ⟨j_26, hj_26, ej_26, h⟩ := h
        obtain ⟨T_27, eT_27⟩ : ∃ z : XT, z = xwi T x5 j_26 (xi T v_24 j_25) := ⟨_, rfl⟩
        have h := h T_27 eT_27
        refine x_iast hx hb hK hP hS hk_x5 ej_26 hj_26 dX1_swap_157 (fun H locs hP hS => ?_)
        rw [← eT_27] at hP
        obtain ⟨x7_28, ex7_28⟩ : ∃ y : Int32, y = x7 + 1 := ⟨_, rfl⟩
        have h := h x7_28 ex7_28
        refine lv_iinc (v := x7_28) (lv' := [(7, .int x7_28), (10, .int x10_23), (9, .int r_18), (8, .int r_13), (0, .ref (b + 0)), (2, .int p2), (3, .int p3), (4, .int p4), (5, .ref (b + x5)), (6, .ref (b + x6))]) hx hb dX1_swap_158 hl (k := 9) rfl (by rw [ex7_28]; rfl) (by decide) rfl (fun ls hl => ?_)
        refine lv_goto (tgt := 67) hx hb dX1_swap_161 (by decide) ?_
        obtain ⟨mm, hmm, h⟩ := h
        exact ih67 mm hmm _ _ _ _ _  hP hS (lv_sub hl [4, 5, 6, 7, 8, 9, 0] rfl) h
  have J50 : ∀  (T : XT) (K : XK) (cn sn : Nat) (H : Heap) (locs : List Loc) (ls : Array Slot), wx1_swap_j50 p1 p2 p3 p4 Z Y post  K T → kle K0 K → kc K0 + cn = kc K → ks K0 + sn = ks K → kc K ≤ Z → ks K ≤ Y → xW G b hole K T H → va_S (xA b hole) s.heap H locs → lv_has ls 11 [(0, .ref (b + 0)), (1, .int p1), (2, .int p2), (3, .int p3), (4, .int p4)] → W p l e (headSpec (ws_ yX1_swap cX1_swap 11 (some .int)) ({ frames := 5, cells := (Z - kc K0), slots := (Y - ks K0), locals := 115 } : Room)).room s m ([.ref (b + 0), .int p1, .int p2, .int p3, .int p4] : List Value).toArray below meth c H locs cn sn (MQ below (xQ G b hole K0 (Z - kc K0) (Y - ks K0) (ρ := Int32) eI (fun r T1 K1 => post r T1 K1)) ([.ref (b + 0), .int p1, .int p2, .int p3, .int p4] : List Value).toArray s (Z - kc K0) (Y - ks K0) (xA b hole)) (F0 m 50 ls []) := by
    intro  T K cn sn H locs ls h hle0 hcn hsn hzz hyy hP hS hl
    unfold wx1_swap_j50 at h
    refine lv_aload_n hx hb dX1_swap_50 rfl (lv_at hl 0 rfl) ?_
    refine x_cV (k := 0) (As := []) (rest := []) ⟨hx, hb, hml, hown, hts⟩ (mx1_blank l G b hole  K T  _ h) (cwV 0 hts (lw_V q835 q739 qs21 q118 q740) rfl rfl rfl cwx_X1_blank ⟨Nat.le_of_ble_eq_true rfl, Nat.le_of_ble_eq_true rfl⟩) (x_recv (CC := RX1) (ci := 0) hK hP (xs_0 hP) (by decide) (by decide) rfl (xE_8 (xs_0 hP))) hK hV hb0 hP hS rfl hl.1 rfl (Nat.le_of_ble_eq_true rfl) dX1_swap_51 ⟨by first | exact Nat.zero_le _ | (show _ + _ ≤ Z - kc K0; omega), by first | exact Nat.zero_le _ | (show _ + _ ≤ Y - ks K0; omega)⟩ (fun r_30 T1 K1 H locs h hle1 hc1 hs1 hP hS => ?_)
    obtain ⟨h, hk_r_30, hKe⟩ := h
    rw [hKe] at hP
    generalize T1 = T_31 at h hP
    rw [hKe] at hk_r_30
    refine lv_astore (lv' := [(5, .ref (b + r_30)), (0, .ref (b + 0)), (1, .int p1), (2, .int p2), (3, .int p3), (4, .int p4)]) hx hb dX1_swap_54 hl (by decide) rfl (fun ls hl => ?_)
    refine lv_aload_n hx hb dX1_swap_56 rfl (lv_at hl 1 rfl) ?_
    obtain ⟨v_33, ev_33, h⟩ := h
    refine x_get (CC := RX1) (TT := TX1) (N := 26) (ci := 0) (v := rfv b (xr T_31 0 18)) hx hb hts in_X1 hown hK hP (xs_0 hP) (by decide) (by decide) rfl (xE_8 (xs_0 hP)) 18 (by decide) q405 rfl rfl dX1_swap_57 ?_
    refine x_some ev_33 ?_
    have hk_v_33 : kd K v_33 = 3 := hP.ty (xs_0 hP) (by decide) ev_33
    refine lv_iload_n hx hb dX1_swap_60 rfl (lv_at hl 2 rfl) ?_
    obtain ⟨j_34, hj_34, ej_34, v_35, ev_35, h⟩ := h
    refine x_aald3 hx hb hK hP hk_v_33 ej_34 hj_34 dX1_swap_61 ?_
    refine x_some ev_35 ?_
    have hk_v_35 : kd K v_35 = 2 := hP.ty hk_v_33 (by decide) ev_35
    refine lv_astore (lv' := [(6, .ref (b + v_35)), (5, .ref (b + r_30)), (0, .ref (b + 0)), (1, .int p1), (2, .int p2), (3, .int p3), (4, .int p4)]) hx hb dX1_swap_62 hl (by decide) rfl (fun ls hl => ?_)
    refine lv_iconst (v := 0) hx hb dX1_swap_64 (by decide) ?_
    refine lv_istore (lv' := [(7, .int 0), (6, .ref (b + v_35)), (5, .ref (b + r_30)), (0, .ref (b + 0)), (1, .int p1), (2, .int p2), (3, .int p3), (4, .int p4)]) hx hb dX1_swap_65 hl (by decide) rfl (fun ls hl => ?_)
    exact L67 _ _ _ _ _ _ _ _ _ _ h hle0 hcn hsn hzz hyy hk_r_30 hk_v_35 hP hS (lv_sub hl [3, 5, 6, 7, 2, 1, 0] rfl)
  have hcn : kc K0 + 0 = kc K0 := rfl
  have hsn : ks K0 + 0 = ks K0 := rfl
  have hzz := hZ
  have hyy := hY
  unfold wx1_swap at h
  refine lv_aload_n hx hb dX1_swap_0 rfl (lv_at hl 0 rfl) ?_
  refine lv_aload_n hx hb dX1_swap_1 rfl (lv_at hl 0 rfl) ?_
  refine lv_iconst (v := 2) hx hb dX1_swap_2 (by decide) ?_
  obtain ⟨hc1, hs1, h⟩ := h
  obtain ⟨K_36, eK_36⟩ : ∃ z : XK, z = knew K0 1 2 2 := ⟨_, rfl⟩
  obtain ⟨T_37, eT_37⟩ : ∃ z : XT, z = xnil T (kz K0) := ⟨_, rfl⟩
  have h := h K_36 eK_36 T_37 eT_37
  have hle1 : kle K0 K_36 := by rw [eK_36]; exact kle.new hP.2.2.1 _ _ _
  refine x_newai (N := 2) hx hb hts q170 hK hP hS (by decide) (by decide) (by show _ + 1 ≤ Z - kc K0; omega) (by show _ + _ ≤ Y - ks K0; omega) dX1_swap_3 (fun H hP hS => ?_)
  rw [← eK_36, ← eT_37] at hP
  have hk_n36 : kd K_36 (kz K0) = 1 := by rw [eK_36]; exact knew_kd
  have hle0 := hle0.tr hle1
  have hcn : kc K0 + (0 + 1) = kc K_36 := by rw [eK_36]; show _ = kc K0 + 1; omega
  have hsn : ks K0 + (0 + 2) = ks K_36 := by rw [eK_36]; show _ = ks K0 + 2; omega
  have hzz : kc K_36 ≤ Z := by rw [eK_36]; exact hc1
  have hyy : ks K_36 ≤ Y := by rw [eK_36]; exact hs1
  refine lv_dup hx hb dX1_swap_5 rfl ?_
  refine lv_iconst (v := 0) hx hb dX1_swap_6 (by decide) ?_
  refine lv_iload_n hx hb dX1_swap_7 rfl (lv_at hl 1 rfl) ?_
  obtain ⟨j_38, hj_38, ej_38, h⟩ := h
  obtain ⟨T_39, eT_39⟩ : ∃ z : XT, z = xwi T_37 (kz K0) j_38 p1 := ⟨_, rfl⟩
  have h := h T_39 eT_39
  refine x_iast hx hb hK hP hS hk_n36 ej_38 hj_38 dX1_swap_8 (fun H locs hP hS => ?_)
  rw [← eT_39] at hP
  refine lv_dup hx hb dX1_swap_9 rfl ?_
  refine lv_iconst (v := 1) hx hb dX1_swap_10 (by decide) ?_
  refine lv_iload hx hb dX1_swap_11 (lv_at hl 4 rfl) ?_
  obtain ⟨j_40, hj_40, ej_40, h⟩ := h
  obtain ⟨T_41, eT_41⟩ : ∃ z : XT, z = xwi T_39 (kz K0) j_40 p4 := ⟨_, rfl⟩
  have h := h T_41 eT_41
  refine x_iast hx hb hK hP hS hk_n36 ej_40 hj_40 dX1_swap_13 (fun H locs hP hS => ?_)
  rw [← eT_41] at hP
  refine x_cS (As := [.ref (b + (kz K0))]) (rest := [.ref (b + 0), .ref (b + 0)]) ⟨hx, hb, hml, hown, hts⟩ (mx1_is l G b hole (kz K0) K_36 T_41 hk_n36 _ h) (va_cwS 1 hts (lw_S q793 q794 q118 q795) rfl rfl rfl cwx_X1_is ⟨Nat.le_of_ble_eq_true rfl, Nat.le_of_ble_eq_true rfl⟩) hK hV hb0 hP hS rfl hl.1 rfl (Nat.le_of_ble_eq_true rfl) dX1_swap_14 ⟨by first | exact Nat.zero_le _ | (show _ + _ ≤ Z - kc K0; omega), by first | exact Nat.zero_le _ | (show _ + _ ≤ Y - ks K0; omega)⟩ (fun r_42 T1 K1 H locs h hle1 hc1 hs1 hP hS => ?_)
  obtain ⟨h, hTe, hKe⟩ := h
  rw [hTe, hKe] at hP
  refine lv_if_eq (tgt := 38) hx hb dX1_swap_17 (by decide) (fun c_81 => ?_) (fun c_81 => ?_)
  · have h := h.1 c_81
    refine lv_iconst (v := 0) hx hb dX1_swap_38 (by decide) ?_
    refine x_cV (k := 0) (As := [.int 0]) (rest := [.ref (b + 0)]) ⟨hx, hb, hml, hown, hts⟩ (mx1_why l G b hole 0 K_36 T_41  _ h) (cwV 1 hts (lw_V q769 q771 qs24 q118 q772) rfl rfl rfl cwx_X1_why ⟨Nat.le_of_ble_eq_true rfl, Nat.le_of_ble_eq_true rfl⟩) (x_recv (CC := RX1) (ci := 0) hK hP (xs_0 hP) (by decide) (by decide) rfl (xE_8 (xs_0 hP))) hK hV hb0 hP hS rfl hl.1 rfl (Nat.le_of_ble_eq_true rfl) dX1_swap_39 ⟨by first | exact Nat.zero_le _ | (show _ + _ ≤ Z - kc K0; omega), by first | exact Nat.zero_le _ | (show _ + _ ≤ Y - ks K0; omega)⟩ (fun r_45 T1 K1 H locs h hle1 hc1 hs1 hP hS => ?_)
    obtain ⟨h, hTe, hKe⟩ := h
    rw [hTe, hKe] at hP
    refine x_cV (k := 0) (As := [.int r_45]) (rest := []) ⟨hx, hb, hml, hown, hts⟩ (mx1_isRefused l G b hole r_45 K_36 T_41  _ h) (cwV 1 hts (lw_V q777 q779 qs26 q118 q780) rfl rfl rfl cwx_X1_isRefused ⟨Nat.le_of_ble_eq_true rfl, Nat.le_of_ble_eq_true rfl⟩) (x_recv (CC := RX1) (ci := 0) hK hP (xs_0 hP) (by decide) (by decide) rfl (xE_8 (xs_0 hP))) hK hV hb0 hP hS rfl hl.1 rfl (Nat.le_of_ble_eq_true rfl) dX1_swap_42 ⟨by first | exact Nat.zero_le _ | (show _ + _ ≤ Z - kc K0; omega), by first | exact Nat.zero_le _ | (show _ + _ ≤ Y - ks K0; omega)⟩ (fun r_48 T1 K1 H locs h hle1 hc1 hs1 hP hS => ?_)
    obtain ⟨h, hKe⟩ := h
    rw [hKe] at hP
    generalize T1 = T_49 at h hP
    refine lv_if_eq (tgt := 50) hx hb dX1_swap_45 (by decide) (fun c_51 => ?_) (fun c_51 => ?_)
    · have h := h.1 c_51
      exact J50 _ _ _ _ _ _ _ h hle0 hcn hsn hzz hyy hP hS (lv_sub hl [0, 1, 2, 3, 4] rfl)
    · have h := h.2 c_51
      refine lv_iconst (v := (-1)) hx hb dX1_swap_48 (by decide) ?_
      refine W.widen (k := Z - kc K0) (n := Y - ks K0) (by omega) (by omega) ?_
      exact W.iret (v := (-1)) hx hb hr (fun t ht hW => ⟨⟨(-1), T_49, (kset K_36 Z Y), rfl, h, hle0, (by show Z = _; omega), (by show Y = _; omega), by rw [ht]; exact hP, va_K.moved hW.alike hK⟩, hS.F ht⟩) hS.2.2 dX1_swap_49
  · have h := h.2 c_81
    refine lv_iload_n hx hb dX1_swap_20 rfl (lv_at hl 2 rfl) ?_
    refine x_cS (As := [.int p2]) (rest := [.ref (b + 0), .ref (b + 0)]) ⟨hx, hb, hml, hown, hts⟩ (mx1_isUnknown l G b hole p2 K_36 T_41  _ h) (va_cwS 1 hts (lw_S q816 q817 q118 q818) rfl rfl rfl cwx_X1_isUnknown ⟨Nat.le_of_ble_eq_true rfl, Nat.le_of_ble_eq_true rfl⟩) hK hV hb0 hP hS rfl hl.1 rfl (Nat.le_of_ble_eq_true rfl) dX1_swap_21 ⟨by first | exact Nat.zero_le _ | (show _ + _ ≤ Z - kc K0; omega), by first | exact Nat.zero_le _ | (show _ + _ ≤ Y - ks K0; omega)⟩ (fun r_52 T1 K1 H locs h hle1 hc1 hs1 hP hS => ?_)
    obtain ⟨h, hTe, hKe⟩ := h
    rw [hTe, hKe] at hP
    refine lv_if_eq (tgt := 38) hx hb dX1_swap_24 (by decide) (fun c_80 => ?_) (fun c_80 => ?_)
    · have h := h.1 c_80
      refine lv_iconst (v := 0) hx hb dX1_swap_38 (by decide) ?_
      refine x_cV (k := 0) (As := [.int 0]) (rest := [.ref (b + 0)]) ⟨hx, hb, hml, hown, hts⟩ (mx1_why l G b hole 0 K_36 T_41  _ h) (cwV 1 hts (lw_V q769 q771 qs24 q118 q772) rfl rfl rfl cwx_X1_why ⟨Nat.le_of_ble_eq_true rfl, Nat.le_of_ble_eq_true rfl⟩) (x_recv (CC := RX1) (ci := 0) hK hP (xs_0 hP) (by decide) (by decide) rfl (xE_8 (xs_0 hP))) hK hV hb0 hP hS rfl hl.1 rfl (Nat.le_of_ble_eq_true rfl) dX1_swap_39 ⟨by first | exact Nat.zero_le _ | (show _ + _ ≤ Z - kc K0; omega), by first | exact Nat.zero_le _ | (show _ + _ ≤ Y - ks K0; omega)⟩ (fun r_55 T1 K1 H locs h hle1 hc1 hs1 hP hS => ?_)
      obtain ⟨h, hTe, hKe⟩ := h
      rw [hTe, hKe] at hP
      refine x_cV (k := 0) (As := [.int r_55]) (rest := []) ⟨hx, hb, hml, hown, hts⟩ (mx1_isRefused l G b hole r_55 K_36 T_41  _ h) (cwV 1 hts (lw_V q777 q779 qs26 q118 q780) rfl rfl rfl cwx_X1_isRefused ⟨Nat.le_of_ble_eq_true rfl, Nat.le_of_ble_eq_true rfl⟩) (x_recv (CC := RX1) (ci := 0) hK hP (xs_0 hP) (by decide) (by decide) rfl (xE_8 (xs_0 hP))) hK hV hb0 hP hS rfl hl.1 rfl (Nat.le_of_ble_eq_true rfl) dX1_swap_42 ⟨by first | exact Nat.zero_le _ | (show _ + _ ≤ Z - kc K0; omega), by first | exact Nat.zero_le _ | (show _ + _ ≤ Y - ks K0; omega)⟩ (fun r_58 T1 K1 H locs h hle1 hc1 hs1 hP hS => ?_)
      obtain ⟨h, hKe⟩ := h
      rw [hKe] at hP
      generalize T1 = T_59 at h hP
      refine lv_if_eq (tgt := 50) hx hb dX1_swap_45 (by decide) (fun c_61 => ?_) (fun c_61 => ?_)
      · have h := h.1 c_61
        exact J50 _ _ _ _ _ _ _ h hle0 hcn hsn hzz hyy hP hS (lv_sub hl [0, 1, 2, 3, 4] rfl)
      · have h := h.2 c_61
        refine lv_iconst (v := (-1)) hx hb dX1_swap_48 (by decide) ?_
        refine W.widen (k := Z - kc K0) (n := Y - ks K0) (by omega) (by omega) ?_
        exact W.iret (v := (-1)) hx hb hr (fun t ht hW => ⟨⟨(-1), T_59, (kset K_36 Z Y), rfl, h, hle0, (by show Z = _; omega), (by show Y = _; omega), by rw [ht]; exact hP, va_K.moved hW.alike hK⟩, hS.F ht⟩) hS.2.2 dX1_swap_49
    · have h := h.2 c_80
      refine lv_iload_n hx hb dX1_swap_27 rfl (lv_at hl 3 rfl) ?_
      refine x_cS (As := [.int p3]) (rest := [.ref (b + 0), .ref (b + 0)]) ⟨hx, hb, hml, hown, hts⟩ (mx1_isUnknown l G b hole p3 K_36 T_41  _ h) (va_cwS 1 hts (lw_S q816 q817 q118 q818) rfl rfl rfl cwx_X1_isUnknown ⟨Nat.le_of_ble_eq_true rfl, Nat.le_of_ble_eq_true rfl⟩) hK hV hb0 hP hS rfl hl.1 rfl (Nat.le_of_ble_eq_true rfl) dX1_swap_28 ⟨by first | exact Nat.zero_le _ | (show _ + _ ≤ Z - kc K0; omega), by first | exact Nat.zero_le _ | (show _ + _ ≤ Y - ks K0; omega)⟩ (fun r_62 T1 K1 H locs h hle1 hc1 hs1 hP hS => ?_)
      obtain ⟨h, hTe, hKe⟩ := h
      rw [hTe, hKe] at hP
      refine lv_if_eq (tgt := 38) hx hb dX1_swap_31 (by decide) (fun c_79 => ?_) (fun c_79 => ?_)
      · have h := h.1 c_79
        refine lv_iconst (v := 0) hx hb dX1_swap_38 (by decide) ?_
        refine x_cV (k := 0) (As := [.int 0]) (rest := [.ref (b + 0)]) ⟨hx, hb, hml, hown, hts⟩ (mx1_why l G b hole 0 K_36 T_41  _ h) (cwV 1 hts (lw_V q769 q771 qs24 q118 q772) rfl rfl rfl cwx_X1_why ⟨Nat.le_of_ble_eq_true rfl, Nat.le_of_ble_eq_true rfl⟩) (x_recv (CC := RX1) (ci := 0) hK hP (xs_0 hP) (by decide) (by decide) rfl (xE_8 (xs_0 hP))) hK hV hb0 hP hS rfl hl.1 rfl (Nat.le_of_ble_eq_true rfl) dX1_swap_39 ⟨by first | exact Nat.zero_le _ | (show _ + _ ≤ Z - kc K0; omega), by first | exact Nat.zero_le _ | (show _ + _ ≤ Y - ks K0; omega)⟩ (fun r_65 T1 K1 H locs h hle1 hc1 hs1 hP hS => ?_)
        obtain ⟨h, hTe, hKe⟩ := h
        rw [hTe, hKe] at hP
        refine x_cV (k := 0) (As := [.int r_65]) (rest := []) ⟨hx, hb, hml, hown, hts⟩ (mx1_isRefused l G b hole r_65 K_36 T_41  _ h) (cwV 1 hts (lw_V q777 q779 qs26 q118 q780) rfl rfl rfl cwx_X1_isRefused ⟨Nat.le_of_ble_eq_true rfl, Nat.le_of_ble_eq_true rfl⟩) (x_recv (CC := RX1) (ci := 0) hK hP (xs_0 hP) (by decide) (by decide) rfl (xE_8 (xs_0 hP))) hK hV hb0 hP hS rfl hl.1 rfl (Nat.le_of_ble_eq_true rfl) dX1_swap_42 ⟨by first | exact Nat.zero_le _ | (show _ + _ ≤ Z - kc K0; omega), by first | exact Nat.zero_le _ | (show _ + _ ≤ Y - ks K0; omega)⟩ (fun r_68 T1 K1 H locs h hle1 hc1 hs1 hP hS => ?_)
        obtain ⟨h, hKe⟩ := h
        rw [hKe] at hP
        generalize T1 = T_69 at h hP
        refine lv_if_eq (tgt := 50) hx hb dX1_swap_45 (by decide) (fun c_71 => ?_) (fun c_71 => ?_)
        · have h := h.1 c_71
          exact J50 _ _ _ _ _ _ _ h hle0 hcn hsn hzz hyy hP hS (lv_sub hl [0, 1, 2, 3, 4] rfl)
        · have h := h.2 c_71
          refine lv_iconst (v := (-1)) hx hb dX1_swap_48 (by decide) ?_
          refine W.widen (k := Z - kc K0) (n := Y - ks K0) (by omega) (by omega) ?_
          exact W.iret (v := (-1)) hx hb hr (fun t ht hW => ⟨⟨(-1), T_69, (kset K_36 Z Y), rfl, h, hle0, (by show Z = _; omega), (by show Y = _; omega), by rw [ht]; exact hP, va_K.moved hW.alike hK⟩, hS.F ht⟩) hS.2.2 dX1_swap_49
      · have h := h.2 c_79
        refine lv_iconst (v := 1) hx hb dX1_swap_34 (by decide) ?_
        refine lv_goto (tgt := 39) hx hb dX1_swap_35 (by decide) ?_
        refine x_cV (k := 0) (As := [.int 1]) (rest := [.ref (b + 0)]) ⟨hx, hb, hml, hown, hts⟩ (mx1_why l G b hole 1 K_36 T_41  _ h) (cwV 1 hts (lw_V q769 q771 qs24 q118 q772) rfl rfl rfl cwx_X1_why ⟨Nat.le_of_ble_eq_true rfl, Nat.le_of_ble_eq_true rfl⟩) (x_recv (CC := RX1) (ci := 0) hK hP (xs_0 hP) (by decide) (by decide) rfl (xE_8 (xs_0 hP))) hK hV hb0 hP hS rfl hl.1 rfl (Nat.le_of_ble_eq_true rfl) dX1_swap_39 ⟨by first | exact Nat.zero_le _ | (show _ + _ ≤ Z - kc K0; omega), by first | exact Nat.zero_le _ | (show _ + _ ≤ Y - ks K0; omega)⟩ (fun r_72 T1 K1 H locs h hle1 hc1 hs1 hP hS => ?_)
        obtain ⟨h, hTe, hKe⟩ := h
        rw [hTe, hKe] at hP
        refine x_cV (k := 0) (As := [.int r_72]) (rest := []) ⟨hx, hb, hml, hown, hts⟩ (mx1_isRefused l G b hole r_72 K_36 T_41  _ h) (cwV 1 hts (lw_V q777 q779 qs26 q118 q780) rfl rfl rfl cwx_X1_isRefused ⟨Nat.le_of_ble_eq_true rfl, Nat.le_of_ble_eq_true rfl⟩) (x_recv (CC := RX1) (ci := 0) hK hP (xs_0 hP) (by decide) (by decide) rfl (xE_8 (xs_0 hP))) hK hV hb0 hP hS rfl hl.1 rfl (Nat.le_of_ble_eq_true rfl) dX1_swap_42 ⟨by first | exact Nat.zero_le _ | (show _ + _ ≤ Z - kc K0; omega), by first | exact Nat.zero_le _ | (show _ + _ ≤ Y - ks K0; omega)⟩ (fun r_75 T1 K1 H locs h hle1 hc1 hs1 hP hS => ?_)
        obtain ⟨h, hKe⟩ := h
        rw [hKe] at hP
        generalize T1 = T_76 at h hP
        refine lv_if_eq (tgt := 50) hx hb dX1_swap_45 (by decide) (fun c_78 => ?_) (fun c_78 => ?_)
        · have h := h.1 c_78
          exact J50 _ _ _ _ _ _ _ h hle0 hcn hsn hzz hyy hP hS (lv_sub hl [0, 1, 2, 3, 4] rfl)
        · have h := h.2 c_78
          refine lv_iconst (v := (-1)) hx hb dX1_swap_48 (by decide) ?_
          refine W.widen (k := Z - kc K0) (n := Y - ks K0) (by omega) (by omega) ?_
          exact W.iret (v := (-1)) hx hb hr (fun t ht hW => ⟨⟨(-1), T_76, (kset K_36 Z Y), rfl, h, hle0, (by show Z = _; omega), (by show Y = _; omega), by rw [ht]; exact hP, va_K.moved hW.alike hK⟩, hS.F ht⟩) hS.2.2 dX1_swap_49
theorem cwx_X1_rest : yX1_rest.cls = RX1 ∧ yX1_rest.cls ≠ "java/lang/invoke/MethodHandle" ∧ yX1_rest.cls ≠ "java/lang/invoke/VarHandle" ∧ (parseMethodDescriptor yX1_rest.desc).map (fun d => d.parameters.length) = some 3 := by decide +kernel
def wx1_rest (p1 : Int32) (p2 : Int32) (p3 : Int32) (K0 : XK) (T : XT) (Z Y : Nat) (post : Int32 → XT → XK → Prop) : Prop :=
  kc K0 + 1 ≤ Z ∧ ks K0 + 2 ≤ Y ∧ ∀ K_1 : XK, K_1 = knew K0 1 2 2 → ∀ T_2 : XT, T_2 = xnil T (kz K0) →
  ∃ j_3 : Nat, j_3 < kl K_1 (kz K0) ∧ 0 = nI j_3 ∧ ∀ T_4 : XT, T_4 = xwi T_2 (kz K0) j_3 p1 →
  ∃ j_5 : Nat, j_5 < kl K_1 (kz K0) ∧ 1 = nI j_5 ∧ ∀ T_6 : XT, T_6 = xwi T_4 (kz K0) j_5 p3 →
  wx1_is (kz K0) K_1 T_6 (fun r_7 =>
  wx1_divisionWhy r_7 1 p1 p2 K_1 T_6 (fun r_10 T_11 =>
  wx1_isRefused r_10 K_1 T_11 (fun r_13 T_14 =>
  ((r_13 = 0 →
    ∃ Z_19 Y_20 : Nat, kc K_1 ≤ Z_19 ∧ Z_19 ≤ Z ∧ ks K_1 ≤ Y_20 ∧ Y_20 ≤ Y ∧ wx2_poly 8 K_1 T_14 Z_19 Y_20 (fun r_16 T_17 K_18 =>
    ∃ Z_24 Y_25 : Nat, kc K_18 ≤ Z_24 ∧ Z_24 ≤ Z ∧ ks K_18 ≤ Y_25 ∧ Y_25 ≤ Y ∧ wx1_lays (some r_16) p3 K_18 T_17 Z_24 Y_25 (fun r_21 T_22 K_23 =>
    post r_21 T_22 (kset K_23 Z Y)))) ∧
   (¬ (r_13 = 0) →
    post (-1) T_14 (kset K_1 Z Y))))))
set_option maxHeartbeats 4000000 in
theorem mx1_rest (l : Launch) (G : XG) (b : Nat) (hole : Nat → Prop) (p1 : Int32) (p2 : Int32) (p3 : Int32) (K0 : XK) (T : XT) (Z Y : Nat) (hZ : kc K0 ≤ Z) (hY : ks K0 ≤ Y)  (post : Int32 → XT → XK → Prop) (h : wx1_rest p1 p2 p3 K0 T Z Y post) : Met l yX1_rest (ws_ yX1_rest cX1_rest 4 (some .int)) ({ frames := 9, cells := (Z - kc K0), slots := (Y - ks K0), locals := 216 } : Room) (xPc G b hole [.ref (b + 0), .int p1, .int p2, .int p3] K0 T) (xQ G b hole K0 (Z - kc K0) (Y - ks K0) (ρ := Int32) eI (fun r T1 K1 => post r T1 K1)) (Z - kc K0) (Y - ks K0) (xA b hole) := by
  refine Met.ofW (cc := cX1_rest) (maxL := 4) (ret := (some .int)) (by decide) rfl ?_
  intro p e s m args below meth c s₁ B hml hv
  obtain ⟨rfl, hP, hK, hV⟩ := hv
  have hx := B.exec
  have hb := B.bytes
  have hr := B.returns
  have hts := atoms_spec (ws := ws_ yX1_rest cX1_rest 4 (some .int)) B.pre
  have hts : ∀ w ∈ lw_all, w.before _ s = true := fun w h => hts w (List.mem_cons_of_mem _ h)
  have hown : s.vm.findClass RX1 = some m.cls := findClass_of_methodNamed B.named
  have hlocks := B.notSynchronized
  have hb0 : b ≤ s.heap.size := by rw [hP.2.2.2]; exact Nat.le_add_right _ _
  have hS : va_S (xA b hole) s.heap s.heap [] := va_S.rf
  have hl := lv_entry ([.ref (b + 0), .int p1, .int p2, .int p3]) (n := 4) (Nat.le_of_ble_eq_true rfl)
  rw [lg_entry_eq]
  generalize (lg_sl ([.ref (b + 0), .int p1, .int p2, .int p3]) ++ List.replicate (4 - (lg_sl ([.ref (b + 0), .int p1, .int p2, .int p3])).length) Slot.unset).toArray = ls at hl ⊢
  have hl : lv_has ls 4 [(0, .ref (b + 0)), (1, .int p1), (2, .int p2), (3, .int p3)] := hl
  have hle0 : kle K0 K0 := kle.rf
  have hcn : kc K0 + 0 = kc K0 := rfl
  have hsn : ks K0 + 0 = ks K0 := rfl
  have hzz := hZ
  have hyy := hY
  unfold wx1_rest at h
  refine lv_aload_n hx hb dX1_rest_0 rfl (lv_at hl 0 rfl) ?_
  refine lv_aload_n hx hb dX1_rest_1 rfl (lv_at hl 0 rfl) ?_
  refine lv_iconst (v := 2) hx hb dX1_rest_2 (by decide) ?_
  obtain ⟨hc1, hs1, h⟩ := h
  obtain ⟨K_1, eK_1⟩ : ∃ z : XK, z = knew K0 1 2 2 := ⟨_, rfl⟩
  obtain ⟨T_2, eT_2⟩ : ∃ z : XT, z = xnil T (kz K0) := ⟨_, rfl⟩
  have h := h K_1 eK_1 T_2 eT_2
  have hle1 : kle K0 K_1 := by rw [eK_1]; exact kle.new hP.2.2.1 _ _ _
  refine x_newai (N := 2) hx hb hts q170 hK hP hS (by decide) (by decide) (by show _ + 1 ≤ Z - kc K0; omega) (by show _ + _ ≤ Y - ks K0; omega) dX1_rest_3 (fun H hP hS => ?_)
  rw [← eK_1, ← eT_2] at hP
  have hk_n1 : kd K_1 (kz K0) = 1 := by rw [eK_1]; exact knew_kd
  have hle0 := hle0.tr hle1
  have hcn : kc K0 + (0 + 1) = kc K_1 := by rw [eK_1]; show _ = kc K0 + 1; omega
  have hsn : ks K0 + (0 + 2) = ks K_1 := by rw [eK_1]; show _ = ks K0 + 2; omega
  have hzz : kc K_1 ≤ Z := by rw [eK_1]; exact hc1
  have hyy : ks K_1 ≤ Y := by rw [eK_1]; exact hs1
  refine lv_dup hx hb dX1_rest_5 rfl ?_
  refine lv_iconst (v := 0) hx hb dX1_rest_6 (by decide) ?_
  refine lv_iload_n hx hb dX1_rest_7 rfl (lv_at hl 1 rfl) ?_
  obtain ⟨j_3, hj_3, ej_3, h⟩ := h
  obtain ⟨T_4, eT_4⟩ : ∃ z : XT, z = xwi T_2 (kz K0) j_3 p1 := ⟨_, rfl⟩
  have h := h T_4 eT_4
  refine x_iast hx hb hK hP hS hk_n1 ej_3 hj_3 dX1_rest_8 (fun H locs hP hS => ?_)
  rw [← eT_4] at hP
  refine lv_dup hx hb dX1_rest_9 rfl ?_
  refine lv_iconst (v := 1) hx hb dX1_rest_10 (by decide) ?_
  refine lv_iload_n hx hb dX1_rest_11 rfl (lv_at hl 3 rfl) ?_
  obtain ⟨j_5, hj_5, ej_5, h⟩ := h
  obtain ⟨T_6, eT_6⟩ : ∃ z : XT, z = xwi T_4 (kz K0) j_5 p3 := ⟨_, rfl⟩
  have h := h T_6 eT_6
  refine x_iast hx hb hK hP hS hk_n1 ej_5 hj_5 dX1_rest_12 (fun H locs hP hS => ?_)
  rw [← eT_6] at hP
  refine x_cS (As := [.ref (b + (kz K0))]) (rest := [.ref (b + 0), .ref (b + 0)]) ⟨hx, hb, hml, hown, hts⟩ (mx1_is l G b hole (kz K0) K_1 T_6 hk_n1 _ h) (va_cwS 1 hts (lw_S q793 q794 q118 q795) rfl rfl rfl cwx_X1_is ⟨Nat.le_of_ble_eq_true rfl, Nat.le_of_ble_eq_true rfl⟩) hK hV hb0 hP hS rfl hl.1 rfl (Nat.le_of_ble_eq_true rfl) dX1_rest_13 ⟨by first | exact Nat.zero_le _ | (show _ + _ ≤ Z - kc K0; omega), by first | exact Nat.zero_le _ | (show _ + _ ≤ Y - ks K0; omega)⟩ (fun r_7 T1 K1 H locs h hle1 hc1 hs1 hP hS => ?_)
  obtain ⟨h, hTe, hKe⟩ := h
  rw [hTe, hKe] at hP
  refine lv_iconst (v := 1) hx hb dX1_rest_16 (by decide) ?_
  refine lv_iload_n hx hb dX1_rest_17 rfl (lv_at hl 1 rfl) ?_
  refine lv_iload_n hx hb dX1_rest_18 rfl (lv_at hl 2 rfl) ?_
  refine x_cV (k := 0) (As := [.int r_7, .int 1, .int p1, .int p2]) (rest := [.ref (b + 0)]) ⟨hx, hb, hml, hown, hts⟩ (mx1_divisionWhy l G b hole r_7 1 p1 p2 K_1 T_6  _ h) (cwV 4 hts (lw_V q885 q887 qs32 q118 q888) rfl rfl rfl cwx_X1_divisionWhy ⟨Nat.le_of_ble_eq_true rfl, Nat.le_of_ble_eq_true rfl⟩) (x_recv (CC := RX1) (ci := 0) hK hP (xs_0 hP) (by decide) (by decide) rfl (xE_8 (xs_0 hP))) hK hV hb0 hP hS rfl hl.1 rfl (Nat.le_of_ble_eq_true rfl) dX1_rest_19 ⟨by first | exact Nat.zero_le _ | (show _ + _ ≤ Z - kc K0; omega), by first | exact Nat.zero_le _ | (show _ + _ ≤ Y - ks K0; omega)⟩ (fun r_10 T1 K1 H locs h hle1 hc1 hs1 hP hS => ?_)
  obtain ⟨h, hKe⟩ := h
  rw [hKe] at hP
  generalize T1 = T_11 at h hP
  refine x_cV (k := 0) (As := [.int r_10]) (rest := []) ⟨hx, hb, hml, hown, hts⟩ (mx1_isRefused l G b hole r_10 K_1 T_11  _ h) (cwV 1 hts (lw_V q777 q779 qs26 q118 q780) rfl rfl rfl cwx_X1_isRefused ⟨Nat.le_of_ble_eq_true rfl, Nat.le_of_ble_eq_true rfl⟩) (x_recv (CC := RX1) (ci := 0) hK hP (xs_0 hP) (by decide) (by decide) rfl (xE_8 (xs_0 hP))) hK hV hb0 hP hS rfl hl.1 rfl (Nat.le_of_ble_eq_true rfl) dX1_rest_22 ⟨by first | exact Nat.zero_le _ | (show _ + _ ≤ Z - kc K0; omega), by first | exact Nat.zero_le _ | (show _ + _ ≤ Y - ks K0; omega)⟩ (fun r_13 T1 K1 H locs h hle1 hc1 hs1 hP hS => ?_)
  obtain ⟨h, hKe⟩ := h
  rw [hKe] at hP
  generalize T1 = T_14 at h hP
  refine lv_if_eq (tgt := 32) hx hb dX1_rest_25 (by decide) (fun c_26 => ?_) (fun c_26 => ?_)
  · have h := h.1 c_26
    refine lv_aload_n hx hb dX1_rest_32 rfl (lv_at hl 0 rfl) ?_
    refine lv_aload_n hx hb dX1_rest_33 rfl (lv_at hl 0 rfl) ?_
    refine x_get (CC := RX1) (TT := TX1) (N := 26) (ci := 0) (v := .ref (b + 6)) hx hb hts in_X1 hown hK hP (xs_0 hP) (by decide) (by decide) rfl (xE_8 (xs_0 hP)) 8 (by decide) q393 rfl rfl dX1_rest_34 ?_
    refine x_getN (CC := RX3) (TT := TX3) (N := 9) (ci := 2) (v := .ref (b + 8)) hx hb hts in_X3 hown hK hV.1 hP (xs_6 hP) (by decide) (by decide) rfl (xE_10 (xs_6 hP)) 1 (by decide) q183 rfl rfl dX1_rest_37 ?_
    obtain ⟨Z_19, Y_20, hz1, hz2, hy1, hy2, h⟩ := h
    refine x_cV (k := 8) (As := []) (rest := [.ref (b + 0)]) ⟨hx, hb, hml, hown, hts⟩ (mx2_poly l G b hole 8 K_1 T_14 Z_19 Y_20 hz1 hy1 (xs_8 hP) _ h) (cwV 0 hts (lw_V q971 q972 q973 q119 q974) rfl rfl rfl cwx_X2_poly ⟨Nat.le_of_ble_eq_true rfl, Nat.le_of_ble_eq_true rfl⟩) (x_recv (CC := RX2) (ci := 1) hK hP (xs_8 hP) (by decide) (by decide) rfl (xE_9 (xs_8 hP))) hK hV hb0 hP hS rfl hl.1 rfl (Nat.le_of_ble_eq_true rfl) dX1_rest_40 ⟨by first | exact Nat.zero_le _ | (show _ + _ ≤ Z - kc K0; omega), by first | exact Nat.zero_le _ | (show _ + _ ≤ Y - ks K0; omega)⟩ (fun r_16 T1 K1 H locs h hle1 hc1 hs1 hP hS => ?_)
    obtain ⟨h, hk_r_16⟩ := h
    generalize T1 = T_17 at h hP
    generalize K1 = K_18 at h hP hle1 hc1 hs1 hk_r_16
    have hle0 := hle0.tr hle1
    have hcn : kc K0 + ((0 + 1) + (Z_19 - kc K_1)) = kc K_18 := by omega
    have hsn : ks K0 + ((0 + 2) + (Y_20 - ks K_1)) = ks K_18 := by omega
    have hzz : kc K_18 ≤ Z := by omega
    have hyy : ks K_18 ≤ Y := by omega
    refine lv_iload_n hx hb dX1_rest_43 rfl (lv_at hl 3 rfl) ?_
    obtain ⟨Z_24, Y_25, hz1, hz2, hy1, hy2, h⟩ := h
    refine x_cV (k := 0) (As := [.ref (b + r_16), .int p3]) (rest := []) ⟨hx, hb, hml, hown, hts⟩ (mx1_lays l G b hole (some r_16) p3 K_18 T_17 Z_24 Y_25 hz1 hy1 (fun _ e9 => by cases e9; exact hk_r_16) _ h) (cwV 2 hts (lw_V q995 q997 qs43 q118 q998) rfl rfl rfl cwx_X1_lays ⟨Nat.le_of_ble_eq_true rfl, Nat.le_of_ble_eq_true rfl⟩) (x_recv (CC := RX1) (ci := 0) hK hP (xs_0 hP) (by decide) (by decide) rfl (xE_8 (xs_0 hP))) hK hV hb0 hP hS rfl hl.1 rfl (Nat.le_of_ble_eq_true rfl) dX1_rest_44 ⟨by first | exact Nat.zero_le _ | (show _ + _ ≤ Z - kc K0; omega), by first | exact Nat.zero_le _ | (show _ + _ ≤ Y - ks K0; omega)⟩ (fun r_21 T1 K1 H locs h hle1 hc1 hs1 hP hS => ?_)
    generalize T1 = T_22 at h hP
    generalize K1 = K_23 at h hP hle1 hc1 hs1
    have hle0 := hle0.tr hle1
    have hcn : kc K0 + (((0 + 1) + (Z_19 - kc K_1)) + (Z_24 - kc K_18)) = kc K_23 := by omega
    have hsn : ks K0 + (((0 + 2) + (Y_20 - ks K_1)) + (Y_25 - ks K_18)) = ks K_23 := by omega
    have hzz : kc K_23 ≤ Z := by omega
    have hyy : ks K_23 ≤ Y := by omega
    refine W.widen (k := Z - kc K0) (n := Y - ks K0) (by omega) (by omega) ?_
    exact W.iret (v := r_21) hx hb hr (fun t ht hW => ⟨⟨r_21, T_22, (kset K_23 Z Y), rfl, h, hle0, (by show Z = _; omega), (by show Y = _; omega), by rw [ht]; exact hP, va_K.moved hW.alike hK⟩, hS.F ht⟩) hS.2.2 dX1_rest_47
  · have h := h.2 c_26
    refine lv_iconst (v := (-1)) hx hb dX1_rest_28 (by decide) ?_
    refine lv_goto (tgt := 47) hx hb dX1_rest_29 (by decide) ?_
    refine W.widen (k := Z - kc K0) (n := Y - ks K0) (by omega) (by omega) ?_
    exact W.iret (v := (-1)) hx hb hr (fun t ht hW => ⟨⟨(-1), T_14, (kset K_1 Z Y), rfl, h, hle0, (by show Z = _; omega), (by show Y = _; omega), by rw [ht]; exact hP, va_K.moved hW.alike hK⟩, hS.F ht⟩) hS.2.2 dX1_rest_47
theorem cwx_X1_quotient : yX1_quotient.cls = RX1 ∧ yX1_quotient.cls ≠ "java/lang/invoke/MethodHandle" ∧ yX1_quotient.cls ≠ "java/lang/invoke/VarHandle" ∧ (parseMethodDescriptor yX1_quotient.desc).map (fun d => d.parameters.length) = some 4 := by decide +kernel
def wx1_quotient_j26 (p1 : Int32) (p2 : Int32) (p3 : Int32) (p4 : Int32) (Z Y : Nat) (post : Int32 → XT → XK → Prop) (x5 : Int32) (K : XK) (T : XT) : Prop :=
    kc K + 1 ≤ Z ∧ ks K + 3 ≤ Y ∧ ∀ K_1 : XK, K_1 = knew K 1 3 3 → ∀ T_2 : XT, T_2 = xnil T (kz K) →
    ∃ j_3 : Nat, j_3 < kl K_1 (kz K) ∧ 0 = nI j_3 ∧ ∀ T_4 : XT, T_4 = xwi T_2 (kz K) j_3 p1 →
    ∃ j_5 : Nat, j_5 < kl K_1 (kz K) ∧ 1 = nI j_5 ∧ ∀ T_6 : XT, T_6 = xwi T_4 (kz K) j_5 p4 →
    ∃ j_7 : Nat, j_7 < kl K_1 (kz K) ∧ 2 = nI j_7 ∧ ∀ T_8 : XT, T_8 = xwi T_6 (kz K) j_7 p3 →
    wx1_is (kz K) K_1 T_8 (fun r_9 =>
    wx1_divisionWhy r_9 x5 p1 p2 K_1 T_8 (fun r_12 T_13 =>
    wx1_isRefused r_12 K_1 T_13 (fun r_15 T_16 =>
    ((r_15 = 0 →
      ∃ j_18 : Nat, j_18 < 8 ∧ p3 = nI j_18 ∧ ∃ v_19 : Nat, xr T_16 7 j_18 = some v_19 ∧
      ∃ Z_23 Y_24 : Nat, kc K_1 ≤ Z_23 ∧ Z_23 ≤ Z ∧ ks K_1 ≤ Y_24 ∧ Y_24 ≤ Y ∧ wx2_poly v_19 K_1 T_16 Z_23 Y_24 (fun r_20 T_21 K_22 =>
      ∃ Z_28 Y_29 : Nat, kc K_22 ≤ Z_28 ∧ Z_28 ≤ Z ∧ ks K_22 ≤ Y_29 ∧ Y_29 ≤ Y ∧ wx1_lays (some r_20) p4 K_22 T_21 Z_28 Y_29 (fun r_25 T_26 K_27 =>
      post r_25 T_26 (kset K_27 Z Y)))) ∧
     (¬ (r_15 = 0) →
      post (-1) T_16 (kset K_1 Z Y))))))
def wx1_quotient_j23 (p1 : Int32) (p2 : Int32) (p3 : Int32) (p4 : Int32) (Z Y : Nat) (post : Int32 → XT → XK → Prop)  (K : XK) (T : XT) : Prop :=
    wx1_quotient_j26 p1 p2 p3 p4 Z Y post 0 K T
def wx1_quotient (p1 : Int32) (p2 : Int32) (p3 : Int32) (p4 : Int32) (K0 : XK) (T : XT) (Z Y : Nat) (post : Int32 → XT → XK → Prop) : Prop :=
  wx1_in p3 0 7 K0 T (fun r_31 =>
  ((r_31 = 0 →
    wx1_quotient_j23 p1 p2 p3 p4 Z Y post  K0 T) ∧
   (¬ (r_31 = 0) →
    ((¬ ((jshr p2 p3) &&& 1) = 1 →
      wx1_quotient_j23 p1 p2 p3 p4 Z Y post  K0 T) ∧
     (((jshr p2 p3) &&& 1) = 1 →
      wx1_quotient_j26 p1 p2 p3 p4 Z Y post 1 K0 T)))))
set_option maxHeartbeats 4000000 in
theorem mx1_quotient (l : Launch) (G : XG) (b : Nat) (hole : Nat → Prop) (p1 : Int32) (p2 : Int32) (p3 : Int32) (p4 : Int32) (K0 : XK) (T : XT) (Z Y : Nat) (hZ : kc K0 ≤ Z) (hY : ks K0 ≤ Y)  (post : Int32 → XT → XK → Prop) (h : wx1_quotient p1 p2 p3 p4 K0 T Z Y post) : Met l yX1_quotient (ws_ yX1_quotient cX1_quotient 6 (some .int)) ({ frames := 9, cells := (Z - kc K0), slots := (Y - ks K0), locals := 216 } : Room) (xPc G b hole [.ref (b + 0), .int p1, .int p2, .int p3, .int p4] K0 T) (xQ G b hole K0 (Z - kc K0) (Y - ks K0) (ρ := Int32) eI (fun r T1 K1 => post r T1 K1)) (Z - kc K0) (Y - ks K0) (xA b hole) := by
  refine Met.ofW (cc := cX1_quotient) (maxL := 6) (ret := (some .int)) (by decide) rfl ?_
  intro p e s m args below meth c s₁ B hml hv
  obtain ⟨rfl, hP, hK, hV⟩ := hv
  have hx := B.exec
  have hb := B.bytes
  have hr := B.returns
  have hts := atoms_spec (ws := ws_ yX1_quotient cX1_quotient 6 (some .int)) B.pre
  have hts : ∀ w ∈ lw_all, w.before _ s = true := fun w h => hts w (List.mem_cons_of_mem _ h)
  have hown : s.vm.findClass RX1 = some m.cls := findClass_of_methodNamed B.named
  have hlocks := B.notSynchronized
  have hb0 : b ≤ s.heap.size := by rw [hP.2.2.2]; exact Nat.le_add_right _ _
  have hS : va_S (xA b hole) s.heap s.heap [] := va_S.rf
  have hl := lv_entry ([.ref (b + 0), .int p1, .int p2, .int p3, .int p4]) (n := 6) (Nat.le_of_ble_eq_true rfl)
  rw [lg_entry_eq]
  generalize (lg_sl ([.ref (b + 0), .int p1, .int p2, .int p3, .int p4]) ++ List.replicate (6 - (lg_sl ([.ref (b + 0), .int p1, .int p2, .int p3, .int p4])).length) Slot.unset).toArray = ls at hl ⊢
  have hl : lv_has ls 6 [(0, .ref (b + 0)), (1, .int p1), (2, .int p2), (3, .int p3), (4, .int p4)] := hl
  have hle0 : kle K0 K0 := kle.rf
  have J26 : ∀ (x5 : Int32) (T : XT) (K : XK) (cn sn : Nat) (H : Heap) (locs : List Loc) (ls : Array Slot), wx1_quotient_j26 p1 p2 p3 p4 Z Y post x5 K T → kle K0 K → kc K0 + cn = kc K → ks K0 + sn = ks K → kc K ≤ Z → ks K ≤ Y → xW G b hole K T H → va_S (xA b hole) s.heap H locs → lv_has ls 6 [(0, .ref (b + 0)), (1, .int p1), (2, .int p2), (3, .int p3), (4, .int p4), (5, .int x5)] → W p l e (headSpec (ws_ yX1_quotient cX1_quotient 6 (some .int)) ({ frames := 9, cells := (Z - kc K0), slots := (Y - ks K0), locals := 216 } : Room)).room s m ([.ref (b + 0), .int p1, .int p2, .int p3, .int p4] : List Value).toArray below meth c H locs cn sn (MQ below (xQ G b hole K0 (Z - kc K0) (Y - ks K0) (ρ := Int32) eI (fun r T1 K1 => post r T1 K1)) ([.ref (b + 0), .int p1, .int p2, .int p3, .int p4] : List Value).toArray s (Z - kc K0) (Y - ks K0) (xA b hole)) (F0 m 26 ls []) := by
    intro x5 T K cn sn H locs ls h hle0 hcn hsn hzz hyy hP hS hl
    unfold wx1_quotient_j26 at h
    refine lv_aload_n hx hb dX1_quotient_26 rfl (lv_at hl 0 rfl) ?_
    refine lv_aload_n hx hb dX1_quotient_27 rfl (lv_at hl 0 rfl) ?_
    refine lv_iconst (v := 3) hx hb dX1_quotient_28 (by decide) ?_
    obtain ⟨hc1, hs1, h⟩ := h
    obtain ⟨K_1, eK_1⟩ : ∃ z : XK, z = knew K 1 3 3 := ⟨_, rfl⟩
    obtain ⟨T_2, eT_2⟩ : ∃ z : XT, z = xnil T (kz K) := ⟨_, rfl⟩
    have h := h K_1 eK_1 T_2 eT_2
    have hle1 : kle K K_1 := by rw [eK_1]; exact kle.new hP.2.2.1 _ _ _
    refine x_newai (N := 3) hx hb hts q170 hK hP hS (by decide) (by decide) (by show _ + 1 ≤ Z - kc K0; omega) (by show _ + _ ≤ Y - ks K0; omega) dX1_quotient_29 (fun H hP hS => ?_)
    rw [← eK_1, ← eT_2] at hP
    have hk_n1 : kd K_1 (kz K) = 1 := by rw [eK_1]; exact knew_kd
    have hle0 := hle0.tr hle1
    have hcn : kc K0 + (cn + 1) = kc K_1 := by rw [eK_1]; show _ = kc K + 1; omega
    have hsn : ks K0 + (sn + 3) = ks K_1 := by rw [eK_1]; show _ = ks K + 3; omega
    have hzz : kc K_1 ≤ Z := by rw [eK_1]; exact hc1
    have hyy : ks K_1 ≤ Y := by rw [eK_1]; exact hs1
    refine lv_dup hx hb dX1_quotient_31 rfl ?_
    refine lv_iconst (v := 0) hx hb dX1_quotient_32 (by decide) ?_
    refine lv_iload_n hx hb dX1_quotient_33 rfl (lv_at hl 1 rfl) ?_
    obtain ⟨j_3, hj_3, ej_3, h⟩ := h
    obtain ⟨T_4, eT_4⟩ : ∃ z : XT, z = xwi T_2 (kz K) j_3 p1 := ⟨_, rfl⟩
    have h := h T_4 eT_4
    refine x_iast hx hb hK hP hS hk_n1 ej_3 hj_3 dX1_quotient_34 (fun H locs hP hS => ?_)
    rw [← eT_4] at hP
    refine lv_dup hx hb dX1_quotient_35 rfl ?_
    refine lv_iconst (v := 1) hx hb dX1_quotient_36 (by decide) ?_
    refine lv_iload hx hb dX1_quotient_37 (lv_at hl 4 rfl) ?_
    obtain ⟨j_5, hj_5, ej_5, h⟩ := h
    obtain ⟨T_6, eT_6⟩ : ∃ z : XT, z = xwi T_4 (kz K) j_5 p4 := ⟨_, rfl⟩
    have h := h T_6 eT_6
    refine x_iast hx hb hK hP hS hk_n1 ej_5 hj_5 dX1_quotient_39 (fun H locs hP hS => ?_)
    rw [← eT_6] at hP
    refine lv_dup hx hb dX1_quotient_40 rfl ?_
    refine lv_iconst (v := 2) hx hb dX1_quotient_41 (by decide) ?_
    refine lv_iload_n hx hb dX1_quotient_42 rfl (lv_at hl 3 rfl) ?_
    obtain ⟨j_7, hj_7, ej_7, h⟩ := h
    obtain ⟨T_8, eT_8⟩ : ∃ z : XT, z = xwi T_6 (kz K) j_7 p3 := ⟨_, rfl⟩
    have h := h T_8 eT_8
    refine x_iast hx hb hK hP hS hk_n1 ej_7 hj_7 dX1_quotient_43 (fun H locs hP hS => ?_)
    rw [← eT_8] at hP
    refine x_cS (As := [.ref (b + (kz K))]) (rest := [.ref (b + 0), .ref (b + 0)]) ⟨hx, hb, hml, hown, hts⟩ (mx1_is l G b hole (kz K) K_1 T_8 hk_n1 _ h) (va_cwS 1 hts (lw_S q793 q794 q118 q795) rfl rfl rfl cwx_X1_is ⟨Nat.le_of_ble_eq_true rfl, Nat.le_of_ble_eq_true rfl⟩) hK hV hb0 hP hS rfl hl.1 rfl (Nat.le_of_ble_eq_true rfl) dX1_quotient_44 ⟨by first | exact Nat.zero_le _ | (show _ + _ ≤ Z - kc K0; omega), by first | exact Nat.zero_le _ | (show _ + _ ≤ Y - ks K0; omega)⟩ (fun r_9 T1 K1 H locs h hle1 hc1 hs1 hP hS => ?_)
    obtain ⟨h, hTe, hKe⟩ := h
    rw [hTe, hKe] at hP
    refine lv_iload hx hb dX1_quotient_47 (lv_at hl 5 rfl) ?_
    refine lv_iload_n hx hb dX1_quotient_49 rfl (lv_at hl 1 rfl) ?_
    refine lv_iload_n hx hb dX1_quotient_50 rfl (lv_at hl 2 rfl) ?_
    refine x_cV (k := 0) (As := [.int r_9, .int x5, .int p1, .int p2]) (rest := [.ref (b + 0)]) ⟨hx, hb, hml, hown, hts⟩ (mx1_divisionWhy l G b hole r_9 x5 p1 p2 K_1 T_8  _ h) (cwV 4 hts (lw_V q885 q887 qs32 q118 q888) rfl rfl rfl cwx_X1_divisionWhy ⟨Nat.le_of_ble_eq_true rfl, Nat.le_of_ble_eq_true rfl⟩) (x_recv (CC := RX1) (ci := 0) hK hP (xs_0 hP) (by decide) (by decide) rfl (xE_8 (xs_0 hP))) hK hV hb0 hP hS rfl hl.1 rfl (Nat.le_of_ble_eq_true rfl) dX1_quotient_51 ⟨by first | exact Nat.zero_le _ | (show _ + _ ≤ Z - kc K0; omega), by first | exact Nat.zero_le _ | (show _ + _ ≤ Y - ks K0; omega)⟩ (fun r_12 T1 K1 H locs h hle1 hc1 hs1 hP hS => ?_)
    obtain ⟨h, hKe⟩ := h
    rw [hKe] at hP
    generalize T1 = T_13 at h hP
    refine x_cV (k := 0) (As := [.int r_12]) (rest := []) ⟨hx, hb, hml, hown, hts⟩ (mx1_isRefused l G b hole r_12 K_1 T_13  _ h) (cwV 1 hts (lw_V q777 q779 qs26 q118 q780) rfl rfl rfl cwx_X1_isRefused ⟨Nat.le_of_ble_eq_true rfl, Nat.le_of_ble_eq_true rfl⟩) (x_recv (CC := RX1) (ci := 0) hK hP (xs_0 hP) (by decide) (by decide) rfl (xE_8 (xs_0 hP))) hK hV hb0 hP hS rfl hl.1 rfl (Nat.le_of_ble_eq_true rfl) dX1_quotient_54 ⟨by first | exact Nat.zero_le _ | (show _ + _ ≤ Z - kc K0; omega), by first | exact Nat.zero_le _ | (show _ + _ ≤ Y - ks K0; omega)⟩ (fun r_15 T1 K1 H locs h hle1 hc1 hs1 hP hS => ?_)
    obtain ⟨h, hKe⟩ := h
    rw [hKe] at hP
    generalize T1 = T_16 at h hP
    refine lv_if_eq (tgt := 64) hx hb dX1_quotient_57 (by decide) (fun c_30 => ?_) (fun c_30 => ?_)
    · have h := h.1 c_30
      refine lv_aload_n hx hb dX1_quotient_64 rfl (lv_at hl 0 rfl) ?_
      refine lv_aload_n hx hb dX1_quotient_65 rfl (lv_at hl 0 rfl) ?_
      refine x_get (CC := RX1) (TT := TX1) (N := 26) (ci := 0) (v := .ref (b + 6)) hx hb hts in_X1 hown hK hP (xs_0 hP) (by decide) (by decide) rfl (xE_8 (xs_0 hP)) 8 (by decide) q393 rfl rfl dX1_quotient_66 ?_
      refine x_getN (CC := RX3) (TT := TX3) (N := 9) (ci := 2) (v := .ref (b + 7)) hx hb hts in_X3 hown hK hV.1 hP (xs_6 hP) (by decide) (by decide) rfl (xE_10 (xs_6 hP)) 0 (by decide) q181 rfl rfl dX1_quotient_69 ?_
      refine lv_iload_n hx hb dX1_quotient_72 rfl (lv_at hl 3 rfl) ?_
      obtain ⟨j_18, hj_18, ej_18, v_19, ev_19, h⟩ := h
      refine x_aald5 hx hb hK hP (xs_7 hP) ej_18 (by rw [xl_7 hP]; exact hj_18) dX1_quotient_73 ?_
      refine x_some ev_19 ?_
      have hk_v_19 : kd K_1 v_19 = 9 := hP.ty (xs_7 hP) (by decide) ev_19
      obtain ⟨Z_23, Y_24, hz1, hz2, hy1, hy2, h⟩ := h
      refine x_cV (k := v_19) (As := []) (rest := [.ref (b + 0)]) ⟨hx, hb, hml, hown, hts⟩ (mx2_poly l G b hole v_19 K_1 T_16 Z_23 Y_24 hz1 hy1 hk_v_19 _ h) (cwV 0 hts (lw_V q971 q972 q973 q119 q974) rfl rfl rfl cwx_X2_poly ⟨Nat.le_of_ble_eq_true rfl, Nat.le_of_ble_eq_true rfl⟩) (x_recv (CC := RX2) (ci := 1) hK hP hk_v_19 (by decide) (by decide) rfl (xE_9 hk_v_19)) hK hV hb0 hP hS rfl hl.1 rfl (Nat.le_of_ble_eq_true rfl) dX1_quotient_74 ⟨by first | exact Nat.zero_le _ | (show _ + _ ≤ Z - kc K0; omega), by first | exact Nat.zero_le _ | (show _ + _ ≤ Y - ks K0; omega)⟩ (fun r_20 T1 K1 H locs h hle1 hc1 hs1 hP hS => ?_)
      obtain ⟨h, hk_r_20⟩ := h
      generalize T1 = T_21 at h hP
      generalize K1 = K_22 at h hP hle1 hc1 hs1 hk_r_20
      have hle0 := hle0.tr hle1
      have hcn : kc K0 + ((cn + 1) + (Z_23 - kc K_1)) = kc K_22 := by omega
      have hsn : ks K0 + ((sn + 3) + (Y_24 - ks K_1)) = ks K_22 := by omega
      have hzz : kc K_22 ≤ Z := by omega
      have hyy : ks K_22 ≤ Y := by omega
      refine lv_iload hx hb dX1_quotient_77 (lv_at hl 4 rfl) ?_
      obtain ⟨Z_28, Y_29, hz1, hz2, hy1, hy2, h⟩ := h
      refine x_cV (k := 0) (As := [.ref (b + r_20), .int p4]) (rest := []) ⟨hx, hb, hml, hown, hts⟩ (mx1_lays l G b hole (some r_20) p4 K_22 T_21 Z_28 Y_29 hz1 hy1 (fun _ e9 => by cases e9; exact hk_r_20) _ h) (cwV 2 hts (lw_V q995 q997 qs43 q118 q998) rfl rfl rfl cwx_X1_lays ⟨Nat.le_of_ble_eq_true rfl, Nat.le_of_ble_eq_true rfl⟩) (x_recv (CC := RX1) (ci := 0) hK hP (xs_0 hP) (by decide) (by decide) rfl (xE_8 (xs_0 hP))) hK hV hb0 hP hS rfl hl.1 rfl (Nat.le_of_ble_eq_true rfl) dX1_quotient_79 ⟨by first | exact Nat.zero_le _ | (show _ + _ ≤ Z - kc K0; omega), by first | exact Nat.zero_le _ | (show _ + _ ≤ Y - ks K0; omega)⟩ (fun r_25 T1 K1 H locs h hle1 hc1 hs1 hP hS => ?_)
      generalize T1 = T_26 at h hP
      generalize K1 = K_27 at h hP hle1 hc1 hs1
      have hle0 := hle0.tr hle1
      have hcn : kc K0 + (((cn + 1) + (Z_23 - kc K_1)) + (Z_28 - kc K_22)) = kc K_27 := by omega
      have hsn : ks K0 + (((sn + 3) + (Y_24 - ks K_1)) + (Y_29 - ks K_22)) = ks K_27 := by omega
      have hzz : kc K_27 ≤ Z := by omega
      have hyy : ks K_27 ≤ Y := by omega
      refine W.widen (k := Z - kc K0) (n := Y - ks K0) (by omega) (by omega) ?_
      exact W.iret (v := r_25) hx hb hr (fun t ht hW => ⟨⟨r_25, T_26, (kset K_27 Z Y), rfl, h, hle0, (by show Z = _; omega), (by show Y = _; omega), by rw [ht]; exact hP, va_K.moved hW.alike hK⟩, hS.F ht⟩) hS.2.2 dX1_quotient_82
    · have h := h.2 c_30
      refine lv_iconst (v := (-1)) hx hb dX1_quotient_60 (by decide) ?_
      refine lv_goto (tgt := 82) hx hb dX1_quotient_61 (by decide) ?_
      refine W.widen (k := Z - kc K0) (n := Y - ks K0) (by omega) (by omega) ?_
      exact W.iret (v := (-1)) hx hb hr (fun t ht hW => ⟨⟨(-1), T_16, (kset K_1 Z Y), rfl, h, hle0, (by show Z = _; omega), (by show Y = _; omega), by rw [ht]; exact hP, va_K.moved hW.alike hK⟩, hS.F ht⟩) hS.2.2 dX1_quotient_82
  have J23 : ∀  (T : XT) (K : XK) (cn sn : Nat) (H : Heap) (locs : List Loc) (ls : Array Slot), wx1_quotient_j23 p1 p2 p3 p4 Z Y post  K T → kle K0 K → kc K0 + cn = kc K → ks K0 + sn = ks K → kc K ≤ Z → ks K ≤ Y → xW G b hole K T H → va_S (xA b hole) s.heap H locs → lv_has ls 6 [(0, .ref (b + 0)), (1, .int p1), (2, .int p2), (3, .int p3), (4, .int p4)] → W p l e (headSpec (ws_ yX1_quotient cX1_quotient 6 (some .int)) ({ frames := 9, cells := (Z - kc K0), slots := (Y - ks K0), locals := 216 } : Room)).room s m ([.ref (b + 0), .int p1, .int p2, .int p3, .int p4] : List Value).toArray below meth c H locs cn sn (MQ below (xQ G b hole K0 (Z - kc K0) (Y - ks K0) (ρ := Int32) eI (fun r T1 K1 => post r T1 K1)) ([.ref (b + 0), .int p1, .int p2, .int p3, .int p4] : List Value).toArray s (Z - kc K0) (Y - ks K0) (xA b hole)) (F0 m 23 ls []) := by
    intro  T K cn sn H locs ls h hle0 hcn hsn hzz hyy hP hS hl
    unfold wx1_quotient_j23 at h
    refine lv_iconst (v := 0) hx hb dX1_quotient_23 (by decide) ?_
    refine lv_istore (lv' := [(5, .int 0), (0, .ref (b + 0)), (1, .int p1), (2, .int p2), (3, .int p3), (4, .int p4)]) hx hb dX1_quotient_24 hl (by decide) rfl (fun ls hl => ?_)
    exact J26 _ _ _ _ _ _ _ _ h hle0 hcn hsn hzz hyy hP hS (lv_sub hl [1, 2, 3, 4, 5, 0] rfl)
  have hcn : kc K0 + 0 = kc K0 := rfl
  have hsn : ks K0 + 0 = ks K0 := rfl
  have hzz := hZ
  have hyy := hY
  unfold wx1_quotient at h
  refine lv_iload_n hx hb dX1_quotient_0 rfl (lv_at hl 3 rfl) ?_
  refine lv_iconst (v := 0) hx hb dX1_quotient_1 (by decide) ?_
  refine lv_bipush (v := 7) hx hb dX1_quotient_2 (by decide) ?_
  refine x_cS (As := [.int p3, .int 0, .int 7]) (rest := []) ⟨hx, hb, hml, hown, hts⟩ (mx1_in l G b hole p3 0 7 K0 T  _ h) (va_cwS 3 hts (lw_S q483 q484 q118 q485) rfl rfl rfl cwx_X1_in ⟨Nat.le_of_ble_eq_true rfl, Nat.le_of_ble_eq_true rfl⟩) hK hV hb0 hP hS rfl hl.1 rfl (Nat.le_of_ble_eq_true rfl) dX1_quotient_4 ⟨by first | exact Nat.zero_le _ | (show _ + _ ≤ Z - kc K0; omega), by first | exact Nat.zero_le _ | (show _ + _ ≤ Y - ks K0; omega)⟩ (fun r_31 T1 K1 H locs h hle1 hc1 hs1 hP hS => ?_)
  obtain ⟨h, hTe, hKe⟩ := h
  rw [hTe, hKe] at hP
  refine lv_if_eq (tgt := 23) hx hb dX1_quotient_7 (by decide) (fun c_35 => ?_) (fun c_35 => ?_)
  · have h := h.1 c_35
    exact J23 _ _ _ _ _ _ _ h hle0 hcn hsn hzz hyy hP hS (lv_sub hl [0, 1, 2, 3, 4] rfl)
  · have h := h.2 c_35
    refine lv_iload_n hx hb dX1_quotient_10 rfl (lv_at hl 2 rfl) ?_
    refine lv_iload_n hx hb dX1_quotient_11 rfl (lv_at hl 3 rfl) ?_
    refine m_ishr hx hb dX1_quotient_12 ?_
    refine lv_iconst (v := 1) hx hb dX1_quotient_13 (by decide) ?_
    refine lv_iand hx hb dX1_quotient_14 ?_
    refine lv_iconst (v := 1) hx hb dX1_quotient_15 (by decide) ?_
    refine lv_icmp_ne (tgt := 23) hx hb dX1_quotient_16 (by decide) (fun c_34 => ?_) (fun c_34 => ?_)
    · have h := h.1 c_34
      exact J23 _ _ _ _ _ _ _ h hle0 hcn hsn hzz hyy hP hS (lv_sub hl [0, 1, 2, 3, 4] rfl)
    · have h := h.2 c_34
      refine lv_iconst (v := 1) hx hb dX1_quotient_19 (by decide) ?_
      refine lv_goto (tgt := 24) hx hb dX1_quotient_20 (by decide) ?_
      refine lv_istore (lv' := [(5, .int 1), (0, .ref (b + 0)), (1, .int p1), (2, .int p2), (3, .int p3), (4, .int p4)]) hx hb dX1_quotient_24 hl (by decide) rfl (fun ls hl => ?_)
      exact J26 _ _ _ _ _ _ _ _ h hle0 hcn hsn hzz hyy hP hS (lv_sub hl [1, 2, 3, 4, 5, 0] rfl)
theorem cwx_X1_pair_2 : yX1_pair_2.cls = RX1 ∧ yX1_pair_2.cls ≠ "java/lang/invoke/MethodHandle" ∧ yX1_pair_2.cls ≠ "java/lang/invoke/VarHandle" ∧ (parseMethodDescriptor yX1_pair_2.desc).map (fun d => d.parameters.length) = some 3 := by decide +kernel
def wx1_pair_2_j68 (p1 : Int32) (p2 : Int32) (p3 : Int32) (Z Y : Nat) (post : Int32 → XT → XK → Prop)  (K : XK) (T : XT) : Prop :=
    wx1_no 5 K T (fun r_1 T_2 =>
    post r_1 T_2 (kset K Z Y))
def wx1_pair_2_j44 (p1 : Int32) (p2 : Int32) (p3 : Int32) (Z Y : Nat) (post : Int32 → XT → XK → Prop)  (K : XK) (T : XT) : Prop :=
    ∃ v_4 : Nat, xr T 0 18 = some v_4 ∧
    ∃ j_5 : Nat, j_5 < kl K v_4 ∧ p1 = nI j_5 ∧ ∃ v_6 : Nat, xr T v_4 j_5 = some v_6 ∧
    wx6_isZero v_6 K T (fun r_7 =>
    ((¬ r_7 = 0 →
      wx1_pair_2_j68 p1 p2 p3 Z Y post  K T) ∧
     (r_7 = 0 →
      ∃ v_10 : Nat, xr T 0 18 = some v_10 ∧
      ∃ j_11 : Nat, j_11 < kl K v_10 ∧ p2 = nI j_11 ∧ ∃ v_12 : Nat, xr T v_10 j_11 = some v_12 ∧
      wx6_isZero v_12 K T (fun r_13 =>
      ((r_13 = 0 →
        ∃ v_16 : Nat, xr T 0 18 = some v_16 ∧
        ∃ j_17 : Nat, j_17 < kl K v_16 ∧ p1 = nI j_17 ∧ ∃ v_18 : Nat, xr T v_16 j_17 = some v_18 ∧
        ∃ v_19 : Nat, xr T 0 18 = some v_19 ∧
        ∃ j_20 : Nat, j_20 < kl K v_19 ∧ p2 = nI j_20 ∧ ∃ v_21 : Nat, xr T v_19 j_20 = some v_21 ∧
        ∃ Z_25 Y_26 : Nat, kc K ≤ Z_25 ∧ Z_25 ≤ Z ∧ ks K ≤ Y_26 ∧ Y_26 ≤ Y ∧ wx1_pair v_18 v_21 K T Z_25 Y_26 (fun r_22 T_23 K_24 =>
        ∃ Z_30 Y_31 : Nat, kc K_24 ≤ Z_30 ∧ Z_30 ≤ Z ∧ ks K_24 ≤ Y_31 ∧ Y_31 ≤ Y ∧ wx1_lays r_22 p3 K_24 T_23 Z_30 Y_31 (fun r_27 T_28 K_29 =>
        post r_27 T_28 (kset K_29 Z Y)))) ∧
       (¬ (r_13 = 0) →
        wx1_pair_2_j68 p1 p2 p3 Z Y post  K T))))))
def wx1_pair_2 (p1 : Int32) (p2 : Int32) (p3 : Int32) (K0 : XK) (T : XT) (Z Y : Nat) (post : Int32 → XT → XK → Prop) : Prop :=
  kc K0 + 1 ≤ Z ∧ ks K0 + 3 ≤ Y ∧ ∀ K_34 : XK, K_34 = knew K0 1 3 3 → ∀ T_35 : XT, T_35 = xnil T (kz K0) →
  ∃ j_36 : Nat, j_36 < kl K_34 (kz K0) ∧ 0 = nI j_36 ∧ ∀ T_37 : XT, T_37 = xwi T_35 (kz K0) j_36 p1 →
  ∃ j_38 : Nat, j_38 < kl K_34 (kz K0) ∧ 1 = nI j_38 ∧ ∀ T_39 : XT, T_39 = xwi T_37 (kz K0) j_38 p2 →
  ∃ j_40 : Nat, j_40 < kl K_34 (kz K0) ∧ 2 = nI j_40 ∧ ∀ T_41 : XT, T_41 = xwi T_39 (kz K0) j_40 p3 →
  wx1_is (kz K0) K_34 T_41 (fun r_42 =>
  ((r_42 = 0 →
    wx1_why 0 K_34 T_41 (fun r_45 =>
    wx1_isRefused r_45 K_34 T_41 (fun r_48 T_49 =>
    ((r_48 = 0 →
      wx1_pair_2_j44 p1 p2 p3 Z Y post  K_34 T_49) ∧
     (¬ (r_48 = 0) →
      post (-1) T_49 (kset K_34 Z Y)))))) ∧
   (¬ (r_42 = 0) →
    ((p1 = p2 →
      wx1_why 0 K_34 T_41 (fun r_52 =>
      wx1_isRefused r_52 K_34 T_41 (fun r_55 T_56 =>
      ((r_55 = 0 →
        wx1_pair_2_j44 p1 p2 p3 Z Y post  K_34 T_56) ∧
       (¬ (r_55 = 0) →
        post (-1) T_56 (kset K_34 Z Y)))))) ∧
     (¬ (p1 = p2) →
      wx1_why 1 K_34 T_41 (fun r_59 =>
      wx1_isRefused r_59 K_34 T_41 (fun r_62 T_63 =>
      ((r_62 = 0 →
        wx1_pair_2_j44 p1 p2 p3 Z Y post  K_34 T_63) ∧
       (¬ (r_62 = 0) →
        post (-1) T_63 (kset K_34 Z Y))))))))))
set_option maxHeartbeats 4000000 in
theorem mx1_pair_2 (l : Launch) (G : XG) (b : Nat) (hole : Nat → Prop) (p1 : Int32) (p2 : Int32) (p3 : Int32) (K0 : XK) (T : XT) (Z Y : Nat) (hZ : kc K0 ≤ Z) (hY : ks K0 ≤ Y)  (post : Int32 → XT → XK → Prop) (h : wx1_pair_2 p1 p2 p3 K0 T Z Y post) : Met l yX1_pair_2 (ws_ yX1_pair_2 cX1_pair_2 4 (some .int)) ({ frames := 9, cells := (Z - kc K0), slots := (Y - ks K0), locals := 213 } : Room) (xPc G b hole [.ref (b + 0), .int p1, .int p2, .int p3] K0 T) (xQ G b hole K0 (Z - kc K0) (Y - ks K0) (ρ := Int32) eI (fun r T1 K1 => post r T1 K1)) (Z - kc K0) (Y - ks K0) (xA b hole) := by
  refine Met.ofW (cc := cX1_pair_2) (maxL := 4) (ret := (some .int)) (by decide) rfl ?_
  intro p e s m args below meth c s₁ B hml hv
  obtain ⟨rfl, hP, hK, hV⟩ := hv
  have hx := B.exec
  have hb := B.bytes
  have hr := B.returns
  have hts := atoms_spec (ws := ws_ yX1_pair_2 cX1_pair_2 4 (some .int)) B.pre
  have hts : ∀ w ∈ lw_all, w.before _ s = true := fun w h => hts w (List.mem_cons_of_mem _ h)
  have hown : s.vm.findClass RX1 = some m.cls := findClass_of_methodNamed B.named
  have hlocks := B.notSynchronized
  have hb0 : b ≤ s.heap.size := by rw [hP.2.2.2]; exact Nat.le_add_right _ _
  have hS : va_S (xA b hole) s.heap s.heap [] := va_S.rf
  have hl := lv_entry ([.ref (b + 0), .int p1, .int p2, .int p3]) (n := 4) (Nat.le_of_ble_eq_true rfl)
  rw [lg_entry_eq]
  generalize (lg_sl ([.ref (b + 0), .int p1, .int p2, .int p3]) ++ List.replicate (4 - (lg_sl ([.ref (b + 0), .int p1, .int p2, .int p3])).length) Slot.unset).toArray = ls at hl ⊢
  have hl : lv_has ls 4 [(0, .ref (b + 0)), (1, .int p1), (2, .int p2), (3, .int p3)] := hl
  have hle0 : kle K0 K0 := kle.rf
  have J68 : ∀  (T : XT) (K : XK) (cn sn : Nat) (H : Heap) (locs : List Loc) (ls : Array Slot), wx1_pair_2_j68 p1 p2 p3 Z Y post  K T → kle K0 K → kc K0 + cn = kc K → ks K0 + sn = ks K → kc K ≤ Z → ks K ≤ Y → xW G b hole K T H → va_S (xA b hole) s.heap H locs → lv_has ls 4 [(0, .ref (b + 0))] → W p l e (headSpec (ws_ yX1_pair_2 cX1_pair_2 4 (some .int)) ({ frames := 9, cells := (Z - kc K0), slots := (Y - ks K0), locals := 213 } : Room)).room s m ([.ref (b + 0), .int p1, .int p2, .int p3] : List Value).toArray below meth c H locs cn sn (MQ below (xQ G b hole K0 (Z - kc K0) (Y - ks K0) (ρ := Int32) eI (fun r T1 K1 => post r T1 K1)) ([.ref (b + 0), .int p1, .int p2, .int p3] : List Value).toArray s (Z - kc K0) (Y - ks K0) (xA b hole)) (F0 m 68 ls []) := by
    intro  T K cn sn H locs ls h hle0 hcn hsn hzz hyy hP hS hl
    unfold wx1_pair_2_j68 at h
    refine lv_aload_n hx hb dX1_pair_2_68 rfl (lv_at hl 0 rfl) ?_
    refine lv_iconst (v := 5) hx hb dX1_pair_2_69 (by decide) ?_
    refine x_cV (k := 0) (As := [.int 5]) (rest := []) ⟨hx, hb, hml, hown, hts⟩ (mx1_no l G b hole 5 K T  _ h) (cwV 1 hts (lw_V q486 q488 qs3 q118 q489) rfl rfl rfl cwx_X1_no ⟨Nat.le_of_ble_eq_true rfl, Nat.le_of_ble_eq_true rfl⟩) (x_recv (CC := RX1) (ci := 0) hK hP (xs_0 hP) (by decide) (by decide) rfl (xE_8 (xs_0 hP))) hK hV hb0 hP hS rfl hl.1 rfl (Nat.le_of_ble_eq_true rfl) dX1_pair_2_70 ⟨by first | exact Nat.zero_le _ | (show _ + _ ≤ Z - kc K0; omega), by first | exact Nat.zero_le _ | (show _ + _ ≤ Y - ks K0; omega)⟩ (fun r_1 T1 K1 H locs h hle1 hc1 hs1 hP hS => ?_)
    obtain ⟨h, hKe⟩ := h
    rw [hKe] at hP
    generalize T1 = T_2 at h hP
    refine lv_goto (tgt := 97) hx hb dX1_pair_2_73 (by decide) ?_
    refine W.widen (k := Z - kc K0) (n := Y - ks K0) (by omega) (by omega) ?_
    exact W.iret (v := r_1) hx hb hr (fun t ht hW => ⟨⟨r_1, T_2, (kset K Z Y), rfl, h, hle0, (by show Z = _; omega), (by show Y = _; omega), by rw [ht]; exact hP, va_K.moved hW.alike hK⟩, hS.F ht⟩) hS.2.2 dX1_pair_2_97
  have J44 : ∀  (T : XT) (K : XK) (cn sn : Nat) (H : Heap) (locs : List Loc) (ls : Array Slot), wx1_pair_2_j44 p1 p2 p3 Z Y post  K T → kle K0 K → kc K0 + cn = kc K → ks K0 + sn = ks K → kc K ≤ Z → ks K ≤ Y → xW G b hole K T H → va_S (xA b hole) s.heap H locs → lv_has ls 4 [(0, .ref (b + 0)), (1, .int p1), (2, .int p2), (3, .int p3)] → W p l e (headSpec (ws_ yX1_pair_2 cX1_pair_2 4 (some .int)) ({ frames := 9, cells := (Z - kc K0), slots := (Y - ks K0), locals := 213 } : Room)).room s m ([.ref (b + 0), .int p1, .int p2, .int p3] : List Value).toArray below meth c H locs cn sn (MQ below (xQ G b hole K0 (Z - kc K0) (Y - ks K0) (ρ := Int32) eI (fun r T1 K1 => post r T1 K1)) ([.ref (b + 0), .int p1, .int p2, .int p3] : List Value).toArray s (Z - kc K0) (Y - ks K0) (xA b hole)) (F0 m 44 ls []) := by
    intro  T K cn sn H locs ls h hle0 hcn hsn hzz hyy hP hS hl
    unfold wx1_pair_2_j44 at h
    refine lv_aload_n hx hb dX1_pair_2_44 rfl (lv_at hl 0 rfl) ?_
    obtain ⟨v_4, ev_4, h⟩ := h
    refine x_get (CC := RX1) (TT := TX1) (N := 26) (ci := 0) (v := rfv b (xr T 0 18)) hx hb hts in_X1 hown hK hP (xs_0 hP) (by decide) (by decide) rfl (xE_8 (xs_0 hP)) 18 (by decide) q405 rfl rfl dX1_pair_2_45 ?_
    refine x_some ev_4 ?_
    have hk_v_4 : kd K v_4 = 3 := hP.ty (xs_0 hP) (by decide) ev_4
    refine lv_iload_n hx hb dX1_pair_2_48 rfl (lv_at hl 1 rfl) ?_
    obtain ⟨j_5, hj_5, ej_5, v_6, ev_6, h⟩ := h
    refine x_aald3 hx hb hK hP hk_v_4 ej_5 hj_5 dX1_pair_2_49 ?_
    refine x_some ev_6 ?_
    have hk_v_6 : kd K v_6 = 2 := hP.ty hk_v_4 (by decide) ev_6
    refine x_cV (k := v_6) (As := []) (rest := []) ⟨hx, hb, hml, hown, hts⟩ (mx6_isZero l G b hole v_6 K T hk_v_6 _ h) (cwV 0 hts (lw_V q785 q786 q787 q126 q788) rfl rfl rfl cwx_X6_isZero ⟨Nat.le_of_ble_eq_true rfl, Nat.le_of_ble_eq_true rfl⟩) (x_recv (CC := RX6) (ci := 5) hK hP hk_v_6 (by decide) (by decide) rfl (xE_2 hk_v_6)) hK hV hb0 hP hS rfl hl.1 rfl (Nat.le_of_ble_eq_true rfl) dX1_pair_2_50 ⟨by first | exact Nat.zero_le _ | (show _ + _ ≤ Z - kc K0; omega), by first | exact Nat.zero_le _ | (show _ + _ ≤ Y - ks K0; omega)⟩ (fun r_7 T1 K1 H locs h hle1 hc1 hs1 hP hS => ?_)
    obtain ⟨h, hTe, hKe⟩ := h
    rw [hTe, hKe] at hP
    refine lv_if_ne (tgt := 68) hx hb dX1_pair_2_53 (by decide) (fun c_33 => ?_) (fun c_33 => ?_)
    · have h := h.1 c_33
      exact J68 _ _ _ _ _ _ _ h hle0 hcn hsn hzz hyy hP hS (lv_sub hl [0] rfl)
    · have h := h.2 c_33
      refine lv_aload_n hx hb dX1_pair_2_56 rfl (lv_at hl 0 rfl) ?_
      obtain ⟨v_10, ev_10, h⟩ := h
      refine x_get (CC := RX1) (TT := TX1) (N := 26) (ci := 0) (v := rfv b (xr T 0 18)) hx hb hts in_X1 hown hK hP (xs_0 hP) (by decide) (by decide) rfl (xE_8 (xs_0 hP)) 18 (by decide) q405 rfl rfl dX1_pair_2_57 ?_
      refine x_some ev_10 ?_
      have hk_v_10 : kd K v_10 = 3 := hP.ty (xs_0 hP) (by decide) ev_10
      refine lv_iload_n hx hb dX1_pair_2_60 rfl (lv_at hl 2 rfl) ?_
      obtain ⟨j_11, hj_11, ej_11, v_12, ev_12, h⟩ := h
      refine x_aald3 hx hb hK hP hk_v_10 ej_11 hj_11 dX1_pair_2_61 ?_
      refine x_some ev_12 ?_
      have hk_v_12 : kd K v_12 = 2 := hP.ty hk_v_10 (by decide) ev_12
      refine x_cV (k := v_12) (As := []) (rest := []) ⟨hx, hb, hml, hown, hts⟩ (mx6_isZero l G b hole v_12 K T hk_v_12 _ h) (cwV 0 hts (lw_V q785 q786 q787 q126 q788) rfl rfl rfl cwx_X6_isZero ⟨Nat.le_of_ble_eq_true rfl, Nat.le_of_ble_eq_true rfl⟩) (x_recv (CC := RX6) (ci := 5) hK hP hk_v_12 (by decide) (by decide) rfl (xE_2 hk_v_12)) hK hV hb0 hP hS rfl hl.1 rfl (Nat.le_of_ble_eq_true rfl) dX1_pair_2_62 ⟨by first | exact Nat.zero_le _ | (show _ + _ ≤ Z - kc K0; omega), by first | exact Nat.zero_le _ | (show _ + _ ≤ Y - ks K0; omega)⟩ (fun r_13 T1 K1 H locs h hle1 hc1 hs1 hP hS => ?_)
      obtain ⟨h, hTe, hKe⟩ := h
      rw [hTe, hKe] at hP
      refine lv_if_eq (tgt := 76) hx hb dX1_pair_2_65 (by decide) (fun c_32 => ?_) (fun c_32 => ?_)
      · have h := h.1 c_32
        refine lv_aload_n hx hb dX1_pair_2_76 rfl (lv_at hl 0 rfl) ?_
        refine lv_aload_n hx hb dX1_pair_2_77 rfl (lv_at hl 0 rfl) ?_
        refine lv_aload_n hx hb dX1_pair_2_78 rfl (lv_at hl 0 rfl) ?_
        obtain ⟨v_16, ev_16, h⟩ := h
        refine x_get (CC := RX1) (TT := TX1) (N := 26) (ci := 0) (v := rfv b (xr T 0 18)) hx hb hts in_X1 hown hK hP (xs_0 hP) (by decide) (by decide) rfl (xE_8 (xs_0 hP)) 18 (by decide) q405 rfl rfl dX1_pair_2_79 ?_
        refine x_some ev_16 ?_
        have hk_v_16 : kd K v_16 = 3 := hP.ty (xs_0 hP) (by decide) ev_16
        refine lv_iload_n hx hb dX1_pair_2_82 rfl (lv_at hl 1 rfl) ?_
        obtain ⟨j_17, hj_17, ej_17, v_18, ev_18, h⟩ := h
        refine x_aald3 hx hb hK hP hk_v_16 ej_17 hj_17 dX1_pair_2_83 ?_
        refine x_some ev_18 ?_
        have hk_v_18 : kd K v_18 = 2 := hP.ty hk_v_16 (by decide) ev_18
        refine lv_aload_n hx hb dX1_pair_2_84 rfl (lv_at hl 0 rfl) ?_
        obtain ⟨v_19, ev_19, h⟩ := h
        refine x_get (CC := RX1) (TT := TX1) (N := 26) (ci := 0) (v := rfv b (xr T 0 18)) hx hb hts in_X1 hown hK hP (xs_0 hP) (by decide) (by decide) rfl (xE_8 (xs_0 hP)) 18 (by decide) q405 rfl rfl dX1_pair_2_85 ?_
        refine x_some ev_19 ?_
        have hk_v_19 : kd K v_19 = 3 := hP.ty (xs_0 hP) (by decide) ev_19
        refine lv_iload_n hx hb dX1_pair_2_88 rfl (lv_at hl 2 rfl) ?_
        obtain ⟨j_20, hj_20, ej_20, v_21, ev_21, h⟩ := h
        refine x_aald3 hx hb hK hP hk_v_19 ej_20 hj_20 dX1_pair_2_89 ?_
        refine x_some ev_21 ?_
        have hk_v_21 : kd K v_21 = 2 := hP.ty hk_v_19 (by decide) ev_21
        obtain ⟨Z_25, Y_26, hz1, hz2, hy1, hy2, h⟩ := h
        refine x_cV (k := 0) (As := [.ref (b + v_18), .ref (b + v_21)]) (rest := [.ref (b + 0)]) ⟨hx, hb, hml, hown, hts⟩ (mx1_pair l G b hole v_18 v_21 K T Z_25 Y_26 hz1 hy1 hk_v_18 hk_v_21 _ h) (cwV 2 hts (lw_V q952 q954 qs39 q118 q955) rfl rfl rfl cwx_X1_pair ⟨Nat.le_of_ble_eq_true rfl, Nat.le_of_ble_eq_true rfl⟩) (x_recv (CC := RX1) (ci := 0) hK hP (xs_0 hP) (by decide) (by decide) rfl (xE_8 (xs_0 hP))) hK hV hb0 hP hS rfl hl.1 rfl (Nat.le_of_ble_eq_true rfl) dX1_pair_2_90 ⟨by first | exact Nat.zero_le _ | (show _ + _ ≤ Z - kc K0; omega), by first | exact Nat.zero_le _ | (show _ + _ ≤ Y - ks K0; omega)⟩ (fun r_22 T1 K1 H locs h hle1 hc1 hs1 hP hS => ?_)
        obtain ⟨h, hk_r_22⟩ := h
        generalize T1 = T_23 at h hP
        generalize K1 = K_24 at h hP hle1 hc1 hs1 hk_r_22
        have hle0 := hle0.tr hle1
        have hcn : kc K0 + (cn + (Z_25 - kc K)) = kc K_24 := by omega
        have hsn : ks K0 + (sn + (Y_26 - ks K)) = ks K_24 := by omega
        have hzz : kc K_24 ≤ Z := by omega
        have hyy : ks K_24 ≤ Y := by omega
        refine lv_iload_n hx hb dX1_pair_2_93 rfl (lv_at hl 3 rfl) ?_
        obtain ⟨Z_30, Y_31, hz1, hz2, hy1, hy2, h⟩ := h
        refine x_cV (k := 0) (As := [rfv b r_22, .int p3]) (rest := []) ⟨hx, hb, hml, hown, hts⟩ (mx1_lays l G b hole r_22 p3 K_24 T_23 Z_30 Y_31 hz1 hy1 hk_r_22 _ h) (cwV 2 hts (lw_V q995 q997 qs43 q118 q998) rfl rfl rfl cwx_X1_lays ⟨Nat.le_of_ble_eq_true rfl, Nat.le_of_ble_eq_true rfl⟩) (x_recv (CC := RX1) (ci := 0) hK hP (xs_0 hP) (by decide) (by decide) rfl (xE_8 (xs_0 hP))) hK hV hb0 hP hS rfl hl.1 rfl (Nat.le_of_ble_eq_true rfl) dX1_pair_2_94 ⟨by first | exact Nat.zero_le _ | (show _ + _ ≤ Z - kc K0; omega), by first | exact Nat.zero_le _ | (show _ + _ ≤ Y - ks K0; omega)⟩ (fun r_27 T1 K1 H locs h hle1 hc1 hs1 hP hS => ?_)
        generalize T1 = T_28 at h hP
        generalize K1 = K_29 at h hP hle1 hc1 hs1
        have hle0 := hle0.tr hle1
        have hcn : kc K0 + ((cn + (Z_25 - kc K)) + (Z_30 - kc K_24)) = kc K_29 := by omega
        have hsn : ks K0 + ((sn + (Y_26 - ks K)) + (Y_31 - ks K_24)) = ks K_29 := by omega
        have hzz : kc K_29 ≤ Z := by omega
        have hyy : ks K_29 ≤ Y := by omega
        refine W.widen (k := Z - kc K0) (n := Y - ks K0) (by omega) (by omega) ?_
        exact W.iret (v := r_27) hx hb hr (fun t ht hW => ⟨⟨r_27, T_28, (kset K_29 Z Y), rfl, h, hle0, (by show Z = _; omega), (by show Y = _; omega), by rw [ht]; exact hP, va_K.moved hW.alike hK⟩, hS.F ht⟩) hS.2.2 dX1_pair_2_97
      · have h := h.2 c_32
        exact J68 _ _ _ _ _ _ _ h hle0 hcn hsn hzz hyy hP hS (lv_sub hl [0] rfl)
  have hcn : kc K0 + 0 = kc K0 := rfl
  have hsn : ks K0 + 0 = ks K0 := rfl
  have hzz := hZ
  have hyy := hY
  unfold wx1_pair_2 at h
  refine lv_aload_n hx hb dX1_pair_2_0 rfl (lv_at hl 0 rfl) ?_
  refine lv_aload_n hx hb dX1_pair_2_1 rfl (lv_at hl 0 rfl) ?_
  refine lv_iconst (v := 3) hx hb dX1_pair_2_2 (by decide) ?_
  obtain ⟨hc1, hs1, h⟩ := h
  obtain ⟨K_34, eK_34⟩ : ∃ z : XK, z = knew K0 1 3 3 := ⟨_, rfl⟩
  obtain ⟨T_35, eT_35⟩ : ∃ z : XT, z = xnil T (kz K0) := ⟨_, rfl⟩
  have h := h K_34 eK_34 T_35 eT_35
  have hle1 : kle K0 K_34 := by rw [eK_34]; exact kle.new hP.2.2.1 _ _ _
  refine x_newai (N := 3) hx hb hts q170 hK hP hS (by decide) (by decide) (by show _ + 1 ≤ Z - kc K0; omega) (by show _ + _ ≤ Y - ks K0; omega) dX1_pair_2_3 (fun H hP hS => ?_)
  rw [← eK_34, ← eT_35] at hP
  have hk_n34 : kd K_34 (kz K0) = 1 := by rw [eK_34]; exact knew_kd
  have hle0 := hle0.tr hle1
  have hcn : kc K0 + (0 + 1) = kc K_34 := by rw [eK_34]; show _ = kc K0 + 1; omega
  have hsn : ks K0 + (0 + 3) = ks K_34 := by rw [eK_34]; show _ = ks K0 + 3; omega
  have hzz : kc K_34 ≤ Z := by rw [eK_34]; exact hc1
  have hyy : ks K_34 ≤ Y := by rw [eK_34]; exact hs1
  refine lv_dup hx hb dX1_pair_2_5 rfl ?_
  refine lv_iconst (v := 0) hx hb dX1_pair_2_6 (by decide) ?_
  refine lv_iload_n hx hb dX1_pair_2_7 rfl (lv_at hl 1 rfl) ?_
  obtain ⟨j_36, hj_36, ej_36, h⟩ := h
  obtain ⟨T_37, eT_37⟩ : ∃ z : XT, z = xwi T_35 (kz K0) j_36 p1 := ⟨_, rfl⟩
  have h := h T_37 eT_37
  refine x_iast hx hb hK hP hS hk_n34 ej_36 hj_36 dX1_pair_2_8 (fun H locs hP hS => ?_)
  rw [← eT_37] at hP
  refine lv_dup hx hb dX1_pair_2_9 rfl ?_
  refine lv_iconst (v := 1) hx hb dX1_pair_2_10 (by decide) ?_
  refine lv_iload_n hx hb dX1_pair_2_11 rfl (lv_at hl 2 rfl) ?_
  obtain ⟨j_38, hj_38, ej_38, h⟩ := h
  obtain ⟨T_39, eT_39⟩ : ∃ z : XT, z = xwi T_37 (kz K0) j_38 p2 := ⟨_, rfl⟩
  have h := h T_39 eT_39
  refine x_iast hx hb hK hP hS hk_n34 ej_38 hj_38 dX1_pair_2_12 (fun H locs hP hS => ?_)
  rw [← eT_39] at hP
  refine lv_dup hx hb dX1_pair_2_13 rfl ?_
  refine lv_iconst (v := 2) hx hb dX1_pair_2_14 (by decide) ?_
  refine lv_iload_n hx hb dX1_pair_2_15 rfl (lv_at hl 3 rfl) ?_
  obtain ⟨j_40, hj_40, ej_40, h⟩ := h
  obtain ⟨T_41, eT_41⟩ : ∃ z : XT, z = xwi T_39 (kz K0) j_40 p3 := ⟨_, rfl⟩
  have h := h T_41 eT_41
  refine x_iast hx hb hK hP hS hk_n34 ej_40 hj_40 dX1_pair_2_16 (fun H locs hP hS => ?_)
  rw [← eT_41] at hP
  refine x_cS (As := [.ref (b + (kz K0))]) (rest := [.ref (b + 0), .ref (b + 0)]) ⟨hx, hb, hml, hown, hts⟩ (mx1_is l G b hole (kz K0) K_34 T_41 hk_n34 _ h) (va_cwS 1 hts (lw_S q793 q794 q118 q795) rfl rfl rfl cwx_X1_is ⟨Nat.le_of_ble_eq_true rfl, Nat.le_of_ble_eq_true rfl⟩) hK hV hb0 hP hS rfl hl.1 rfl (Nat.le_of_ble_eq_true rfl) dX1_pair_2_17 ⟨by first | exact Nat.zero_le _ | (show _ + _ ≤ Z - kc K0; omega), by first | exact Nat.zero_le _ | (show _ + _ ≤ Y - ks K0; omega)⟩ (fun r_42 T1 K1 H locs h hle1 hc1 hs1 hP hS => ?_)
  obtain ⟨h, hTe, hKe⟩ := h
  rw [hTe, hKe] at hP
  refine lv_if_eq (tgt := 32) hx hb dX1_pair_2_20 (by decide) (fun c_67 => ?_) (fun c_67 => ?_)
  · have h := h.1 c_67
    refine lv_iconst (v := 0) hx hb dX1_pair_2_32 (by decide) ?_
    refine x_cV (k := 0) (As := [.int 0]) (rest := [.ref (b + 0)]) ⟨hx, hb, hml, hown, hts⟩ (mx1_why l G b hole 0 K_34 T_41  _ h) (cwV 1 hts (lw_V q769 q771 qs24 q118 q772) rfl rfl rfl cwx_X1_why ⟨Nat.le_of_ble_eq_true rfl, Nat.le_of_ble_eq_true rfl⟩) (x_recv (CC := RX1) (ci := 0) hK hP (xs_0 hP) (by decide) (by decide) rfl (xE_8 (xs_0 hP))) hK hV hb0 hP hS rfl hl.1 rfl (Nat.le_of_ble_eq_true rfl) dX1_pair_2_33 ⟨by first | exact Nat.zero_le _ | (show _ + _ ≤ Z - kc K0; omega), by first | exact Nat.zero_le _ | (show _ + _ ≤ Y - ks K0; omega)⟩ (fun r_45 T1 K1 H locs h hle1 hc1 hs1 hP hS => ?_)
    obtain ⟨h, hTe, hKe⟩ := h
    rw [hTe, hKe] at hP
    refine x_cV (k := 0) (As := [.int r_45]) (rest := []) ⟨hx, hb, hml, hown, hts⟩ (mx1_isRefused l G b hole r_45 K_34 T_41  _ h) (cwV 1 hts (lw_V q777 q779 qs26 q118 q780) rfl rfl rfl cwx_X1_isRefused ⟨Nat.le_of_ble_eq_true rfl, Nat.le_of_ble_eq_true rfl⟩) (x_recv (CC := RX1) (ci := 0) hK hP (xs_0 hP) (by decide) (by decide) rfl (xE_8 (xs_0 hP))) hK hV hb0 hP hS rfl hl.1 rfl (Nat.le_of_ble_eq_true rfl) dX1_pair_2_36 ⟨by first | exact Nat.zero_le _ | (show _ + _ ≤ Z - kc K0; omega), by first | exact Nat.zero_le _ | (show _ + _ ≤ Y - ks K0; omega)⟩ (fun r_48 T1 K1 H locs h hle1 hc1 hs1 hP hS => ?_)
    obtain ⟨h, hKe⟩ := h
    rw [hKe] at hP
    generalize T1 = T_49 at h hP
    refine lv_if_eq (tgt := 44) hx hb dX1_pair_2_39 (by decide) (fun c_51 => ?_) (fun c_51 => ?_)
    · have h := h.1 c_51
      exact J44 _ _ _ _ _ _ _ h hle0 hcn hsn hzz hyy hP hS (lv_sub hl [0, 1, 2, 3] rfl)
    · have h := h.2 c_51
      refine lv_iconst (v := (-1)) hx hb dX1_pair_2_42 (by decide) ?_
      refine W.widen (k := Z - kc K0) (n := Y - ks K0) (by omega) (by omega) ?_
      exact W.iret (v := (-1)) hx hb hr (fun t ht hW => ⟨⟨(-1), T_49, (kset K_34 Z Y), rfl, h, hle0, (by show Z = _; omega), (by show Y = _; omega), by rw [ht]; exact hP, va_K.moved hW.alike hK⟩, hS.F ht⟩) hS.2.2 dX1_pair_2_43
  · have h := h.2 c_67
    refine lv_iload_n hx hb dX1_pair_2_23 rfl (lv_at hl 1 rfl) ?_
    refine lv_iload_n hx hb dX1_pair_2_24 rfl (lv_at hl 2 rfl) ?_
    refine lv_icmp_eq (tgt := 32) hx hb dX1_pair_2_25 (by decide) (fun c_66 => ?_) (fun c_66 => ?_)
    · have h := h.1 c_66
      refine lv_iconst (v := 0) hx hb dX1_pair_2_32 (by decide) ?_
      refine x_cV (k := 0) (As := [.int 0]) (rest := [.ref (b + 0)]) ⟨hx, hb, hml, hown, hts⟩ (mx1_why l G b hole 0 K_34 T_41  _ h) (cwV 1 hts (lw_V q769 q771 qs24 q118 q772) rfl rfl rfl cwx_X1_why ⟨Nat.le_of_ble_eq_true rfl, Nat.le_of_ble_eq_true rfl⟩) (x_recv (CC := RX1) (ci := 0) hK hP (xs_0 hP) (by decide) (by decide) rfl (xE_8 (xs_0 hP))) hK hV hb0 hP hS rfl hl.1 rfl (Nat.le_of_ble_eq_true rfl) dX1_pair_2_33 ⟨by first | exact Nat.zero_le _ | (show _ + _ ≤ Z - kc K0; omega), by first | exact Nat.zero_le _ | (show _ + _ ≤ Y - ks K0; omega)⟩ (fun r_52 T1 K1 H locs h hle1 hc1 hs1 hP hS => ?_)
      obtain ⟨h, hTe, hKe⟩ := h
      rw [hTe, hKe] at hP
      refine x_cV (k := 0) (As := [.int r_52]) (rest := []) ⟨hx, hb, hml, hown, hts⟩ (mx1_isRefused l G b hole r_52 K_34 T_41  _ h) (cwV 1 hts (lw_V q777 q779 qs26 q118 q780) rfl rfl rfl cwx_X1_isRefused ⟨Nat.le_of_ble_eq_true rfl, Nat.le_of_ble_eq_true rfl⟩) (x_recv (CC := RX1) (ci := 0) hK hP (xs_0 hP) (by decide) (by decide) rfl (xE_8 (xs_0 hP))) hK hV hb0 hP hS rfl hl.1 rfl (Nat.le_of_ble_eq_true rfl) dX1_pair_2_36 ⟨by first | exact Nat.zero_le _ | (show _ + _ ≤ Z - kc K0; omega), by first | exact Nat.zero_le _ | (show _ + _ ≤ Y - ks K0; omega)⟩ (fun r_55 T1 K1 H locs h hle1 hc1 hs1 hP hS => ?_)
      obtain ⟨h, hKe⟩ := h
      rw [hKe] at hP
      generalize T1 = T_56 at h hP
      refine lv_if_eq (tgt := 44) hx hb dX1_pair_2_39 (by decide) (fun c_58 => ?_) (fun c_58 => ?_)
      · have h := h.1 c_58
        exact J44 _ _ _ _ _ _ _ h hle0 hcn hsn hzz hyy hP hS (lv_sub hl [0, 1, 2, 3] rfl)
      · have h := h.2 c_58
        refine lv_iconst (v := (-1)) hx hb dX1_pair_2_42 (by decide) ?_
        refine W.widen (k := Z - kc K0) (n := Y - ks K0) (by omega) (by omega) ?_
        exact W.iret (v := (-1)) hx hb hr (fun t ht hW => ⟨⟨(-1), T_56, (kset K_34 Z Y), rfl, h, hle0, (by show Z = _; omega), (by show Y = _; omega), by rw [ht]; exact hP, va_K.moved hW.alike hK⟩, hS.F ht⟩) hS.2.2 dX1_pair_2_43
    · have h := h.2 c_66
      refine lv_iconst (v := 1) hx hb dX1_pair_2_28 (by decide) ?_
      refine lv_goto (tgt := 33) hx hb dX1_pair_2_29 (by decide) ?_
      refine x_cV (k := 0) (As := [.int 1]) (rest := [.ref (b + 0)]) ⟨hx, hb, hml, hown, hts⟩ (mx1_why l G b hole 1 K_34 T_41  _ h) (cwV 1 hts (lw_V q769 q771 qs24 q118 q772) rfl rfl rfl cwx_X1_why ⟨Nat.le_of_ble_eq_true rfl, Nat.le_of_ble_eq_true rfl⟩) (x_recv (CC := RX1) (ci := 0) hK hP (xs_0 hP) (by decide) (by decide) rfl (xE_8 (xs_0 hP))) hK hV hb0 hP hS rfl hl.1 rfl (Nat.le_of_ble_eq_true rfl) dX1_pair_2_33 ⟨by first | exact Nat.zero_le _ | (show _ + _ ≤ Z - kc K0; omega), by first | exact Nat.zero_le _ | (show _ + _ ≤ Y - ks K0; omega)⟩ (fun r_59 T1 K1 H locs h hle1 hc1 hs1 hP hS => ?_)
      obtain ⟨h, hTe, hKe⟩ := h
      rw [hTe, hKe] at hP
      refine x_cV (k := 0) (As := [.int r_59]) (rest := []) ⟨hx, hb, hml, hown, hts⟩ (mx1_isRefused l G b hole r_59 K_34 T_41  _ h) (cwV 1 hts (lw_V q777 q779 qs26 q118 q780) rfl rfl rfl cwx_X1_isRefused ⟨Nat.le_of_ble_eq_true rfl, Nat.le_of_ble_eq_true rfl⟩) (x_recv (CC := RX1) (ci := 0) hK hP (xs_0 hP) (by decide) (by decide) rfl (xE_8 (xs_0 hP))) hK hV hb0 hP hS rfl hl.1 rfl (Nat.le_of_ble_eq_true rfl) dX1_pair_2_36 ⟨by first | exact Nat.zero_le _ | (show _ + _ ≤ Z - kc K0; omega), by first | exact Nat.zero_le _ | (show _ + _ ≤ Y - ks K0; omega)⟩ (fun r_62 T1 K1 H locs h hle1 hc1 hs1 hP hS => ?_)
      obtain ⟨h, hKe⟩ := h
      rw [hKe] at hP
      generalize T1 = T_63 at h hP
      refine lv_if_eq (tgt := 44) hx hb dX1_pair_2_39 (by decide) (fun c_65 => ?_) (fun c_65 => ?_)
      · have h := h.1 c_65
        exact J44 _ _ _ _ _ _ _ h hle0 hcn hsn hzz hyy hP hS (lv_sub hl [0, 1, 2, 3] rfl)
      · have h := h.2 c_65
        refine lv_iconst (v := (-1)) hx hb dX1_pair_2_42 (by decide) ?_
        refine W.widen (k := Z - kc K0) (n := Y - ks K0) (by omega) (by omega) ?_
        exact W.iret (v := (-1)) hx hb hr (fun t ht hW => ⟨⟨(-1), T_63, (kset K_34 Z Y), rfl, h, hle0, (by show Z = _; omega), (by show Y = _; omega), by rw [ht]; exact hP, va_K.moved hW.alike hK⟩, hS.F ht⟩) hS.2.2 dX1_pair_2_43
theorem cwx_X1_hasThird : yX1_hasThird.cls = RX1 ∧ yX1_hasThird.cls ≠ "java/lang/invoke/MethodHandle" ∧ yX1_hasThird.cls ≠ "java/lang/invoke/VarHandle" ∧ (parseMethodDescriptor yX1_hasThird.desc).map (fun d => d.parameters.length) = some 1 := by decide +kernel
def wx1_hasThird (p1 : Int32) (K : XK) (T : XT) (post : Int32 → Prop) : Prop :=
  ∃ v_1 : Nat, xr T 0 18 = some v_1 ∧
  ∃ j_2 : Nat, j_2 < kl K v_1 ∧ p1 = nI j_2 ∧ ∃ v_3 : Nat, xr T v_1 j_2 = some v_3 ∧
  wx6_most v_3 2 K T (fun r_4 =>
  ((r_4 ≤ 0 →
    post 0) ∧
   (¬ (r_4 ≤ 0) →
    post 1)))
set_option maxHeartbeats 4000000 in
theorem mx1_hasThird (l : Launch) (G : XG) (b : Nat) (hole : Nat → Prop) (p1 : Int32) (K : XK) (T : XT)  (post : Int32 → Prop) (h : wx1_hasThird p1 K T post) : Met l yX1_hasThird (ws_ yX1_hasThird cX1_hasThird 2 (some .boolean)) ({ frames := 2, cells := 0, slots := 0, locals := 83 } : Room) (xPc G b hole [.ref (b + 0), .int p1] K T) (xQ G b hole K 0 0 (ρ := Int32) eI (fun r T1 K1 => post r ∧ T1 = T ∧ K1 = K)) 0 0 (xA b hole) := by
  refine Met.ofW (cc := cX1_hasThird) (maxL := 2) (ret := (some .boolean)) (by decide) rfl ?_
  intro p e s m args below meth c s₁ B hml hv
  obtain ⟨rfl, hP, hK, hV⟩ := hv
  have hx := B.exec
  have hb := B.bytes
  have hr := B.returns
  have hts := atoms_spec (ws := ws_ yX1_hasThird cX1_hasThird 2 (some .boolean)) B.pre
  have hts : ∀ w ∈ lw_all, w.before _ s = true := fun w h => hts w (List.mem_cons_of_mem _ h)
  have hown : s.vm.findClass RX1 = some m.cls := findClass_of_methodNamed B.named
  have hlocks := B.notSynchronized
  have hb0 : b ≤ s.heap.size := by rw [hP.2.2.2]; exact Nat.le_add_right _ _
  have hS : va_S (xA b hole) s.heap s.heap [] := va_S.rf
  have hl := lv_entry ([.ref (b + 0), .int p1]) (n := 2) (Nat.le_of_ble_eq_true rfl)
  rw [lg_entry_eq]
  generalize (lg_sl ([.ref (b + 0), .int p1]) ++ List.replicate (2 - (lg_sl ([.ref (b + 0), .int p1])).length) Slot.unset).toArray = ls at hl ⊢
  have hl : lv_has ls 2 [(0, .ref (b + 0)), (1, .int p1)] := hl
  unfold wx1_hasThird at h
  refine lv_aload_n hx hb dX1_hasThird_0 rfl (lv_at hl 0 rfl) ?_
  obtain ⟨v_1, ev_1, h⟩ := h
  refine x_get (CC := RX1) (TT := TX1) (N := 26) (ci := 0) (v := rfv b (xr T 0 18)) hx hb hts in_X1 hown hK hP (xs_0 hP) (by decide) (by decide) rfl (xE_8 (xs_0 hP)) 18 (by decide) q405 rfl rfl dX1_hasThird_1 ?_
  refine x_some ev_1 ?_
  have hk_v_1 : kd K v_1 = 3 := hP.ty (xs_0 hP) (by decide) ev_1
  refine lv_iload_n hx hb dX1_hasThird_4 rfl (lv_at hl 1 rfl) ?_
  obtain ⟨j_2, hj_2, ej_2, v_3, ev_3, h⟩ := h
  refine x_aald3 hx hb hK hP hk_v_1 ej_2 hj_2 dX1_hasThird_5 ?_
  refine x_some ev_3 ?_
  have hk_v_3 : kd K v_3 = 2 := hP.ty hk_v_1 (by decide) ev_3
  refine lv_iconst (v := 2) hx hb dX1_hasThird_6 (by decide) ?_
  refine x_cV (k := v_3) (As := [.int 2]) (rest := []) ⟨hx, hb, hml, hown, hts⟩ (mx6_most l G b hole v_3 2 K T hk_v_3 _ h) (cwV 1 hts (lw_V q819 q820 q821 q126 q822) rfl rfl rfl cwx_X6_most ⟨Nat.le_of_ble_eq_true rfl, Nat.le_of_ble_eq_true rfl⟩) (x_recv (CC := RX6) (ci := 5) hK hP hk_v_3 (by decide) (by decide) rfl (xE_2 hk_v_3)) hK hV hb0 hP hS rfl hl.1 rfl (Nat.le_of_ble_eq_true rfl) dX1_hasThird_7 ⟨by first | exact Nat.zero_le _ | (show _ + _ ≤ Z - kc K0; omega), by first | exact Nat.zero_le _ | (show _ + _ ≤ Y - ks K0; omega)⟩ (fun r_4 T1 K1 H locs h hle1 hc1 hs1 hP hS => ?_)
  obtain ⟨h, hTe, hKe⟩ := h
  rw [hTe, hKe] at hP
  refine lv_if_le (tgt := 17) hx hb dX1_hasThird_10 (by decide) (fun c_7 => ?_) (fun c_7 => ?_)
  · have h := h.1 c_7
    refine lv_iconst (v := 0) hx hb dX1_hasThird_17 (by decide) ?_
    exact W.zret (v := 0) hx hb hr rfl (fun t ht hW => ⟨⟨0, T, K, rfl, ⟨h, rfl, rfl⟩, kle.rf, rfl, rfl, by rw [ht]; exact hP, va_K.moved hW.alike hK⟩, hS.F ht⟩) hS.2.2 dX1_hasThird_18
  · have h := h.2 c_7
    refine lv_iconst (v := 1) hx hb dX1_hasThird_13 (by decide) ?_
    refine lv_goto (tgt := 18) hx hb dX1_hasThird_14 (by decide) ?_
    exact W.zret (v := 1) hx hb hr rfl (fun t ht hW => ⟨⟨1, T, K, rfl, ⟨h, rfl, rfl⟩, kle.rf, rfl, rfl, by rw [ht]; exact hP, va_K.moved hW.alike hK⟩, hS.F ht⟩) hS.2.2 dX1_hasThird_18
theorem cwx_X1_lays_2 : yX1_lays_2.cls = RX1 ∧ yX1_lays_2.cls ≠ "java/lang/invoke/MethodHandle" ∧ yX1_lays_2.cls ≠ "java/lang/invoke/VarHandle" ∧ (parseMethodDescriptor yX1_lays_2.desc).map (fun d => d.parameters.length) = some 2 := by decide +kernel
def wx1_lays_2_b36 (p1 : Nat) (p2 : Nat) (post : Nat → XT → Prop) (R36 : Int32 → XT → Prop)  (x3 : Int32) (K : XK) (T : XT) : Prop :=
      (((xi T p1 2) ≤ x3 →
        post p2 T) ∧
       (¬ ((xi T p1 2) ≤ x3) →
        ∃ v_1 : Nat, xr T p1 0 = some v_1 ∧
        ∃ j_2 : Nat, j_2 < kl K v_1 ∧ x3 = nI j_2 ∧
        wx1_exponent (xi T v_1 j_2) 0 K T (fun r_3 =>
        ∃ j_6 : Nat, j_6 < kl K p2 ∧ r_3 = nI j_6 ∧ ∃ v_7 : Nat, xr T p2 j_6 = some v_7 ∧
        ∃ v_8 : Nat, xr T p1 0 = some v_8 ∧
        ∃ j_9 : Nat, j_9 < kl K v_8 ∧ x3 = nI j_9 ∧
        wx1_exponent (xi T v_8 j_9) 1 K T (fun r_10 =>
        ∃ v_13 : Nat, xr T p1 1 = some v_13 ∧
        ∃ j_14 : Nat, j_14 < kl K v_13 ∧ x3 = nI j_14 ∧
        ∃ j_15 : Nat, j_15 < kl K v_7 ∧ r_10 = nI j_15 ∧ ∀ T_16 : XT, T_16 = xwi T v_7 j_15 (xi T v_13 j_14) →
        ∀ x3_17 : Int32, x3_17 = x3 + 1 →
        R36 x3_17 T_16))))
def wx1_lays_2_l36 (p1 : Nat) (p2 : Nat) (post : Nat → XT → Prop)  (x3 : Int32) (K : XK) (T : XT) : Prop := wLoop (fun (R : ((Int32) × (XT)) → Prop) (v : (Int32) × (XT)) => wx1_lays_2_b36 p1 p2 post (fun x3 T => R (x3, T))  v.1 K v.2) (x3, T)
def wx1_lays_2_b9 (p1 : Nat) (p2 : Nat) (post : Nat → XT → Prop) (R9 : Int32 → XT → Prop) (x3 : Nat) (x4 : Int32) (x5 : Int32) (K : XK) (T : XT) : Prop :=
      ((x4 ≤ x5 →
        wx1_lays_2_l36 p1 p2 post 0 K T) ∧
       (¬ (x4 ≤ x5) →
        ∃ j_19 : Nat, j_19 < kl K x3 ∧ x5 = nI j_19 ∧ ∃ v_20 : Nat, xr T x3 j_19 = some v_20 ∧
        wxJ3_fill_2 v_20 0 K T (fun T_22 =>
        ∀ x5_24 : Int32, x5_24 = x5 + 1 →
        R9 x5_24 T_22)))
def wx1_lays_2_l9 (p1 : Nat) (p2 : Nat) (post : Nat → XT → Prop) (x3 : Nat) (x4 : Int32) (x5 : Int32) (K : XK) (T : XT) : Prop := wLoop (fun (R : ((Int32) × (XT)) → Prop) (v : (Int32) × (XT)) => wx1_lays_2_b9 p1 p2 post (fun x5 T => R (x5, T)) x3 x4 v.1 K v.2) (x5, T)
def wx1_lays_2 (p1 : Nat) (p2 : Nat) (K : XK) (T : XT) (post : Nat → XT → Prop) : Prop :=
  ∀ x4_26 : Int32, x4_26 = (nI (kl K p2)) →
  wx1_lays_2_l9 p1 p2 post p2 x4_26 0 K T
set_option maxHeartbeats 4000000 in
theorem mx1_lays_2 (l : Launch) (G : XG) (b : Nat) (hole : Nat → Prop) (p1 : Nat) (p2 : Nat) (K : XK) (T : XT) (hk_p1 : kd K p1 = 2) (hk_p2 : kd K p2 = 4) (post : Nat → XT → Prop) (h : wx1_lays_2 p1 p2 K T post) : Met l yX1_lays_2 (ws_ yX1_lays_2 cX1_lays_2 7 (some (.array (.array .int)))) ({ frames := 1, cells := 0, slots := 0, locals := 23 } : Room) (xPc G b hole [.ref (b + 0), .ref (b + p1), .ref (b + p2)] K T) (xQ G b hole K 0 0 (ρ := Nat) (eR b) (fun r T1 K1 => post r T1 ∧ kd K1 r = 4 ∧ K1 = K)) 0 0 (xA b hole) := by
  refine Met.ofW (cc := cX1_lays_2) (maxL := 7) (ret := (some (.array (.array .int)))) (by decide) rfl ?_
  intro p e s m args below meth c s₁ B hml hv
  obtain ⟨rfl, hP, hK, hV⟩ := hv
  have hx := B.exec
  have hb := B.bytes
  have hr := B.returns
  have hts := atoms_spec (ws := ws_ yX1_lays_2 cX1_lays_2 7 (some (.array (.array .int)))) B.pre
  have hts : ∀ w ∈ lw_all, w.before _ s = true := fun w h => hts w (List.mem_cons_of_mem _ h)
  have hown : s.vm.findClass RX1 = some m.cls := findClass_of_methodNamed B.named
  have hlocks := B.notSynchronized
  have hb0 : b ≤ s.heap.size := by rw [hP.2.2.2]; exact Nat.le_add_right _ _
  have hS : va_S (xA b hole) s.heap s.heap [] := va_S.rf
  have hl := lv_entry ([.ref (b + 0), .ref (b + p1), .ref (b + p2)]) (n := 7) (Nat.le_of_ble_eq_true rfl)
  rw [lg_entry_eq]
  generalize (lg_sl ([.ref (b + 0), .ref (b + p1), .ref (b + p2)]) ++ List.replicate (7 - (lg_sl ([.ref (b + 0), .ref (b + p1), .ref (b + p2)])).length) Slot.unset).toArray = ls at hl ⊢
  have hl : lv_has ls 7 [(0, .ref (b + 0)), (1, .ref (b + p1)), (2, .ref (b + p2))] := hl
  have L36 : ∀ (x3 : Int32) (T : XT) (H : Heap) (locs : List Loc) (ls : Array Slot), wx1_lays_2_l36 p1 p2 post  x3 K T → xW G b hole K T H → va_S (xA b hole) s.heap H locs → lv_has ls 7 [(0, .ref (b + 0)), (1, .ref (b + p1)), (2, .ref (b + p2)), (3, .int x3)] → W p l e (headSpec (ws_ yX1_lays_2 cX1_lays_2 7 (some (.array (.array .int)))) ({ frames := 1, cells := 0, slots := 0, locals := 23 } : Room)).room s m ([.ref (b + 0), .ref (b + p1), .ref (b + p2)] : List Value).toArray below meth c H locs 0 0 (MQ below (xQ G b hole K 0 0 (ρ := Nat) (eR b) (fun r T1 K1 => post r T1 ∧ kd K1 r = 4 ∧ K1 = K)) ([.ref (b + 0), .ref (b + p1), .ref (b + p2)] : List Value).toArray s 0 0 (xA b hole)) (F0 m 36 ls []) := by
    intro x3 T H locs ls h hP hS hl
    obtain ⟨I36, n36, hI, hstep36⟩ := h
    induction n36 using Nat.strongRecOn generalizing x3 T H locs ls with
    | ind n36 ih36 =>
      have h : wx1_lays_2_b36 p1 p2 post (fun x3 T => ∃ mm, mm < n36 ∧ I36 mm (x3, T))  x3 K T := hstep36 n36 _ hI
      clear hI
      unfold wx1_lays_2_b36 at h
      refine lv_iload_n hx hb dX1_lays_2_36 rfl (lv_at hl 3 rfl) ?_
      refine lv_aload_n hx hb dX1_lays_2_37 rfl (lv_at hl 1 rfl) ?_
      refine x_get (CC := RX6) (TT := TX6) (N := 3) (ci := 5) (v := .int (xi T p1 2)) hx hb hts in_X6 hown hK hP hk_p1 (by decide) (by decide) rfl (xE_2 hk_p1) 2 (by decide) q372 rfl rfl dX1_lays_2_38 ?_
      refine lv_icmp_ge (tgt := 79) hx hb dX1_lays_2_41 (by decide) (fun c_18 => ?_) (fun c_18 => ?_)
      · have h := h.1 c_18
        refine lv_aload_n hx hb dX1_lays_2_79 rfl (lv_at hl 2 rfl) ?_
        exact W.aret (v := .ref (b + p2)) hx hb hr (Or.inr ⟨_, rfl⟩) (Or.inr ⟨_, rfl⟩) (fun t ht hW => ⟨⟨p2, T, K, rfl, ⟨h, hk_p2, rfl⟩, kle.rf, rfl, rfl, by rw [ht]; exact hP, va_K.moved hW.alike hK⟩, hS.F ht⟩) hS.2.2 dX1_lays_2_80
      · have h := h.2 c_18
        refine lv_aload_n hx hb dX1_lays_2_44 rfl (lv_at hl 2 rfl) ?_
        refine lv_aload_n hx hb dX1_lays_2_45 rfl (lv_at hl 1 rfl) ?_
        obtain ⟨v_1, ev_1, h⟩ := h
        refine x_get (CC := RX6) (TT := TX6) (N := 3) (ci := 5) (v := rfv b (xr T p1 0)) hx hb hts in_X6 hown hK hP hk_p1 (by decide) (by decide) rfl (xE_2 hk_p1) 0 (by decide) q366 rfl rfl dX1_lays_2_46 ?_
        refine x_some ev_1 ?_
        have hk_v_1 : kd K v_1 = 1 := hP.ty hk_p1 (by decide) ev_1
        refine lv_iload_n hx hb dX1_lays_2_49 rfl (lv_at hl 3 rfl) ?_
        obtain ⟨j_2, hj_2, ej_2, h⟩ := h
        refine x_iald hx hb hK hP hk_v_1 ej_2 hj_2 dX1_lays_2_50 ?_
        refine lv_iconst (v := 0) hx hb dX1_lays_2_51 (by decide) ?_
        refine x_cS (As := [.int (xi T v_1 j_2), .int 0]) (rest := [.ref (b + p2)]) ⟨hx, hb, hml, hown, hts⟩ (mx1_exponent l G b hole (xi T v_1 j_2) 0 K T  _ h) (va_cwS 2 hts (lw_S q723 q724 q118 q725) rfl rfl rfl cwx_X1_exponent ⟨Nat.le_of_ble_eq_true rfl, Nat.le_of_ble_eq_true rfl⟩) hK hV hb0 hP hS rfl hl.1 rfl (Nat.le_of_ble_eq_true rfl) dX1_lays_2_52 ⟨by first | exact Nat.zero_le _ | (show _ + _ ≤ Z - kc K0; omega), by first | exact Nat.zero_le _ | (show _ + _ ≤ Y - ks K0; omega)⟩ (fun r_3 T1 K1 H locs h hle1 hc1 hs1 hP hS => ?_)
        obtain ⟨h, hTe, hKe⟩ := h
        rw [hTe, hKe] at hP
        obtain ⟨j_6, hj_6, ej_6, v_7, ev_7, h⟩ := h
        refine x_aald4 hx hb hK hP hk_p2 ej_6 hj_6 dX1_lays_2_55 ?_
        refine x_some ev_7 ?_
        have hk_v_7 : kd K v_7 = 1 := hP.ty hk_p2 (by decide) ev_7
        refine lv_aload_n hx hb dX1_lays_2_56 rfl (lv_at hl 1 rfl) ?_
        obtain ⟨v_8, ev_8, h⟩ := h
        refine x_get (CC := RX6) (TT := TX6) (N := 3) (ci := 5) (v := rfv b (xr T p1 0)) hx hb hts in_X6 hown hK hP hk_p1 (by decide) (by decide) rfl (xE_2 hk_p1) 0 (by decide) q366 rfl rfl dX1_lays_2_57 ?_
        refine x_some ev_8 ?_
        have hk_v_8 : kd K v_8 = 1 := hP.ty hk_p1 (by decide) ev_8
        refine lv_iload_n hx hb dX1_lays_2_60 rfl (lv_at hl 3 rfl) ?_
        obtain ⟨j_9, hj_9, ej_9, h⟩ := h
        refine x_iald hx hb hK hP hk_v_8 ej_9 hj_9 dX1_lays_2_61 ?_
        refine lv_iconst (v := 1) hx hb dX1_lays_2_62 (by decide) ?_
        refine x_cS (As := [.int (xi T v_8 j_9), .int 1]) (rest := [.ref (b + v_7)]) ⟨hx, hb, hml, hown, hts⟩ (mx1_exponent l G b hole (xi T v_8 j_9) 1 K T  _ h) (va_cwS 2 hts (lw_S q723 q724 q118 q725) rfl rfl rfl cwx_X1_exponent ⟨Nat.le_of_ble_eq_true rfl, Nat.le_of_ble_eq_true rfl⟩) hK hV hb0 hP hS rfl hl.1 rfl (Nat.le_of_ble_eq_true rfl) dX1_lays_2_63 ⟨by first | exact Nat.zero_le _ | (show _ + _ ≤ Z - kc K0; omega), by first | exact Nat.zero_le _ | (show _ + _ ≤ Y - ks K0; omega)⟩ (fun r_10 T1 K1 H locs h hle1 hc1 hs1 hP hS => ?_)
        obtain ⟨h, hTe, hKe⟩ := h
        rw [hTe, hKe] at hP
        refine lv_aload_n hx hb dX1_lays_2_66 rfl (lv_at hl 1 rfl) ?_
        obtain ⟨v_13, ev_13, h⟩ := h
        refine x_get (CC := RX6) (TT := TX6) (N := 3) (ci := 5) (v := rfv b (xr T p1 1)) hx hb hts in_X6 hown hK hP hk_p1 (by decide) (by decide) rfl (xE_2 hk_p1) 1 (by decide) q369 rfl rfl dX1_lays_2_67 ?_
        refine x_some ev_13 ?_
        have hk_v_13 : kd K v_13 = 1 := hP.ty hk_p1 (by decide) ev_13
        refine lv_iload_n hx hb dX1_lays_2_70 rfl (lv_at hl 3 rfl) ?_
        obtain ⟨j_14, hj_14, ej_14, h⟩ := h
        refine x_iald hx hb hK hP hk_v_13 ej_14 hj_14 dX1_lays_2_71 ?_
        obtain ⟨j_15, hj_15, ej_15, h⟩ := h
        obtain ⟨T_16, eT_16⟩ : ∃ z : XT, z = xwi T v_7 j_15 (xi T v_13 j_14) := ⟨_, rfl⟩
        have h := h T_16 eT_16
        refine x_iast hx hb hK hP hS hk_v_7 ej_15 hj_15 dX1_lays_2_72 (fun H locs hP hS => ?_)
        rw [← eT_16] at hP
        obtain ⟨x3_17, ex3_17⟩ : ∃ y : Int32, y = x3 + 1 := ⟨_, rfl⟩
        have h := h x3_17 ex3_17
        refine lv_iinc (v := x3_17) (lv' := [(3, .int x3_17), (0, .ref (b + 0)), (1, .ref (b + p1)), (2, .ref (b + p2))]) hx hb dX1_lays_2_73 hl (k := 3) rfl (by rw [ex3_17]; rfl) (by decide) rfl (fun ls hl => ?_)
        refine lv_goto (tgt := 36) hx hb dX1_lays_2_76 (by decide) ?_
        obtain ⟨mm, hmm, h⟩ := h
        exact ih36 mm hmm _ _ _ _ _  hP hS (lv_sub hl [1, 2, 3, 0] rfl) h
  have L9 : ∀ (x3 : Nat) (x4 : Int32) (x5 : Int32) (T : XT) (H : Heap) (locs : List Loc) (ls : Array Slot), wx1_lays_2_l9 p1 p2 post x3 x4 x5 K T → (kd K x3 = 4) → xW G b hole K T H → va_S (xA b hole) s.heap H locs → lv_has ls 7 [(0, .ref (b + 0)), (1, .ref (b + p1)), (2, .ref (b + p2)), (3, .ref (b + x3)), (4, .int x4), (5, .int x5)] → W p l e (headSpec (ws_ yX1_lays_2 cX1_lays_2 7 (some (.array (.array .int)))) ({ frames := 1, cells := 0, slots := 0, locals := 23 } : Room)).room s m ([.ref (b + 0), .ref (b + p1), .ref (b + p2)] : List Value).toArray below meth c H locs 0 0 (MQ below (xQ G b hole K 0 0 (ρ := Nat) (eR b) (fun r T1 K1 => post r T1 ∧ kd K1 r = 4 ∧ K1 = K)) ([.ref (b + 0), .ref (b + p1), .ref (b + p2)] : List Value).toArray s 0 0 (xA b hole)) (F0 m 9 ls []) := by
    intro x3 x4 x5 T H locs ls h hk_x3 hP hS hl
    obtain ⟨I9, n9, hI, hstep9⟩ := h
    induction n9 using Nat.strongRecOn generalizing x5 T H locs ls with
    | ind n9 ih9 =>
      have h : wx1_lays_2_b9 p1 p2 post (fun x5 T => ∃ mm, mm < n9 ∧ I9 mm (x5, T)) x3 x4 x5 K T := hstep9 n9 _ hI
      clear hI
      unfold wx1_lays_2_b9 at h
      refine lv_iload hx hb dX1_lays_2_9 (lv_at hl 5 rfl) ?_
      refine lv_iload hx hb dX1_lays_2_11 (lv_at hl 4 rfl) ?_
      refine lv_icmp_ge (tgt := 34) hx hb dX1_lays_2_13 (by decide) (fun c_25 => ?_) (fun c_25 => ?_)
      · have h := h.1 c_25
        refine lv_iconst (v := 0) hx hb dX1_lays_2_34 (by decide) ?_
        refine lv_istore_n (lv' := [(3, .int 0), (0, .ref (b + 0)), (1, .ref (b + p1)), (2, .ref (b + p2)), (4, .int x4), (5, .int x5)]) hx hb dX1_lays_2_35 rfl hl (by decide) rfl (fun ls hl => ?_)
        exact L36 _ _ _ _ _ h  hP hS (lv_sub hl [1, 2, 3, 0] rfl)
      · have h := h.2 c_25
        refine lv_aload_n hx hb dX1_lays_2_16 rfl (lv_at hl 3 rfl) ?_
        refine lv_iload hx hb dX1_lays_2_17 (lv_at hl 5 rfl) ?_
        obtain ⟨j_19, hj_19, ej_19, v_20, ev_20, h⟩ := h
        refine x_aald4 hx hb hK hP hk_x3 ej_19 hj_19 dX1_lays_2_19 ?_
        refine x_some ev_20 ?_
        have hk_v_20 : kd K v_20 = 1 := hP.ty hk_x3 (by decide) ev_20
        refine lv_astore (lv' := [(6, .ref (b + v_20)), (0, .ref (b + 0)), (1, .ref (b + p1)), (2, .ref (b + p2)), (3, .ref (b + x3)), (4, .int x4), (5, .int x5)]) hx hb dX1_lays_2_20 hl (by decide) rfl (fun ls hl => ?_)
        refine lv_aload hx hb dX1_lays_2_22 (lv_at hl 0 rfl) ?_
        refine lv_iconst (v := 0) hx hb dX1_lays_2_24 (by decide) ?_
        refine x_cS (As := [.ref (b + v_20), .int 0]) (rest := []) ⟨hx, hb, hml, hown, hts⟩ (mxJ3_fill_2 l G b hole v_20 0 K T hk_v_20 _ h) (va_cwS 2 hts (lw_S q741 q742 q127 q743) rfl rfl rfl cwx_J3_fill_2 ⟨Nat.le_of_ble_eq_true rfl, Nat.le_of_ble_eq_true rfl⟩) hK hV hb0 hP hS rfl hl.1 rfl (Nat.le_of_ble_eq_true rfl) dX1_lays_2_25 ⟨by first | exact Nat.zero_le _ | (show _ + _ ≤ Z - kc K0; omega), by first | exact Nat.zero_le _ | (show _ + _ ≤ Y - ks K0; omega)⟩ (fun r_21 T1 K1 H locs h hle1 hc1 hs1 hP hS => ?_)
        obtain ⟨h, hKe⟩ := h
        rw [hKe] at hP
        generalize T1 = T_22 at h hP
        obtain ⟨x5_24, ex5_24⟩ : ∃ y : Int32, y = x5 + 1 := ⟨_, rfl⟩
        have h := h x5_24 ex5_24
        refine lv_iinc (v := x5_24) (lv' := [(5, .int x5_24), (6, .ref (b + v_20)), (0, .ref (b + 0)), (1, .ref (b + p1)), (2, .ref (b + p2)), (3, .ref (b + x3)), (4, .int x4)]) hx hb dX1_lays_2_28 hl (k := 6) rfl (by rw [ex5_24]; rfl) (by decide) rfl (fun ls hl => ?_)
        refine lv_goto (tgt := 9) hx hb dX1_lays_2_31 (by decide) ?_
        obtain ⟨mm, hmm, h⟩ := h
        exact ih9 mm hmm _ _ _ _ _  hP hS (lv_sub hl [2, 3, 4, 5, 6, 0] rfl) h
  unfold wx1_lays_2 at h
  refine lv_aload_n hx hb dX1_lays_2_0 rfl (lv_at hl 2 rfl) ?_
  refine lv_astore_n (lv' := [(3, .ref (b + p2)), (0, .ref (b + 0)), (1, .ref (b + p1)), (2, .ref (b + p2))]) hx hb dX1_lays_2_1 rfl hl (by decide) rfl (fun ls hl => ?_)
  refine lv_aload_n hx hb dX1_lays_2_2 rfl (lv_at hl 0 rfl) ?_
  refine x_alen4 hx hb hK hP hk_p2 dX1_lays_2_3 ?_
  refine lv_topi (fun x4_26 ex4_26 => ?_)
  have h := h x4_26 ex4_26
  refine lv_istore (lv' := [(4, .int x4_26), (3, .ref (b + p2)), (0, .ref (b + 0)), (1, .ref (b + p1)), (2, .ref (b + p2))]) hx hb dX1_lays_2_4 hl (by decide) rfl (fun ls hl => ?_)
  refine lv_iconst (v := 0) hx hb dX1_lays_2_6 (by decide) ?_
  refine lv_istore (lv' := [(5, .int 0), (4, .int x4_26), (3, .ref (b + p2)), (0, .ref (b + 0)), (1, .ref (b + p1)), (2, .ref (b + p2))]) hx hb dX1_lays_2_7 hl (by decide) rfl (fun ls hl => ?_)
  exact L9 _ _ _ _ _ _ _ h hk_p2 hP hS (lv_sub hl [3, 4, 5, 2, 1, 0] rfl)
theorem cwx_X1_top : yX1_top.cls ≠ "java/lang/invoke/MethodHandle" ∧ yX1_top.cls ≠ "java/lang/invoke/VarHandle" ∧ (parseMethodDescriptor yX1_top.desc).map (fun d => d.parameters.length) = some 1 := by decide +kernel
def wx1_top_b5 (p1 : Nat) (post : Int32 → Prop) (R5 : Int32 → Prop)  (x1 : Int32) (K : XK) (T : XT) : Prop :=
      ((x1 < 0 →
        post x1) ∧
       (¬ (x1 < 0) →
        ∃ j_1 : Nat, j_1 < kl K p1 ∧ x1 = nI j_1 ∧
        ((¬ (xi T p1 j_1) = 0 →
          post x1) ∧
         ((xi T p1 j_1) = 0 →
          ∀ x1_2 : Int32, x1_2 = x1 + (-1) →
          R5 x1_2))))
def wx1_top_l5 (p1 : Nat) (post : Int32 → Prop)  (x1 : Int32) (K : XK) (T : XT) : Prop := wLoop (fun (R : ((Int32)) → Prop) (v : (Int32)) => wx1_top_b5 p1 post (fun x1 => R x1)  v K T) x1
def wx1_top (p1 : Nat) (K : XK) (T : XT) (post : Int32 → Prop) : Prop :=
  ∀ x1_5 : Int32, x1_5 = ((nI (kl K p1)) - 1) →
  wx1_top_l5 p1 post x1_5 K T
set_option maxHeartbeats 4000000 in
theorem mx1_top (l : Launch) (G : XG) (b : Nat) (hole : Nat → Prop) (p1 : Nat) (K : XK) (T : XT) (hk_p1 : kd K p1 = 1) (post : Int32 → Prop) (h : wx1_top p1 K T post) : Met l yX1_top (ws_ yX1_top cX1_top 2 (some .int)) ({ frames := 0, cells := 0, slots := 0, locals := 0 } : Room) (xPc G b hole [.ref (b + p1)] K T) (xQ G b hole K 0 0 (ρ := Int32) eI (fun r T1 K1 => post r ∧ T1 = T ∧ K1 = K)) 0 0 (xA b hole) := by
  refine Met.ofW (cc := cX1_top) (maxL := 2) (ret := (some .int)) (by decide) rfl ?_
  intro p e s m args below meth c s₁ B hml hv
  obtain ⟨rfl, hP, hK, hV⟩ := hv
  have hx := B.exec
  have hb := B.bytes
  have hr := B.returns
  have hts := atoms_spec (ws := ws_ yX1_top cX1_top 2 (some .int)) B.pre
  have hts : ∀ w ∈ lw_all, w.before _ s = true := fun w h => hts w (List.mem_cons_of_mem _ h)
  have hown : s.vm.findClass RX1 = some m.cls := findClass_of_methodNamed B.named
  have hlocks := B.notSynchronized
  have hb0 : b ≤ s.heap.size := by rw [hP.2.2.2]; exact Nat.le_add_right _ _
  have hS : va_S (xA b hole) s.heap s.heap [] := va_S.rf
  have hl := lv_entry ([.ref (b + p1)]) (n := 2) (Nat.le_of_ble_eq_true rfl)
  rw [lg_entry_eq]
  generalize (lg_sl ([.ref (b + p1)]) ++ List.replicate (2 - (lg_sl ([.ref (b + p1)])).length) Slot.unset).toArray = ls at hl ⊢
  have hl : lv_has ls 2 [(0, .ref (b + p1))] := hl
  have L5 : ∀ (x1 : Int32) (H : Heap) (locs : List Loc) (ls : Array Slot), wx1_top_l5 p1 post  x1 K T → xW G b hole K T H → va_S (xA b hole) s.heap H locs → lv_has ls 2 [(0, .ref (b + p1)), (1, .int x1)] → W p l e (headSpec (ws_ yX1_top cX1_top 2 (some .int)) ({ frames := 0, cells := 0, slots := 0, locals := 0 } : Room)).room s m ([.ref (b + p1)] : List Value).toArray below meth c H locs 0 0 (MQ below (xQ G b hole K 0 0 (ρ := Int32) eI (fun r T1 K1 => post r ∧ T1 = T ∧ K1 = K)) ([.ref (b + p1)] : List Value).toArray s 0 0 (xA b hole)) (F0 m 5 ls []) := by
    intro x1 H locs ls h hP hS hl
    obtain ⟨I5, n5, hI, hstep5⟩ := h
    induction n5 using Nat.strongRecOn generalizing x1 H locs ls with
    | ind n5 ih5 =>
      have h : wx1_top_b5 p1 post (fun x1 => ∃ mm, mm < n5 ∧ I5 mm x1)  x1 K T := hstep5 n5 _ hI
      clear hI
      unfold wx1_top_b5 at h
      refine lv_iload_n hx hb dX1_top_5 rfl (lv_at hl 1 rfl) ?_
      refine lv_if_lt (tgt := 21) hx hb dX1_top_6 (by decide) (fun c_4 => ?_) (fun c_4 => ?_)
      · have h := h.1 c_4
        refine lv_iload_n hx hb dX1_top_21 rfl (lv_at hl 1 rfl) ?_
        exact W.iret (v := x1) hx hb hr (fun t ht hW => ⟨⟨x1, T, K, rfl, ⟨h, rfl, rfl⟩, kle.rf, rfl, rfl, by rw [ht]; exact hP, va_K.moved hW.alike hK⟩, hS.F ht⟩) hS.2.2 dX1_top_22
      · have h := h.2 c_4
        refine lv_aload_n hx hb dX1_top_9 rfl (lv_at hl 0 rfl) ?_
        refine lv_iload_n hx hb dX1_top_10 rfl (lv_at hl 1 rfl) ?_
        obtain ⟨j_1, hj_1, ej_1, h⟩ := h
        refine x_iald hx hb hK hP hk_p1 ej_1 hj_1 dX1_top_11 ?_
        refine lv_if_ne (tgt := 21) hx hb dX1_top_12 (by decide) (fun c_3 => ?_) (fun c_3 => ?_)
        · have h := h.1 c_3
          refine lv_iload_n hx hb dX1_top_21 rfl (lv_at hl 1 rfl) ?_
          exact W.iret (v := x1) hx hb hr (fun t ht hW => ⟨⟨x1, T, K, rfl, ⟨h, rfl, rfl⟩, kle.rf, rfl, rfl, by rw [ht]; exact hP, va_K.moved hW.alike hK⟩, hS.F ht⟩) hS.2.2 dX1_top_22
        · have h := h.2 c_3
          obtain ⟨x1_2, ex1_2⟩ : ∃ y : Int32, y = x1 + (-1) := ⟨_, rfl⟩
          have h := h x1_2 ex1_2
          refine lv_iinc (v := x1_2) (lv' := [(1, .int x1_2), (0, .ref (b + p1))]) hx hb dX1_top_15 hl (k := 1) rfl (by rw [ex1_2]; rfl) (by decide) rfl (fun ls hl => ?_)
          refine lv_goto (tgt := 5) hx hb dX1_top_18 (by decide) ?_
          obtain ⟨mm, hmm, h⟩ := h
          exact ih5 mm hmm _ _ _ _  hP hS (lv_sub hl [1, 0] rfl) h
  unfold wx1_top at h
  refine lv_aload_n hx hb dX1_top_0 rfl (lv_at hl 0 rfl) ?_
  refine x_alen1 hx hb hK hP hk_p1 dX1_top_1 ?_
  refine lv_iconst (v := 1) hx hb dX1_top_2 (by decide) ?_
  refine lv_isub hx hb dX1_top_3 ?_
  refine lv_topi (fun x1_5 ex1_5 => ?_)
  have h := h x1_5 ex1_5
  refine lv_istore_n (lv' := [(1, .int x1_5), (0, .ref (b + p1))]) hx hb dX1_top_4 rfl hl (by decide) rfl (fun ls hl => ?_)
  exact L5 _ _ _ _ h  hP hS (lv_sub hl [1, 0] rfl)
theorem cwx_X1_leaves_2 : yX1_leaves_2.cls = RX1 ∧ yX1_leaves_2.cls ≠ "java/lang/invoke/MethodHandle" ∧ yX1_leaves_2.cls ≠ "java/lang/invoke/VarHandle" ∧ (parseMethodDescriptor yX1_leaves_2.desc).map (fun d => d.parameters.length) = some 2 := by decide +kernel
def wx1_leaves_2_j87 (p1 : Nat) (p2 : Nat) (post : XT → Prop) (R11 : Int32 → XT → Prop) (x3 : Int32) (x4 : Int32) (K : XK) (T : XT) : Prop :=
        ∀ x4_1 : Int32, x4_1 = x4 + (-1) →
        R11 x4_1 T
def wx1_leaves_2_b40 (p1 : Nat) (p2 : Nat) (post : XT → Prop) (R11 : Int32 → XT → Prop) (R40 : Int32 → XT → Prop) (x3 : Int32) (x4 : Int32) (x5 : Int32) (x6 : Int32) (K : XK) (T : XT) : Prop :=
          ((x3 < x6 →
            wx1_leaves_2_j87 p1 p2 post R11 x3 x4 K T) ∧
           (¬ (x3 < x6) →
            ((x5 = 0 →
              wx1_leaves_2_j87 p1 p2 post R11 x3 x4 K T) ∧
             (¬ (x5 = 0) →
              ∃ j_2 : Nat, j_2 < kl K p1 ∧ ((x4 - x3) + x6) = nI j_2 ∧
              ∃ j_3 : Nat, j_3 < kl K p2 ∧ x6 = nI j_3 ∧
              wx1_reduced ((xi T p1 j_2) - (x5 * (xi T p2 j_3))) K T (fun r_4 =>
              ∃ j_7 : Nat, j_7 < kl K p1 ∧ ((x4 - x3) + x6) = nI j_7 ∧ ∀ T_8 : XT, T_8 = xwi T p1 j_7 r_4 →
              ∀ x6_9 : Int32, x6_9 = x6 + 1 →
              R40 x6_9 T_8)))))
def wx1_leaves_2_l40 (p1 : Nat) (p2 : Nat) (post : XT → Prop) (R11 : Int32 → XT → Prop) (x3 : Int32) (x4 : Int32) (x5 : Int32) (x6 : Int32) (K : XK) (T : XT) : Prop := wLoop (fun (R : ((Int32) × (XT)) → Prop) (v : (Int32) × (XT)) => wx1_leaves_2_b40 p1 p2 post R11 (fun x6 T => R (x6, T)) x3 x4 x5 v.1 K v.2) (x6, T)
def wx1_leaves_2_b11 (p1 : Nat) (p2 : Nat) (post : XT → Prop) (R11 : Int32 → XT → Prop) (x3 : Int32) (x4 : Int32) (K : XK) (T : XT) : Prop :=
      ((x4 < x3 →
        post T) ∧
       (¬ (x4 < x3) →
        ∃ j_12 : Nat, j_12 < kl K p1 ∧ x4 = nI j_12 ∧
        ∃ j_13 : Nat, j_13 < kl K p2 ∧ x3 = nI j_13 ∧
        ∃ j_14 : Nat, j_14 < 98 ∧ (xi T p2 j_13) = nI j_14 ∧
        ¬ (xi T 0 0) = 0 ∧
        ∀ x5_15 : Int32, x5_15 = (jrem ((xi T p1 j_12) * (xi T 1 j_14)) (xi T 0 0)) →
        wx1_leaves_2_l40 p1 p2 post R11 x3 x4 x5_15 0 K T))
def wx1_leaves_2_l11 (p1 : Nat) (p2 : Nat) (post : XT → Prop) (x3 : Int32) (x4 : Int32) (K : XK) (T : XT) : Prop := wLoop (fun (R : ((Int32) × (XT)) → Prop) (v : (Int32) × (XT)) => wx1_leaves_2_b11 p1 p2 post (fun x4 T => R (x4, T)) x3 v.1 K v.2) (x4, T)
def wx1_leaves_2 (p1 : Nat) (p2 : Nat) (K : XK) (T : XT) (post : XT → Prop) : Prop :=
  wx1_top p2 K T (fun r_17 =>
  wx1_top p1 K T (fun r_20 =>
  wx1_leaves_2_l11 p1 p2 post r_17 r_20 K T))
set_option maxHeartbeats 4000000 in
theorem mx1_leaves_2 (l : Launch) (G : XG) (b : Nat) (hole : Nat → Prop) (p1 : Nat) (p2 : Nat) (K : XK) (T : XT) (hk_p1 : kd K p1 = 1) (hk_p2 : kd K p2 = 1) (post : XT → Prop) (h : wx1_leaves_2 p1 p2 K T post) : Met l yX1_leaves_2 (ws_ yX1_leaves_2 cX1_leaves_2 7 none) ({ frames := 1, cells := 0, slots := 0, locals := 21 } : Room) (xPc G b hole [.ref (b + 0), .ref (b + p1), .ref (b + p2)] K T) (xQ G b hole K 0 0 (ρ := Unit) eV (fun r T1 K1 => post T1 ∧ K1 = K)) 0 0 (xA b hole) := by
  refine Met.ofW (cc := cX1_leaves_2) (maxL := 7) (ret := none) (by decide) rfl ?_
  intro p e s m args below meth c s₁ B hml hv
  obtain ⟨rfl, hP, hK, hV⟩ := hv
  have hx := B.exec
  have hb := B.bytes
  have hr := B.returns
  have hts := atoms_spec (ws := ws_ yX1_leaves_2 cX1_leaves_2 7 none) B.pre
  have hts : ∀ w ∈ lw_all, w.before _ s = true := fun w h => hts w (List.mem_cons_of_mem _ h)
  have hown : s.vm.findClass RX1 = some m.cls := findClass_of_methodNamed B.named
  have hlocks := B.notSynchronized
  have hb0 : b ≤ s.heap.size := by rw [hP.2.2.2]; exact Nat.le_add_right _ _
  have hS : va_S (xA b hole) s.heap s.heap [] := va_S.rf
  have hl := lv_entry ([.ref (b + 0), .ref (b + p1), .ref (b + p2)]) (n := 7) (Nat.le_of_ble_eq_true rfl)
  rw [lg_entry_eq]
  generalize (lg_sl ([.ref (b + 0), .ref (b + p1), .ref (b + p2)]) ++ List.replicate (7 - (lg_sl ([.ref (b + 0), .ref (b + p1), .ref (b + p2)])).length) Slot.unset).toArray = ls at hl ⊢
  have hl : lv_has ls 7 [(0, .ref (b + 0)), (1, .ref (b + p1)), (2, .ref (b + p2))] := hl
  have L11 : ∀ (x3 : Int32) (x4 : Int32) (T : XT) (H : Heap) (locs : List Loc) (ls : Array Slot), wx1_leaves_2_l11 p1 p2 post x3 x4 K T → xW G b hole K T H → va_S (xA b hole) s.heap H locs → lv_has ls 7 [(0, .ref (b + 0)), (1, .ref (b + p1)), (2, .ref (b + p2)), (3, .int x3), (4, .int x4)] → W p l e (headSpec (ws_ yX1_leaves_2 cX1_leaves_2 7 none) ({ frames := 1, cells := 0, slots := 0, locals := 21 } : Room)).room s m ([.ref (b + 0), .ref (b + p1), .ref (b + p2)] : List Value).toArray below meth c H locs 0 0 (MQ below (xQ G b hole K 0 0 (ρ := Unit) eV (fun r T1 K1 => post T1 ∧ K1 = K)) ([.ref (b + 0), .ref (b + p1), .ref (b + p2)] : List Value).toArray s 0 0 (xA b hole)) (F0 m 11 ls []) := by
    intro x3 x4 T H locs ls h hP hS hl
    obtain ⟨I11, n11, hI, hstep11⟩ := h
    induction n11 using Nat.strongRecOn generalizing x4 T H locs ls with
    | ind n11 ih11 =>
      have h : wx1_leaves_2_b11 p1 p2 post (fun x4 T => ∃ mm, mm < n11 ∧ I11 mm (x4, T)) x3 x4 K T := hstep11 n11 _ hI
      clear hI
      have J87 : ∀ (x4 : Int32) (T : XT) (H : Heap) (locs : List Loc) (ls : Array Slot), wx1_leaves_2_j87 p1 p2 post (fun x4 T => ∃ mm, mm < n11 ∧ I11 mm (x4, T)) x3 x4 K T → xW G b hole K T H → va_S (xA b hole) s.heap H locs → lv_has ls 7 [(0, .ref (b + 0)), (1, .ref (b + p1)), (2, .ref (b + p2)), (3, .int x3), (4, .int x4)] → W p l e (headSpec (ws_ yX1_leaves_2 cX1_leaves_2 7 none) ({ frames := 1, cells := 0, slots := 0, locals := 21 } : Room)).room s m ([.ref (b + 0), .ref (b + p1), .ref (b + p2)] : List Value).toArray below meth c H locs 0 0 (MQ below (xQ G b hole K 0 0 (ρ := Unit) eV (fun r T1 K1 => post T1 ∧ K1 = K)) ([.ref (b + 0), .ref (b + p1), .ref (b + p2)] : List Value).toArray s 0 0 (xA b hole)) (F0 m 87 ls []) := by
        intro x4 T H locs ls h hP hS hl
        unfold wx1_leaves_2_j87 at h
        obtain ⟨x4_1, ex4_1⟩ : ∃ y : Int32, y = x4 + (-1) := ⟨_, rfl⟩
        have h := h x4_1 ex4_1
        refine lv_iinc (v := x4_1) (lv' := [(4, .int x4_1), (0, .ref (b + 0)), (1, .ref (b + p1)), (2, .ref (b + p2)), (3, .int x3)]) hx hb dX1_leaves_2_87 hl (k := 4) rfl (by rw [ex4_1]; rfl) (by decide) rfl (fun ls hl => ?_)
        refine lv_goto (tgt := 11) hx hb dX1_leaves_2_90 (by decide) ?_
        obtain ⟨mm, hmm, h⟩ := h
        exact ih11 mm hmm _ _ _ _ _  hP hS (lv_sub hl [1, 2, 3, 4, 0] rfl) h
      have L40 : ∀ (x4 : Int32) (x5 : Int32) (x6 : Int32) (T : XT) (H : Heap) (locs : List Loc) (ls : Array Slot), wx1_leaves_2_l40 p1 p2 post (fun x4 T => ∃ mm, mm < n11 ∧ I11 mm (x4, T)) x3 x4 x5 x6 K T → xW G b hole K T H → va_S (xA b hole) s.heap H locs → lv_has ls 7 [(0, .ref (b + 0)), (1, .ref (b + p1)), (2, .ref (b + p2)), (3, .int x3), (4, .int x4), (5, .int x5), (6, .int x6)] → W p l e (headSpec (ws_ yX1_leaves_2 cX1_leaves_2 7 none) ({ frames := 1, cells := 0, slots := 0, locals := 21 } : Room)).room s m ([.ref (b + 0), .ref (b + p1), .ref (b + p2)] : List Value).toArray below meth c H locs 0 0 (MQ below (xQ G b hole K 0 0 (ρ := Unit) eV (fun r T1 K1 => post T1 ∧ K1 = K)) ([.ref (b + 0), .ref (b + p1), .ref (b + p2)] : List Value).toArray s 0 0 (xA b hole)) (F0 m 40 ls []) := by
        intro x4 x5 x6 T H locs ls h hP hS hl
        obtain ⟨I40, n40, hI, hstep40⟩ := h
        induction n40 using Nat.strongRecOn generalizing x6 T H locs ls with
        | ind n40 ih40 =>
          have h : wx1_leaves_2_b40 p1 p2 post (fun x4 T => ∃ mm, mm < n11 ∧ I11 mm (x4, T)) (fun x6 T => ∃ mm, mm < n40 ∧ I40 mm (x6, T)) x3 x4 x5 x6 K T := hstep40 n40 _ hI
          clear hI
          unfold wx1_leaves_2_b40 at h
          refine lv_iload hx hb dX1_leaves_2_40 (lv_at hl 6 rfl) ?_
          refine lv_iload_n hx hb dX1_leaves_2_42 rfl (lv_at hl 3 rfl) ?_
          refine lv_icmp_gt (tgt := 87) hx hb dX1_leaves_2_43 (by decide) (fun c_11 => ?_) (fun c_11 => ?_)
          · have h := h.1 c_11
            exact J87 _ _ _ _ _ h  hP hS (lv_sub hl [0, 1, 2, 3, 4] rfl)
          · have h := h.2 c_11
            refine lv_iload hx hb dX1_leaves_2_46 (lv_at hl 5 rfl) ?_
            refine lv_if_eq (tgt := 87) hx hb dX1_leaves_2_48 (by decide) (fun c_10 => ?_) (fun c_10 => ?_)
            · have h := h.1 c_10
              exact J87 _ _ _ _ _ h  hP hS (lv_sub hl [0, 1, 2, 3, 4] rfl)
            · have h := h.2 c_10
              refine lv_aload_n hx hb dX1_leaves_2_51 rfl (lv_at hl 1 rfl) ?_
              refine lv_iload hx hb dX1_leaves_2_52 (lv_at hl 4 rfl) ?_
              refine lv_iload_n hx hb dX1_leaves_2_54 rfl (lv_at hl 3 rfl) ?_
              refine lv_isub hx hb dX1_leaves_2_55 ?_
              refine lv_iload hx hb dX1_leaves_2_56 (lv_at hl 6 rfl) ?_
              refine lv_iadd hx hb dX1_leaves_2_58 ?_
              refine lv_aload_n hx hb dX1_leaves_2_59 rfl (lv_at hl 0 rfl) ?_
              refine lv_aload_n hx hb dX1_leaves_2_60 rfl (lv_at hl 1 rfl) ?_
              refine lv_iload hx hb dX1_leaves_2_61 (lv_at hl 4 rfl) ?_
              refine lv_iload_n hx hb dX1_leaves_2_63 rfl (lv_at hl 3 rfl) ?_
              refine lv_isub hx hb dX1_leaves_2_64 ?_
              refine lv_iload hx hb dX1_leaves_2_65 (lv_at hl 6 rfl) ?_
              refine lv_iadd hx hb dX1_leaves_2_67 ?_
              obtain ⟨j_2, hj_2, ej_2, h⟩ := h
              refine x_iald hx hb hK hP hk_p1 ej_2 hj_2 dX1_leaves_2_68 ?_
              refine lv_iload hx hb dX1_leaves_2_69 (lv_at hl 5 rfl) ?_
              refine lv_aload_n hx hb dX1_leaves_2_71 rfl (lv_at hl 2 rfl) ?_
              refine lv_iload hx hb dX1_leaves_2_72 (lv_at hl 6 rfl) ?_
              obtain ⟨j_3, hj_3, ej_3, h⟩ := h
              refine x_iald hx hb hK hP hk_p2 ej_3 hj_3 dX1_leaves_2_74 ?_
              refine lv_imul hx hb dX1_leaves_2_75 ?_
              refine lv_isub hx hb dX1_leaves_2_76 ?_
              refine x_cV (k := 0) (As := [.int ((xi T p1 j_2) - (x5 * (xi T p2 j_3)))]) (rest := [.int ((x4 - x3) + x6), .ref (b + p1)]) ⟨hx, hb, hml, hown, hts⟩ (mx1_reduced l G b hole ((xi T p1 j_2) - (x5 * (xi T p2 j_3))) K T  _ h) (cwV 1 hts (lw_V q1120 q746 qs22 q118 q747) rfl rfl rfl cwx_X1_reduced ⟨Nat.le_of_ble_eq_true rfl, Nat.le_of_ble_eq_true rfl⟩) (x_recv (CC := RX1) (ci := 0) hK hP (xs_0 hP) (by decide) (by decide) rfl (xE_8 (xs_0 hP))) hK hV hb0 hP hS rfl hl.1 rfl (Nat.le_of_ble_eq_true rfl) dX1_leaves_2_77 ⟨by first | exact Nat.zero_le _ | (show _ + _ ≤ Z - kc K0; omega), by first | exact Nat.zero_le _ | (show _ + _ ≤ Y - ks K0; omega)⟩ (fun r_4 T1 K1 H locs h hle1 hc1 hs1 hP hS => ?_)
              obtain ⟨h, hTe, hKe⟩ := h
              rw [hTe, hKe] at hP
              obtain ⟨j_7, hj_7, ej_7, h⟩ := h
              obtain ⟨T_8, eT_8⟩ : ∃ z : XT, z = xwi T p1 j_7 r_4 := ⟨_, rfl⟩
              have h := h T_8 eT_8
              refine x_iast hx hb hK hP hS hk_p1 ej_7 hj_7 dX1_leaves_2_80 (fun H locs hP hS => ?_)
              rw [← eT_8] at hP
              obtain ⟨x6_9, ex6_9⟩ : ∃ y : Int32, y = x6 + 1 := ⟨_, rfl⟩
              have h := h x6_9 ex6_9
              refine lv_iinc (v := x6_9) (lv' := [(6, .int x6_9), (0, .ref (b + 0)), (1, .ref (b + p1)), (2, .ref (b + p2)), (3, .int x3), (4, .int x4), (5, .int x5)]) hx hb dX1_leaves_2_81 hl (k := 6) rfl (by rw [ex6_9]; rfl) (by decide) rfl (fun ls hl => ?_)
              refine lv_goto (tgt := 40) hx hb dX1_leaves_2_84 (by decide) ?_
              obtain ⟨mm, hmm, h⟩ := h
              exact ih40 mm hmm _ _ _ _ _  hP hS (lv_sub hl [1, 2, 3, 4, 5, 6, 0] rfl) h
      unfold wx1_leaves_2_b11 at h
      refine lv_iload hx hb dX1_leaves_2_11 (lv_at hl 4 rfl) ?_
      refine lv_iload_n hx hb dX1_leaves_2_13 rfl (lv_at hl 3 rfl) ?_
      refine lv_icmp_lt (tgt := 93) hx hb dX1_leaves_2_14 (by decide) (fun c_16 => ?_) (fun c_16 => ?_)
      · have h := h.1 c_16
        exact W.vret hx hb hr (fun t ht hW => ⟨⟨(), T, K, rfl, ⟨h, rfl⟩, kle.rf, rfl, rfl, by rw [ht]; exact hP, va_K.moved hW.alike hK⟩, hS.F ht⟩) hS.2.2 dX1_leaves_2_93
      · have h := h.2 c_16
        refine lv_aload_n hx hb dX1_leaves_2_17 rfl (lv_at hl 1 rfl) ?_
        refine lv_iload hx hb dX1_leaves_2_18 (lv_at hl 4 rfl) ?_
        obtain ⟨j_12, hj_12, ej_12, h⟩ := h
        refine x_iald hx hb hK hP hk_p1 ej_12 hj_12 dX1_leaves_2_20 ?_
        refine lv_aload_n hx hb dX1_leaves_2_21 rfl (lv_at hl 0 rfl) ?_
        refine x_get (CC := RX1) (TT := TX1) (N := 26) (ci := 0) (v := .ref (b + 1)) hx hb hts in_X1 hown hK hP (xs_0 hP) (by decide) (by decide) rfl (xE_8 (xs_0 hP)) 5 (by decide) q390 rfl rfl dX1_leaves_2_22 ?_
        refine lv_aload_n hx hb dX1_leaves_2_25 rfl (lv_at hl 2 rfl) ?_
        refine lv_iload_n hx hb dX1_leaves_2_26 rfl (lv_at hl 3 rfl) ?_
        obtain ⟨j_13, hj_13, ej_13, h⟩ := h
        refine x_iald hx hb hK hP hk_p2 ej_13 hj_13 dX1_leaves_2_27 ?_
        obtain ⟨j_14, hj_14, ej_14, h⟩ := h
        refine x_iald hx hb hK hP (xs_1 hP) ej_14 (by rw [xl_1 hP]; exact hj_14) dX1_leaves_2_28 ?_
        refine lv_imul hx hb dX1_leaves_2_29 ?_
        refine lv_aload_n hx hb dX1_leaves_2_30 rfl (lv_at hl 0 rfl) ?_
        refine x_get (CC := RX1) (TT := TX1) (N := 26) (ci := 0) (v := .int (xi T 0 0)) hx hb hts in_X1 hown hK hP (xs_0 hP) (by decide) (by decide) rfl (xE_8 (xs_0 hP)) 0 (by decide) q384 rfl rfl dX1_leaves_2_31 ?_
        obtain ⟨hne, h⟩ := h
        refine m_irem hx hb dX1_leaves_2_34 hne ?_
        refine lv_topi (fun x5_15 ex5_15 => ?_)
        have h := h x5_15 ex5_15
        refine lv_istore (lv' := [(5, .int x5_15), (0, .ref (b + 0)), (1, .ref (b + p1)), (2, .ref (b + p2)), (3, .int x3), (4, .int x4)]) hx hb dX1_leaves_2_35 hl (by decide) rfl (fun ls hl => ?_)
        refine lv_iconst (v := 0) hx hb dX1_leaves_2_37 (by decide) ?_
        refine lv_istore (lv' := [(6, .int 0), (5, .int x5_15), (0, .ref (b + 0)), (1, .ref (b + p1)), (2, .ref (b + p2)), (3, .int x3), (4, .int x4)]) hx hb dX1_leaves_2_38 hl (by decide) rfl (fun ls hl => ?_)
        exact L40 _ _ _ _ _ _ _ h  hP hS (lv_sub hl [2, 3, 4, 5, 6, 1, 0] rfl)
  unfold wx1_leaves_2 at h
  refine lv_aload_n hx hb dX1_leaves_2_0 rfl (lv_at hl 2 rfl) ?_
  refine x_cS (As := [.ref (b + p2)]) (rest := []) ⟨hx, hb, hml, hown, hts⟩ (mx1_top l G b hole p2 K T hk_p2 _ h) (va_cwS 1 hts (lw_S q1113 q1114 q118 q1115) rfl rfl rfl cwx_X1_top ⟨Nat.le_of_ble_eq_true rfl, Nat.le_of_ble_eq_true rfl⟩) hK hV hb0 hP hS rfl hl.1 rfl (Nat.le_of_ble_eq_true rfl) dX1_leaves_2_1 ⟨by first | exact Nat.zero_le _ | (show _ + _ ≤ Z - kc K0; omega), by first | exact Nat.zero_le _ | (show _ + _ ≤ Y - ks K0; omega)⟩ (fun r_17 T1 K1 H locs h hle1 hc1 hs1 hP hS => ?_)
  obtain ⟨h, hTe, hKe⟩ := h
  rw [hTe, hKe] at hP
  refine lv_istore_n (lv' := [(3, .int r_17), (0, .ref (b + 0)), (1, .ref (b + p1)), (2, .ref (b + p2))]) hx hb dX1_leaves_2_4 rfl hl (by decide) rfl (fun ls hl => ?_)
  refine lv_aload_n hx hb dX1_leaves_2_5 rfl (lv_at hl 2 rfl) ?_
  refine x_cS (As := [.ref (b + p1)]) (rest := []) ⟨hx, hb, hml, hown, hts⟩ (mx1_top l G b hole p1 K T hk_p1 _ h) (va_cwS 1 hts (lw_S q1113 q1114 q118 q1115) rfl rfl rfl cwx_X1_top ⟨Nat.le_of_ble_eq_true rfl, Nat.le_of_ble_eq_true rfl⟩) hK hV hb0 hP hS rfl hl.1 rfl (Nat.le_of_ble_eq_true rfl) dX1_leaves_2_6 ⟨by first | exact Nat.zero_le _ | (show _ + _ ≤ Z - kc K0; omega), by first | exact Nat.zero_le _ | (show _ + _ ≤ Y - ks K0; omega)⟩ (fun r_20 T1 K1 H locs h hle1 hc1 hs1 hP hS => ?_)
  obtain ⟨h, hTe, hKe⟩ := h
  rw [hTe, hKe] at hP
  refine lv_istore (lv' := [(4, .int r_20), (3, .int r_17), (0, .ref (b + 0)), (1, .ref (b + p1)), (2, .ref (b + p2))]) hx hb dX1_leaves_2_9 hl (by decide) rfl (fun ls hl => ?_)
  exact L11 _ _ _ _ _ _ h  hP hS (lv_sub hl [2, 3, 4, 1, 0] rfl)
theorem cwx_X1_contentOf : yX1_contentOf.cls = RX1 ∧ yX1_contentOf.cls ≠ "java/lang/invoke/MethodHandle" ∧ yX1_contentOf.cls ≠ "java/lang/invoke/VarHandle" ∧ (parseMethodDescriptor yX1_contentOf.desc).map (fun d => d.parameters.length) = some 1 := by decide +kernel
def wx1_contentOf_b117 (p1 : Nat) (post : Nat → XT → Prop) (R117 : Int32 → XT → Prop) (x2 : Nat) (x4 : Int32) (x5 : Int32) (x6 : Int32) (K : XK) (T : XT) : Prop :=
      ((x4 < x6 →
        post x2 T) ∧
       (¬ (x4 < x6) →
        ∃ j_1 : Nat, j_1 < kl K x2 ∧ x6 = nI j_1 ∧
        ¬ (xi T 0 0) = 0 ∧
        ∃ j_2 : Nat, j_2 < kl K x2 ∧ x6 = nI j_2 ∧ ∀ T_3 : XT, T_3 = xwi T x2 j_2 (jrem ((xi T x2 j_1) * x5) (xi T 0 0)) →
        ∀ x6_4 : Int32, x6_4 = x6 + 1 →
        R117 x6_4 T_3))
def wx1_contentOf_l117 (p1 : Nat) (post : Nat → XT → Prop) (x2 : Nat) (x4 : Int32) (x5 : Int32) (x6 : Int32) (K : XK) (T : XT) : Prop := wLoop (fun (R : ((Int32) × (XT)) → Prop) (v : (Int32) × (XT)) => wx1_contentOf_b117 p1 post (fun x6 T => R (x6, T)) x2 x4 x5 v.1 K v.2) (x6, T)
def wx1_contentOf_j114 (p1 : Nat) (post : Nat → XT → Prop) (x2 : Nat) (x4 : Int32) (x5 : Int32) (K : XK) (T : XT) : Prop :=
    wx1_contentOf_l117 p1 post x2 x4 x5 0 K T
def wx1_contentOf_j71 (p1 : Nat) (post : Nat → XT → Prop) (R26 : Nat → Nat → Int32 → XT → Prop) (R51 : Nat → Nat → XT → Prop) (x2 : Nat) (x3 : Nat) (x4 : Nat) (x5 : Int32) (x6 : Int32) (K : XK) (T : XT) : Prop :=
            R51 x3 x2 T
def wx1_contentOf_b51 (p1 : Nat) (post : Nat → XT → Prop) (R26 : Nat → Nat → Int32 → XT → Prop) (R51 : Nat → Nat → XT → Prop) (x4 : Nat) (x5 : Int32) (x6 : Int32) (x2 : Nat) (x3 : Nat) (K : XK) (T : XT) : Prop :=
          wx1_top x3 K T (fun r_6 =>
          ((r_6 < 0 →
            ∀ x6_9 : Int32, x6_9 = x6 + 1 →
            R26 x2 x3 x6_9 T) ∧
           (¬ (r_6 < 0) →
            wx1_top x2 K T (fun r_10 =>
            ((r_10 < 0 →
              wx1_contentOf_j71 p1 post R26 R51 x2 x3 x4 x5 x6 K T) ∧
             (¬ (r_10 < 0) →
              wx1_leaves_2 x2 x3 K T (fun T_14 =>
              wx1_contentOf_j71 p1 post R26 R51 x2 x3 x4 x5 x6 K T_14)))))))
def wx1_contentOf_l51 (p1 : Nat) (post : Nat → XT → Prop) (R26 : Nat → Nat → Int32 → XT → Prop) (x4 : Nat) (x5 : Int32) (x6 : Int32) (x2 : Nat) (x3 : Nat) (K : XK) (T : XT) : Prop := wLoop (fun (R : ((Nat) × (Nat) × (XT)) → Prop) (v : (Nat) × (Nat) × (XT)) => wx1_contentOf_b51 p1 post R26 (fun x2 x3 T => R (x2, x3, T)) x4 x5 x6 v.1 v.2.1 K v.2.2) (x2, x3, T)
def wx1_contentOf_b26 (p1 : Nat) (post : Nat → XT → Prop) (R26 : Nat → Nat → Int32 → XT → Prop) (x4 : Nat) (x5 : Int32) (x2 : Nat) (x3 : Nat) (x6 : Int32) (K : XK) (T : XT) : Prop :=
      ((x5 ≤ x6 →
        wx1_top x2 K T (fun r_18 =>
        ((0 ≤ r_18 →
          ∃ j_21 : Nat, j_21 < kl K x2 ∧ r_18 = nI j_21 ∧
          ∃ j_22 : Nat, j_22 < 98 ∧ (xi T x2 j_21) = nI j_22 ∧
          wx1_contentOf_j114 p1 post x2 r_18 (xi T 1 j_22) K T) ∧
         (¬ (0 ≤ r_18) →
          wx1_contentOf_j114 p1 post x2 r_18 0 K T)))) ∧
       (¬ (x5 ≤ x6) →
        ∃ j_24 : Nat, j_24 < kl K x4 ∧ x6 = nI j_24 ∧ ∃ v_25 : Nat, xr T x4 j_24 = some v_25 ∧
        ∃ sp_26 dp_27 n_28 : Nat, 0 = nI sp_26 ∧ 0 = nI dp_27 ∧ 2304 = nI n_28 ∧ sp_26 + n_28 ≤ kl K v_25 ∧ dp_27 + n_28 ≤ kl K x3 ∧ ∀ T_29 : XT, T_29 = xcpy T v_25 x3 sp_26 dp_27 n_28 →
        wx1_contentOf_l51 p1 post R26 x4 x5 x6 x2 x3 K T_29))
def wx1_contentOf_l26 (p1 : Nat) (post : Nat → XT → Prop) (x4 : Nat) (x5 : Int32) (x2 : Nat) (x3 : Nat) (x6 : Int32) (K : XK) (T : XT) : Prop := wLoop (fun (R : ((Nat) × (Nat) × (Int32) × (XT)) → Prop) (v : (Nat) × (Nat) × (Int32) × (XT)) => wx1_contentOf_b26 p1 post (fun x2 x3 x6 T => R (x2, x3, x6, T)) x4 x5 v.1 v.2.1 v.2.2.1 K v.2.2.2) (x2, x3, x6, T)
def wx1_contentOf (p1 : Nat) (K : XK) (T : XT) (post : Nat → XT → Prop) : Prop :=
  wxJ3_fill_2 75 0 K T (fun T_32 =>
  ∀ x5_34 : Int32, x5_34 = (nI (kl K p1)) →
  wx1_contentOf_l26 p1 post p1 x5_34 75 76 0 K T_32)
set_option maxHeartbeats 4000000 in
theorem mx1_contentOf (l : Launch) (G : XG) (b : Nat) (hole : Nat → Prop) (p1 : Nat) (K : XK) (T : XT) (hk_p1 : kd K p1 = 4) (post : Nat → XT → Prop) (h : wx1_contentOf p1 K T post) : Met l yX1_contentOf (ws_ yX1_contentOf cX1_contentOf 9 (some (.array .int))) ({ frames := 2, cells := 0, slots := 0, locals := 60 } : Room) (xPc G b hole [.ref (b + 0), .ref (b + p1)] K T) (xQ G b hole K 0 0 (ρ := Nat) (eR b) (fun r T1 K1 => post r T1 ∧ kd K1 r = 1 ∧ K1 = K)) 0 0 (xA b hole) := by
  refine Met.ofW (cc := cX1_contentOf) (maxL := 9) (ret := (some (.array .int))) (by decide) rfl ?_
  intro p e s m args below meth c s₁ B hml hv
  obtain ⟨rfl, hP, hK, hV⟩ := hv
  have hx := B.exec
  have hb := B.bytes
  have hr := B.returns
  have hts := atoms_spec (ws := ws_ yX1_contentOf cX1_contentOf 9 (some (.array .int))) B.pre
  have hts : ∀ w ∈ lw_all, w.before _ s = true := fun w h => hts w (List.mem_cons_of_mem _ h)
  have hown : s.vm.findClass RX1 = some m.cls := findClass_of_methodNamed B.named
  have hlocks := B.notSynchronized
  have hb0 : b ≤ s.heap.size := by rw [hP.2.2.2]; exact Nat.le_add_right _ _
  have hS : va_S (xA b hole) s.heap s.heap [] := va_S.rf
  have hl := lv_entry ([.ref (b + 0), .ref (b + p1)]) (n := 9) (Nat.le_of_ble_eq_true rfl)
  rw [lg_entry_eq]
  generalize (lg_sl ([.ref (b + 0), .ref (b + p1)]) ++ List.replicate (9 - (lg_sl ([.ref (b + 0), .ref (b + p1)])).length) Slot.unset).toArray = ls at hl ⊢
  have hl : lv_has ls 9 [(0, .ref (b + 0)), (1, .ref (b + p1))] := hl
  have L117 : ∀ (x2 : Nat) (x4 : Int32) (x5 : Int32) (x6 : Int32) (T : XT) (H : Heap) (locs : List Loc) (ls : Array Slot), wx1_contentOf_l117 p1 post x2 x4 x5 x6 K T → (kd K x2 = 1) → xW G b hole K T H → va_S (xA b hole) s.heap H locs → lv_has ls 9 [(0, .ref (b + 0)), (2, .ref (b + x2)), (4, .int x4), (5, .int x5), (6, .int x6)] → W p l e (headSpec (ws_ yX1_contentOf cX1_contentOf 9 (some (.array .int))) ({ frames := 2, cells := 0, slots := 0, locals := 60 } : Room)).room s m ([.ref (b + 0), .ref (b + p1)] : List Value).toArray below meth c H locs 0 0 (MQ below (xQ G b hole K 0 0 (ρ := Nat) (eR b) (fun r T1 K1 => post r T1 ∧ kd K1 r = 1 ∧ K1 = K)) ([.ref (b + 0), .ref (b + p1)] : List Value).toArray s 0 0 (xA b hole)) (F0 m 117 ls []) := by
    intro x2 x4 x5 x6 T H locs ls h hk_x2 hP hS hl
    obtain ⟨I117, n117, hI, hstep117⟩ := h
    induction n117 using Nat.strongRecOn generalizing x6 T H locs ls with
    | ind n117 ih117 =>
      have h : wx1_contentOf_b117 p1 post (fun x6 T => ∃ mm, mm < n117 ∧ I117 mm (x6, T)) x2 x4 x5 x6 K T := hstep117 n117 _ hI
      clear hI
      unfold wx1_contentOf_b117 at h
      refine lv_iload hx hb dX1_contentOf_117 (lv_at hl 4 rfl) ?_
      refine lv_iload hx hb dX1_contentOf_119 (lv_at hl 2 rfl) ?_
      refine lv_icmp_gt (tgt := 146) hx hb dX1_contentOf_121 (by decide) (fun c_5 => ?_) (fun c_5 => ?_)
      · have h := h.1 c_5
        refine lv_aload_n hx hb dX1_contentOf_146 rfl (lv_at hl 1 rfl) ?_
        exact W.aret (v := .ref (b + x2)) hx hb hr (Or.inr ⟨_, rfl⟩) (Or.inr ⟨_, rfl⟩) (fun t ht hW => ⟨⟨x2, T, K, rfl, ⟨h, hk_x2, rfl⟩, kle.rf, rfl, rfl, by rw [ht]; exact hP, va_K.moved hW.alike hK⟩, hS.F ht⟩) hS.2.2 dX1_contentOf_147
      · have h := h.2 c_5
        refine lv_aload_n hx hb dX1_contentOf_124 rfl (lv_at hl 1 rfl) ?_
        refine lv_iload hx hb dX1_contentOf_125 (lv_at hl 4 rfl) ?_
        refine lv_aload_n hx hb dX1_contentOf_127 rfl (lv_at hl 1 rfl) ?_
        refine lv_iload hx hb dX1_contentOf_128 (lv_at hl 4 rfl) ?_
        obtain ⟨j_1, hj_1, ej_1, h⟩ := h
        refine x_iald hx hb hK hP hk_x2 ej_1 hj_1 dX1_contentOf_130 ?_
        refine lv_iload hx hb dX1_contentOf_131 (lv_at hl 3 rfl) ?_
        refine lv_imul hx hb dX1_contentOf_133 ?_
        refine lv_aload_n hx hb dX1_contentOf_134 rfl (lv_at hl 0 rfl) ?_
        refine x_get (CC := RX1) (TT := TX1) (N := 26) (ci := 0) (v := .int (xi T 0 0)) hx hb hts in_X1 hown hK hP (xs_0 hP) (by decide) (by decide) rfl (xE_8 (xs_0 hP)) 0 (by decide) q384 rfl rfl dX1_contentOf_135 ?_
        obtain ⟨hne, h⟩ := h
        refine m_irem hx hb dX1_contentOf_138 hne ?_
        obtain ⟨j_2, hj_2, ej_2, h⟩ := h
        obtain ⟨T_3, eT_3⟩ : ∃ z : XT, z = xwi T x2 j_2 (jrem ((xi T x2 j_1) * x5) (xi T 0 0)) := ⟨_, rfl⟩
        have h := h T_3 eT_3
        refine x_iast hx hb hK hP hS hk_x2 ej_2 hj_2 dX1_contentOf_139 (fun H locs hP hS => ?_)
        rw [← eT_3] at hP
        obtain ⟨x6_4, ex6_4⟩ : ∃ y : Int32, y = x6 + 1 := ⟨_, rfl⟩
        have h := h x6_4 ex6_4
        refine lv_iinc (v := x6_4) (lv' := [(6, .int x6_4), (0, .ref (b + 0)), (2, .ref (b + x2)), (4, .int x4), (5, .int x5)]) hx hb dX1_contentOf_140 hl (k := 4) rfl (by rw [ex6_4]; rfl) (by decide) rfl (fun ls hl => ?_)
        refine lv_goto (tgt := 117) hx hb dX1_contentOf_143 (by decide) ?_
        obtain ⟨mm, hmm, h⟩ := h
        exact ih117 mm hmm _ _ _ _ _  hP hS (lv_sub hl [1, 2, 3, 4, 0] rfl) h
  have J114 : ∀ (x2 : Nat) (x4 : Int32) (x5 : Int32) (T : XT) (H : Heap) (locs : List Loc) (ls : Array Slot), wx1_contentOf_j114 p1 post x2 x4 x5 K T → (kd K x2 = 1) → xW G b hole K T H → va_S (xA b hole) s.heap H locs → lv_has ls 9 [(0, .ref (b + 0)), (2, .ref (b + x2)), (4, .int x4), (5, .int x5)] → W p l e (headSpec (ws_ yX1_contentOf cX1_contentOf 9 (some (.array .int))) ({ frames := 2, cells := 0, slots := 0, locals := 60 } : Room)).room s m ([.ref (b + 0), .ref (b + p1)] : List Value).toArray below meth c H locs 0 0 (MQ below (xQ G b hole K 0 0 (ρ := Nat) (eR b) (fun r T1 K1 => post r T1 ∧ kd K1 r = 1 ∧ K1 = K)) ([.ref (b + 0), .ref (b + p1)] : List Value).toArray s 0 0 (xA b hole)) (F0 m 114 ls []) := by
    intro x2 x4 x5 T H locs ls h hk_x2 hP hS hl
    unfold wx1_contentOf_j114 at h
    refine lv_iconst (v := 0) hx hb dX1_contentOf_114 (by decide) ?_
    refine lv_istore (lv' := [(6, .int 0), (0, .ref (b + 0)), (2, .ref (b + x2)), (4, .int x4), (5, .int x5)]) hx hb dX1_contentOf_115 hl (by decide) rfl (fun ls hl => ?_)
    exact L117 _ _ _ _ _ _ _ _ h hk_x2 hP hS (lv_sub hl [1, 2, 3, 4, 0] rfl)
  have L26 : ∀ (x4 : Nat) (x5 : Int32) (x2 : Nat) (x3 : Nat) (x6 : Int32) (T : XT) (H : Heap) (locs : List Loc) (ls : Array Slot), wx1_contentOf_l26 p1 post x4 x5 x2 x3 x6 K T → (kd K x2 = 1) → (kd K x3 = 1) → (kd K x4 = 4) → xW G b hole K T H → va_S (xA b hole) s.heap H locs → lv_has ls 9 [(0, .ref (b + 0)), (2, .ref (b + x2)), (3, .ref (b + x3)), (4, .ref (b + x4)), (5, .int x5), (6, .int x6)] → W p l e (headSpec (ws_ yX1_contentOf cX1_contentOf 9 (some (.array .int))) ({ frames := 2, cells := 0, slots := 0, locals := 60 } : Room)).room s m ([.ref (b + 0), .ref (b + p1)] : List Value).toArray below meth c H locs 0 0 (MQ below (xQ G b hole K 0 0 (ρ := Nat) (eR b) (fun r T1 K1 => post r T1 ∧ kd K1 r = 1 ∧ K1 = K)) ([.ref (b + 0), .ref (b + p1)] : List Value).toArray s 0 0 (xA b hole)) (F0 m 26 ls []) := by
    intro x4 x5 x2 x3 x6 T H locs ls h hk_x2 hk_x3 hk_x4 hP hS hl
    obtain ⟨I26, n26, hI, hstep26⟩ := h
    induction n26 using Nat.strongRecOn generalizing x2 x3 x6 T H locs ls with
    | ind n26 ih26 =>
      have h : wx1_contentOf_b26 p1 post (fun x2 x3 x6 T => ∃ mm, mm < n26 ∧ I26 mm (x2, x3, x6, T)) x4 x5 x2 x3 x6 K T := hstep26 n26 _ hI
      clear hI
      have L51 : ∀ (x6 : Int32) (x2 : Nat) (x3 : Nat) (T : XT) (H : Heap) (locs : List Loc) (ls : Array Slot), wx1_contentOf_l51 p1 post (fun x2 x3 x6 T => ∃ mm, mm < n26 ∧ I26 mm (x2, x3, x6, T)) x4 x5 x6 x2 x3 K T → (kd K x2 = 1) → (kd K x3 = 1) → xW G b hole K T H → va_S (xA b hole) s.heap H locs → lv_has ls 9 [(0, .ref (b + 0)), (2, .ref (b + x2)), (3, .ref (b + x3)), (4, .ref (b + x4)), (5, .int x5), (6, .int x6)] → W p l e (headSpec (ws_ yX1_contentOf cX1_contentOf 9 (some (.array .int))) ({ frames := 2, cells := 0, slots := 0, locals := 60 } : Room)).room s m ([.ref (b + 0), .ref (b + p1)] : List Value).toArray below meth c H locs 0 0 (MQ below (xQ G b hole K 0 0 (ρ := Nat) (eR b) (fun r T1 K1 => post r T1 ∧ kd K1 r = 1 ∧ K1 = K)) ([.ref (b + 0), .ref (b + p1)] : List Value).toArray s 0 0 (xA b hole)) (F0 m 51 ls []) := by
        intro x6 x2 x3 T H locs ls h hk_x2 hk_x3 hP hS hl
        obtain ⟨I51, n51, hI, hstep51⟩ := h
        induction n51 using Nat.strongRecOn generalizing x2 x3 T H locs ls with
        | ind n51 ih51 =>
          have h : wx1_contentOf_b51 p1 post (fun x2 x3 x6 T => ∃ mm, mm < n26 ∧ I26 mm (x2, x3, x6, T)) (fun x2 x3 T => ∃ mm, mm < n51 ∧ I51 mm (x2, x3, T)) x4 x5 x6 x2 x3 K T := hstep51 n51 _ hI
          clear hI
          have J71 : ∀ (x2 : Nat) (x3 : Nat) (T : XT) (H : Heap) (locs : List Loc) (ls : Array Slot), wx1_contentOf_j71 p1 post (fun x2 x3 x6 T => ∃ mm, mm < n26 ∧ I26 mm (x2, x3, x6, T)) (fun x2 x3 T => ∃ mm, mm < n51 ∧ I51 mm (x2, x3, T)) x2 x3 x4 x5 x6 K T → (kd K x2 = 1) → (kd K x3 = 1) → xW G b hole K T H → va_S (xA b hole) s.heap H locs → lv_has ls 9 [(0, .ref (b + 0)), (2, .ref (b + x2)), (3, .ref (b + x3)), (4, .ref (b + x4)), (5, .int x5), (6, .int x6)] → W p l e (headSpec (ws_ yX1_contentOf cX1_contentOf 9 (some (.array .int))) ({ frames := 2, cells := 0, slots := 0, locals := 60 } : Room)).room s m ([.ref (b + 0), .ref (b + p1)] : List Value).toArray below meth c H locs 0 0 (MQ below (xQ G b hole K 0 0 (ρ := Nat) (eR b) (fun r T1 K1 => post r T1 ∧ kd K1 r = 1 ∧ K1 = K)) ([.ref (b + 0), .ref (b + p1)] : List Value).toArray s 0 0 (xA b hole)) (F0 m 71 ls []) := by
            intro x2 x3 T H locs ls h hk_x2 hk_x3 hP hS hl
            unfold wx1_contentOf_j71 at h
            refine lv_aload_n hx hb dX1_contentOf_71 rfl (lv_at hl 1 rfl) ?_
            refine lv_astore (lv' := [(8, .ref (b + x2)), (0, .ref (b + 0)), (2, .ref (b + x2)), (3, .ref (b + x3)), (4, .ref (b + x4)), (5, .int x5), (6, .int x6)]) hx hb dX1_contentOf_72 hl (by decide) rfl (fun ls hl => ?_)
            refine lv_aload_n hx hb dX1_contentOf_74 rfl (lv_at hl 3 rfl) ?_
            refine lv_astore_n (lv' := [(2, .ref (b + x3)), (8, .ref (b + x2)), (0, .ref (b + 0)), (3, .ref (b + x3)), (4, .ref (b + x4)), (5, .int x5), (6, .int x6)]) hx hb dX1_contentOf_75 rfl hl (by decide) rfl (fun ls hl => ?_)
            refine lv_aload hx hb dX1_contentOf_76 (lv_at hl 1 rfl) ?_
            refine lv_astore_n (lv' := [(3, .ref (b + x2)), (2, .ref (b + x3)), (8, .ref (b + x2)), (0, .ref (b + 0)), (4, .ref (b + x4)), (5, .int x5), (6, .int x6)]) hx hb dX1_contentOf_78 rfl hl (by decide) rfl (fun ls hl => ?_)
            refine lv_goto (tgt := 51) hx hb dX1_contentOf_79 (by decide) ?_
            obtain ⟨mm, hmm, h⟩ := h
            exact ih51 mm hmm _ _ _ _ _ _ hk_x3 hk_x2 hP hS (lv_sub hl [3, 1, 0, 4, 5, 6] rfl) h
          unfold wx1_contentOf_b51 at h
          refine lv_aload_n hx hb dX1_contentOf_51 rfl (lv_at hl 2 rfl) ?_
          refine x_cS (As := [.ref (b + x3)]) (rest := []) ⟨hx, hb, hml, hown, hts⟩ (mx1_top l G b hole x3 K T hk_x3 _ h) (va_cwS 1 hts (lw_S q1113 q1114 q118 q1115) rfl rfl rfl cwx_X1_top ⟨Nat.le_of_ble_eq_true rfl, Nat.le_of_ble_eq_true rfl⟩) hK hV hb0 hP hS rfl hl.1 rfl (Nat.le_of_ble_eq_true rfl) dX1_contentOf_52 ⟨by first | exact Nat.zero_le _ | (show _ + _ ≤ Z - kc K0; omega), by first | exact Nat.zero_le _ | (show _ + _ ≤ Y - ks K0; omega)⟩ (fun r_6 T1 K1 H locs h hle1 hc1 hs1 hP hS => ?_)
          obtain ⟨h, hTe, hKe⟩ := h
          rw [hTe, hKe] at hP
          refine lv_if_lt (tgt := 82) hx hb dX1_contentOf_55 (by decide) (fun c_17 => ?_) (fun c_17 => ?_)
          · have h := h.1 c_17
            obtain ⟨x6_9, ex6_9⟩ : ∃ y : Int32, y = x6 + 1 := ⟨_, rfl⟩
            have h := h x6_9 ex6_9
            refine lv_iinc (v := x6_9) (lv' := [(6, .int x6_9), (0, .ref (b + 0)), (2, .ref (b + x2)), (3, .ref (b + x3)), (4, .ref (b + x4)), (5, .int x5)]) hx hb dX1_contentOf_82 hl (k := 5) rfl (by rw [ex6_9]; rfl) (by decide) rfl (fun ls hl => ?_)
            refine lv_goto (tgt := 26) hx hb dX1_contentOf_85 (by decide) ?_
            obtain ⟨mm, hmm, h⟩ := h
            exact ih26 mm hmm _ _ _ _ _ _ _ hk_x2 hk_x3 hP hS (lv_sub hl [1, 2, 3, 4, 5, 0] rfl) h
          · have h := h.2 c_17
            refine lv_aload_n hx hb dX1_contentOf_58 rfl (lv_at hl 1 rfl) ?_
            refine x_cS (As := [.ref (b + x2)]) (rest := []) ⟨hx, hb, hml, hown, hts⟩ (mx1_top l G b hole x2 K T hk_x2 _ h) (va_cwS 1 hts (lw_S q1113 q1114 q118 q1115) rfl rfl rfl cwx_X1_top ⟨Nat.le_of_ble_eq_true rfl, Nat.le_of_ble_eq_true rfl⟩) hK hV hb0 hP hS rfl hl.1 rfl (Nat.le_of_ble_eq_true rfl) dX1_contentOf_59 ⟨by first | exact Nat.zero_le _ | (show _ + _ ≤ Z - kc K0; omega), by first | exact Nat.zero_le _ | (show _ + _ ≤ Y - ks K0; omega)⟩ (fun r_10 T1 K1 H locs h hle1 hc1 hs1 hP hS => ?_)
            obtain ⟨h, hTe, hKe⟩ := h
            rw [hTe, hKe] at hP
            refine lv_if_lt (tgt := 71) hx hb dX1_contentOf_62 (by decide) (fun c_16 => ?_) (fun c_16 => ?_)
            · have h := h.1 c_16
              exact J71 _ _ _ _ _ _ h hk_x2 hk_x3 hP hS (lv_sub hl [0, 1, 2, 3, 4, 5] rfl)
            · have h := h.2 c_16
              refine lv_aload_n hx hb dX1_contentOf_65 rfl (lv_at hl 0 rfl) ?_
              refine lv_aload_n hx hb dX1_contentOf_66 rfl (lv_at hl 1 rfl) ?_
              refine lv_aload_n hx hb dX1_contentOf_67 rfl (lv_at hl 2 rfl) ?_
              refine x_cV (k := 0) (As := [.ref (b + x2), .ref (b + x3)]) (rest := []) ⟨hx, hb, hml, hown, hts⟩ (mx1_leaves_2 l G b hole x2 x3 K T hk_x2 hk_x3 _ h) (cwV 2 hts (lw_V q1116 q1118 qs52 q118 q1119) rfl rfl rfl cwx_X1_leaves_2 ⟨Nat.le_of_ble_eq_true rfl, Nat.le_of_ble_eq_true rfl⟩) (x_recv (CC := RX1) (ci := 0) hK hP (xs_0 hP) (by decide) (by decide) rfl (xE_8 (xs_0 hP))) hK hV hb0 hP hS rfl hl.1 rfl (Nat.le_of_ble_eq_true rfl) dX1_contentOf_68 ⟨by first | exact Nat.zero_le _ | (show _ + _ ≤ Z - kc K0; omega), by first | exact Nat.zero_le _ | (show _ + _ ≤ Y - ks K0; omega)⟩ (fun r_13 T1 K1 H locs h hle1 hc1 hs1 hP hS => ?_)
              obtain ⟨h, hKe⟩ := h
              rw [hKe] at hP
              generalize T1 = T_14 at h hP
              exact J71 _ _ _ _ _ _ h hk_x2 hk_x3 hP hS (lv_sub hl [0, 1, 2, 3, 4, 5] rfl)
      unfold wx1_contentOf_b26 at h
      refine lv_iload hx hb dX1_contentOf_26 (lv_at hl 5 rfl) ?_
      refine lv_iload hx hb dX1_contentOf_28 (lv_at hl 4 rfl) ?_
      refine lv_icmp_ge (tgt := 88) hx hb dX1_contentOf_30 (by decide) (fun c_30 => ?_) (fun c_30 => ?_)
      · have h := h.1 c_30
        refine lv_aload_n hx hb dX1_contentOf_88 rfl (lv_at hl 1 rfl) ?_
        refine x_cS (As := [.ref (b + x2)]) (rest := []) ⟨hx, hb, hml, hown, hts⟩ (mx1_top l G b hole x2 K T hk_x2 _ h) (va_cwS 1 hts (lw_S q1113 q1114 q118 q1115) rfl rfl rfl cwx_X1_top ⟨Nat.le_of_ble_eq_true rfl, Nat.le_of_ble_eq_true rfl⟩) hK hV hb0 hP hS rfl hl.1 rfl (Nat.le_of_ble_eq_true rfl) dX1_contentOf_89 ⟨by first | exact Nat.zero_le _ | (show _ + _ ≤ Z - kc K0; omega), by first | exact Nat.zero_le _ | (show _ + _ ≤ Y - ks K0; omega)⟩ (fun r_18 T1 K1 H locs h hle1 hc1 hs1 hP hS => ?_)
        obtain ⟨h, hTe, hKe⟩ := h
        rw [hTe, hKe] at hP
        refine lv_istore (lv' := [(4, .int r_18), (0, .ref (b + 0)), (2, .ref (b + x2)), (3, .ref (b + x3)), (5, .int x5), (6, .int x6)]) hx hb dX1_contentOf_92 hl (by decide) rfl (fun ls hl => ?_)
        refine lv_iload hx hb dX1_contentOf_94 (lv_at hl 0 rfl) ?_
        refine lv_if_ge (tgt := 103) hx hb dX1_contentOf_96 (by decide) (fun c_23 => ?_) (fun c_23 => ?_)
        · have h := h.1 c_23
          refine lv_aload_n hx hb dX1_contentOf_103 rfl (lv_at hl 1 rfl) ?_
          refine x_get (CC := RX1) (TT := TX1) (N := 26) (ci := 0) (v := .ref (b + 1)) hx hb hts in_X1 hown hK hP (xs_0 hP) (by decide) (by decide) rfl (xE_8 (xs_0 hP)) 5 (by decide) q390 rfl rfl dX1_contentOf_104 ?_
          refine lv_aload_n hx hb dX1_contentOf_107 rfl (lv_at hl 2 rfl) ?_
          refine lv_iload hx hb dX1_contentOf_108 (lv_at hl 0 rfl) ?_
          obtain ⟨j_21, hj_21, ej_21, h⟩ := h
          refine x_iald hx hb hK hP hk_x2 ej_21 hj_21 dX1_contentOf_110 ?_
          obtain ⟨j_22, hj_22, ej_22, h⟩ := h
          refine x_iald hx hb hK hP (xs_1 hP) ej_22 (by rw [xl_1 hP]; exact hj_22) dX1_contentOf_111 ?_
          refine lv_istore (lv' := [(5, .int (xi T 1 j_22)), (4, .int r_18), (0, .ref (b + 0)), (2, .ref (b + x2)), (3, .ref (b + x3)), (6, .int x6)]) hx hb dX1_contentOf_112 hl (by decide) rfl (fun ls hl => ?_)
          exact J114 _ _ _ _ _ _ _ h hk_x2 hP hS (lv_sub hl [2, 3, 1, 0] rfl)
        · have h := h.2 c_23
          refine lv_iconst (v := 0) hx hb dX1_contentOf_99 (by decide) ?_
          refine lv_goto (tgt := 112) hx hb dX1_contentOf_100 (by decide) ?_
          refine lv_istore (lv' := [(5, .int 0), (4, .int r_18), (0, .ref (b + 0)), (2, .ref (b + x2)), (3, .ref (b + x3)), (6, .int x6)]) hx hb dX1_contentOf_112 hl (by decide) rfl (fun ls hl => ?_)
          exact J114 _ _ _ _ _ _ _ h hk_x2 hP hS (lv_sub hl [2, 3, 1, 0] rfl)
      · have h := h.2 c_30
        refine lv_aload hx hb dX1_contentOf_33 (lv_at hl 3 rfl) ?_
        refine lv_iload hx hb dX1_contentOf_35 (lv_at hl 5 rfl) ?_
        obtain ⟨j_24, hj_24, ej_24, v_25, ev_25, h⟩ := h
        refine x_aald4 hx hb hK hP hk_x4 ej_24 hj_24 dX1_contentOf_37 ?_
        refine x_some ev_25 ?_
        have hk_v_25 : kd K v_25 = 1 := hP.ty hk_x4 (by decide) ev_25
        refine lv_astore (lv' := [(7, .ref (b + v_25)), (0, .ref (b + 0)), (2, .ref (b + x2)), (3, .ref (b + x3)), (4, .ref (b + x4)), (5, .int x5), (6, .int x6)]) hx hb dX1_contentOf_38 hl (by decide) rfl (fun ls hl => ?_)
        refine lv_aload hx hb dX1_contentOf_40 (lv_at hl 0 rfl) ?_
        refine lv_iconst (v := 0) hx hb dX1_contentOf_42 (by decide) ?_
        refine lv_aload_n hx hb dX1_contentOf_43 rfl (lv_at hl 3 rfl) ?_
        refine lv_iconst (v := 0) hx hb dX1_contentOf_44 (by decide) ?_
        refine lv_sipush (v := 2304) hx hb dX1_contentOf_45 (by decide) ?_
        obtain ⟨sp_26, dp_27, n_28, ea1, ea2, ea3, ea4, ea5, h⟩ := h
        obtain ⟨T_29, eT_29⟩ : ∃ z : XT, z = xcpy T v_25 x3 sp_26 dp_27 n_28 := ⟨_, rfl⟩
        have h := h T_29 eT_29
        refine x_copyi hx hb (hml.trans hl.1.symm) hown hts q1112 q929 q928 q136 hK hP hS hk_v_25 hk_x3 ea1 ea2 ea3 ea4 ea5 (Nat.le_of_ble_eq_true rfl) (Nat.le_of_ble_eq_true rfl) dX1_contentOf_48 (fun H locs hP hS => ?_)
        rw [← eT_29] at hP
        exact L51 _ _ _ _ _ _ _ h hk_x2 hk_x3 hP hS (lv_sub hl [1, 2, 3, 4, 5, 6] rfl)
  unfold wx1_contentOf at h
  refine lv_aload_n hx hb dX1_contentOf_0 rfl (lv_at hl 0 rfl) ?_
  refine x_get (CC := RX1) (TT := TX1) (N := 26) (ci := 0) (v := .ref (b + 75)) hx hb hts in_X1 hown hK hP (xs_0 hP) (by decide) (by decide) rfl (xE_8 (xs_0 hP)) 11 (by decide) q396 rfl rfl dX1_contentOf_1 ?_
  refine lv_astore_n (lv' := [(2, .ref (b + 75)), (0, .ref (b + 0)), (1, .ref (b + p1))]) hx hb dX1_contentOf_4 rfl hl (by decide) rfl (fun ls hl => ?_)
  refine lv_aload_n hx hb dX1_contentOf_5 rfl (lv_at hl 1 rfl) ?_
  refine x_get (CC := RX1) (TT := TX1) (N := 26) (ci := 0) (v := .ref (b + 76)) hx hb hts in_X1 hown hK hP (xs_0 hP) (by decide) (by decide) rfl (xE_8 (xs_0 hP)) 12 (by decide) q397 rfl rfl dX1_contentOf_6 ?_
  refine lv_astore_n (lv' := [(3, .ref (b + 76)), (2, .ref (b + 75)), (0, .ref (b + 0)), (1, .ref (b + p1))]) hx hb dX1_contentOf_9 rfl hl (by decide) rfl (fun ls hl => ?_)
  refine lv_aload_n hx hb dX1_contentOf_10 rfl (lv_at hl 1 rfl) ?_
  refine lv_iconst (v := 0) hx hb dX1_contentOf_11 (by decide) ?_
  refine x_cS (As := [.ref (b + 75), .int 0]) (rest := []) ⟨hx, hb, hml, hown, hts⟩ (mxJ3_fill_2 l G b hole 75 0 K T (xs_75 hP) _ h) (va_cwS 2 hts (lw_S q741 q742 q127 q743) rfl rfl rfl cwx_J3_fill_2 ⟨Nat.le_of_ble_eq_true rfl, Nat.le_of_ble_eq_true rfl⟩) hK hV hb0 hP hS rfl hl.1 rfl (Nat.le_of_ble_eq_true rfl) dX1_contentOf_12 ⟨by first | exact Nat.zero_le _ | (show _ + _ ≤ Z - kc K0; omega), by first | exact Nat.zero_le _ | (show _ + _ ≤ Y - ks K0; omega)⟩ (fun r_31 T1 K1 H locs h hle1 hc1 hs1 hP hS => ?_)
  obtain ⟨h, hKe⟩ := h
  rw [hKe] at hP
  generalize T1 = T_32 at h hP
  refine lv_aload_n hx hb dX1_contentOf_15 rfl (lv_at hl 3 rfl) ?_
  refine lv_astore (lv' := [(4, .ref (b + p1)), (3, .ref (b + 76)), (2, .ref (b + 75)), (0, .ref (b + 0)), (1, .ref (b + p1))]) hx hb dX1_contentOf_16 hl (by decide) rfl (fun ls hl => ?_)
  refine lv_aload hx hb dX1_contentOf_18 (lv_at hl 0 rfl) ?_
  refine x_alen4 hx hb hK hP hk_p1 dX1_contentOf_20 ?_
  refine lv_topi (fun x5_34 ex5_34 => ?_)
  have h := h x5_34 ex5_34
  refine lv_istore (lv' := [(5, .int x5_34), (4, .ref (b + p1)), (3, .ref (b + 76)), (2, .ref (b + 75)), (0, .ref (b + 0)), (1, .ref (b + p1))]) hx hb dX1_contentOf_21 hl (by decide) rfl (fun ls hl => ?_)
  refine lv_iconst (v := 0) hx hb dX1_contentOf_23 (by decide) ?_
  refine lv_istore (lv' := [(6, .int 0), (5, .int x5_34), (4, .ref (b + p1)), (3, .ref (b + 76)), (2, .ref (b + 75)), (0, .ref (b + 0)), (1, .ref (b + p1))]) hx hb dX1_contentOf_24 hl (by decide) rfl (fun ls hl => ?_)
  exact L26 _ _ _ _ _ _ _ _ _ h (xs_75 hP) (xs_76 hP) hk_p1 hP hS (lv_sub hl [5, 4, 3, 2, 1, 0] rfl)
theorem cwx_X1_dividesBy : yX1_dividesBy.cls = RX1 ∧ yX1_dividesBy.cls ≠ "java/lang/invoke/MethodHandle" ∧ yX1_dividesBy.cls ≠ "java/lang/invoke/VarHandle" ∧ (parseMethodDescriptor yX1_dividesBy.desc).map (fun d => d.parameters.length) = some 2 := by decide +kernel
def wx1_dividesBy_j106 (p1 : Nat) (p2 : Nat) (post : XT → Prop) (R19 : Int32 → XT → Prop) (x3 : Int32) (x4 : Int32) (K : XK) (T : XT) : Prop :=
        ∀ x4_1 : Int32, x4_1 = x4 + (-1) →
        R19 x4_1 T
def wx1_dividesBy_b59 (p1 : Nat) (p2 : Nat) (post : XT → Prop) (R19 : Int32 → XT → Prop) (R59 : Int32 → XT → Prop) (x3 : Int32) (x4 : Int32) (x5 : Int32) (x6 : Int32) (K : XK) (T : XT) : Prop :=
          ((x3 < x6 →
            wx1_dividesBy_j106 p1 p2 post R19 x3 x4 K T) ∧
           (¬ (x3 < x6) →
            ((x5 = 0 →
              wx1_dividesBy_j106 p1 p2 post R19 x3 x4 K T) ∧
             (¬ (x5 = 0) →
              ∃ j_2 : Nat, j_2 < kl K p1 ∧ ((x4 - x3) + x6) = nI j_2 ∧
              ∃ j_3 : Nat, j_3 < kl K p2 ∧ x6 = nI j_3 ∧
              wx1_reduced ((xi T p1 j_2) - (x5 * (xi T p2 j_3))) K T (fun r_4 =>
              ∃ j_7 : Nat, j_7 < kl K p1 ∧ ((x4 - x3) + x6) = nI j_7 ∧ ∀ T_8 : XT, T_8 = xwi T p1 j_7 r_4 →
              ∀ x6_9 : Int32, x6_9 = x6 + 1 →
              R59 x6_9 T_8)))))
def wx1_dividesBy_l59 (p1 : Nat) (p2 : Nat) (post : XT → Prop) (R19 : Int32 → XT → Prop) (x3 : Int32) (x4 : Int32) (x5 : Int32) (x6 : Int32) (K : XK) (T : XT) : Prop := wLoop (fun (R : ((Int32) × (XT)) → Prop) (v : (Int32) × (XT)) => wx1_dividesBy_b59 p1 p2 post R19 (fun x6 T => R (x6, T)) x3 x4 x5 v.1 K v.2) (x6, T)
def wx1_dividesBy_b19 (p1 : Nat) (p2 : Nat) (post : XT → Prop) (R19 : Int32 → XT → Prop) (x3 : Int32) (x4 : Int32) (K : XK) (T : XT) : Prop :=
      ((x4 < x3 →
        ∃ sp_12 dp_13 n_14 : Nat, 0 = nI sp_12 ∧ 0 = nI dp_13 ∧ (nI (kl K p1)) = nI n_14 ∧ sp_12 + n_14 ≤ 2304 ∧ dp_13 + n_14 ≤ kl K p1 ∧ ∀ T_15 : XT, T_15 = xcpy T 77 p1 sp_12 dp_13 n_14 →
        post T_15) ∧
       (¬ (x4 < x3) →
        ∃ j_16 : Nat, j_16 < kl K p1 ∧ x4 = nI j_16 ∧
        ∃ j_17 : Nat, j_17 < kl K p2 ∧ x3 = nI j_17 ∧
        ∃ j_18 : Nat, j_18 < 98 ∧ (xi T p2 j_17) = nI j_18 ∧
        ¬ (xi T 0 0) = 0 ∧
        ∀ x5_19 : Int32, x5_19 = (jrem ((xi T p1 j_16) * (xi T 1 j_18)) (xi T 0 0)) →
        ∃ j_20 : Nat, j_20 < 2304 ∧ (x4 - x3) = nI j_20 ∧ ∀ T_21 : XT, T_21 = xwi T 77 j_20 x5_19 →
        wx1_dividesBy_l59 p1 p2 post R19 x3 x4 x5_19 0 K T_21))
def wx1_dividesBy_l19 (p1 : Nat) (p2 : Nat) (post : XT → Prop) (x3 : Int32) (x4 : Int32) (K : XK) (T : XT) : Prop := wLoop (fun (R : ((Int32) × (XT)) → Prop) (v : (Int32) × (XT)) => wx1_dividesBy_b19 p1 p2 post (fun x4 T => R (x4, T)) x3 v.1 K v.2) (x4, T)
def wx1_dividesBy (p1 : Nat) (p2 : Nat) (K : XK) (T : XT) (post : XT → Prop) : Prop :=
  wx1_top p2 K T (fun r_23 =>
  wxJ3_fill_2 77 0 K T (fun T_27 =>
  wx1_top p1 K T_27 (fun r_29 =>
  wx1_dividesBy_l19 p1 p2 post r_23 r_29 K T_27)))
set_option maxHeartbeats 4000000 in
theorem mx1_dividesBy (l : Launch) (G : XG) (b : Nat) (hole : Nat → Prop) (p1 : Nat) (p2 : Nat) (K : XK) (T : XT) (hk_p1 : kd K p1 = 1) (hk_p2 : kd K p2 = 1) (post : XT → Prop) (h : wx1_dividesBy p1 p2 K T post) : Met l yX1_dividesBy (ws_ yX1_dividesBy cX1_dividesBy 7 none) ({ frames := 1, cells := 0, slots := 0, locals := 60 } : Room) (xPc G b hole [.ref (b + 0), .ref (b + p1), .ref (b + p2)] K T) (xQ G b hole K 0 0 (ρ := Unit) eV (fun r T1 K1 => post T1 ∧ K1 = K)) 0 0 (xA b hole) := by
  refine Met.ofW (cc := cX1_dividesBy) (maxL := 7) (ret := none) (by decide) rfl ?_
  intro p e s m args below meth c s₁ B hml hv
  obtain ⟨rfl, hP, hK, hV⟩ := hv
  have hx := B.exec
  have hb := B.bytes
  have hr := B.returns
  have hts := atoms_spec (ws := ws_ yX1_dividesBy cX1_dividesBy 7 none) B.pre
  have hts : ∀ w ∈ lw_all, w.before _ s = true := fun w h => hts w (List.mem_cons_of_mem _ h)
  have hown : s.vm.findClass RX1 = some m.cls := findClass_of_methodNamed B.named
  have hlocks := B.notSynchronized
  have hb0 : b ≤ s.heap.size := by rw [hP.2.2.2]; exact Nat.le_add_right _ _
  have hS : va_S (xA b hole) s.heap s.heap [] := va_S.rf
  have hl := lv_entry ([.ref (b + 0), .ref (b + p1), .ref (b + p2)]) (n := 7) (Nat.le_of_ble_eq_true rfl)
  rw [lg_entry_eq]
  generalize (lg_sl ([.ref (b + 0), .ref (b + p1), .ref (b + p2)]) ++ List.replicate (7 - (lg_sl ([.ref (b + 0), .ref (b + p1), .ref (b + p2)])).length) Slot.unset).toArray = ls at hl ⊢
  have hl : lv_has ls 7 [(0, .ref (b + 0)), (1, .ref (b + p1)), (2, .ref (b + p2))] := hl
  have L19 : ∀ (x3 : Int32) (x4 : Int32) (T : XT) (H : Heap) (locs : List Loc) (ls : Array Slot), wx1_dividesBy_l19 p1 p2 post x3 x4 K T → xW G b hole K T H → va_S (xA b hole) s.heap H locs → lv_has ls 7 [(0, .ref (b + 0)), (1, .ref (b + p1)), (2, .ref (b + p2)), (3, .int x3), (4, .int x4)] → W p l e (headSpec (ws_ yX1_dividesBy cX1_dividesBy 7 none) ({ frames := 1, cells := 0, slots := 0, locals := 60 } : Room)).room s m ([.ref (b + 0), .ref (b + p1), .ref (b + p2)] : List Value).toArray below meth c H locs 0 0 (MQ below (xQ G b hole K 0 0 (ρ := Unit) eV (fun r T1 K1 => post T1 ∧ K1 = K)) ([.ref (b + 0), .ref (b + p1), .ref (b + p2)] : List Value).toArray s 0 0 (xA b hole)) (F0 m 19 ls []) := by
    intro x3 x4 T H locs ls h hP hS hl
    obtain ⟨I19, n19, hI, hstep19⟩ := h
    induction n19 using Nat.strongRecOn generalizing x4 T H locs ls with
    | ind n19 ih19 =>
      have h : wx1_dividesBy_b19 p1 p2 post (fun x4 T => ∃ mm, mm < n19 ∧ I19 mm (x4, T)) x3 x4 K T := hstep19 n19 _ hI
      clear hI
      have J106 : ∀ (x4 : Int32) (T : XT) (H : Heap) (locs : List Loc) (ls : Array Slot), wx1_dividesBy_j106 p1 p2 post (fun x4 T => ∃ mm, mm < n19 ∧ I19 mm (x4, T)) x3 x4 K T → xW G b hole K T H → va_S (xA b hole) s.heap H locs → lv_has ls 7 [(0, .ref (b + 0)), (1, .ref (b + p1)), (2, .ref (b + p2)), (3, .int x3), (4, .int x4)] → W p l e (headSpec (ws_ yX1_dividesBy cX1_dividesBy 7 none) ({ frames := 1, cells := 0, slots := 0, locals := 60 } : Room)).room s m ([.ref (b + 0), .ref (b + p1), .ref (b + p2)] : List Value).toArray below meth c H locs 0 0 (MQ below (xQ G b hole K 0 0 (ρ := Unit) eV (fun r T1 K1 => post T1 ∧ K1 = K)) ([.ref (b + 0), .ref (b + p1), .ref (b + p2)] : List Value).toArray s 0 0 (xA b hole)) (F0 m 106 ls []) := by
        intro x4 T H locs ls h hP hS hl
        unfold wx1_dividesBy_j106 at h
        obtain ⟨x4_1, ex4_1⟩ : ∃ y : Int32, y = x4 + (-1) := ⟨_, rfl⟩
        have h := h x4_1 ex4_1
        refine lv_iinc (v := x4_1) (lv' := [(4, .int x4_1), (0, .ref (b + 0)), (1, .ref (b + p1)), (2, .ref (b + p2)), (3, .int x3)]) hx hb dX1_dividesBy_106 hl (k := 4) rfl (by rw [ex4_1]; rfl) (by decide) rfl (fun ls hl => ?_)
        refine lv_goto (tgt := 19) hx hb dX1_dividesBy_109 (by decide) ?_
        obtain ⟨mm, hmm, h⟩ := h
        exact ih19 mm hmm _ _ _ _ _  hP hS (lv_sub hl [1, 2, 3, 4, 0] rfl) h
      have L59 : ∀ (x4 : Int32) (x5 : Int32) (x6 : Int32) (T : XT) (H : Heap) (locs : List Loc) (ls : Array Slot), wx1_dividesBy_l59 p1 p2 post (fun x4 T => ∃ mm, mm < n19 ∧ I19 mm (x4, T)) x3 x4 x5 x6 K T → xW G b hole K T H → va_S (xA b hole) s.heap H locs → lv_has ls 7 [(0, .ref (b + 0)), (1, .ref (b + p1)), (2, .ref (b + p2)), (3, .int x3), (4, .int x4), (5, .int x5), (6, .int x6)] → W p l e (headSpec (ws_ yX1_dividesBy cX1_dividesBy 7 none) ({ frames := 1, cells := 0, slots := 0, locals := 60 } : Room)).room s m ([.ref (b + 0), .ref (b + p1), .ref (b + p2)] : List Value).toArray below meth c H locs 0 0 (MQ below (xQ G b hole K 0 0 (ρ := Unit) eV (fun r T1 K1 => post T1 ∧ K1 = K)) ([.ref (b + 0), .ref (b + p1), .ref (b + p2)] : List Value).toArray s 0 0 (xA b hole)) (F0 m 59 ls []) := by
        intro x4 x5 x6 T H locs ls h hP hS hl
        obtain ⟨I59, n59, hI, hstep59⟩ := h
        induction n59 using Nat.strongRecOn generalizing x6 T H locs ls with
        | ind n59 ih59 =>
          have h : wx1_dividesBy_b59 p1 p2 post (fun x4 T => ∃ mm, mm < n19 ∧ I19 mm (x4, T)) (fun x6 T => ∃ mm, mm < n59 ∧ I59 mm (x6, T)) x3 x4 x5 x6 K T := hstep59 n59 _ hI
          clear hI
          unfold wx1_dividesBy_b59 at h
          refine lv_iload hx hb dX1_dividesBy_59 (lv_at hl 6 rfl) ?_
          refine lv_iload_n hx hb dX1_dividesBy_61 rfl (lv_at hl 3 rfl) ?_
          refine lv_icmp_gt (tgt := 106) hx hb dX1_dividesBy_62 (by decide) (fun c_11 => ?_) (fun c_11 => ?_)
          · have h := h.1 c_11
            exact J106 _ _ _ _ _ h  hP hS (lv_sub hl [0, 1, 2, 3, 4] rfl)
          · have h := h.2 c_11
            refine lv_iload hx hb dX1_dividesBy_65 (lv_at hl 5 rfl) ?_
            refine lv_if_eq (tgt := 106) hx hb dX1_dividesBy_67 (by decide) (fun c_10 => ?_) (fun c_10 => ?_)
            · have h := h.1 c_10
              exact J106 _ _ _ _ _ h  hP hS (lv_sub hl [0, 1, 2, 3, 4] rfl)
            · have h := h.2 c_10
              refine lv_aload_n hx hb dX1_dividesBy_70 rfl (lv_at hl 1 rfl) ?_
              refine lv_iload hx hb dX1_dividesBy_71 (lv_at hl 4 rfl) ?_
              refine lv_iload_n hx hb dX1_dividesBy_73 rfl (lv_at hl 3 rfl) ?_
              refine lv_isub hx hb dX1_dividesBy_74 ?_
              refine lv_iload hx hb dX1_dividesBy_75 (lv_at hl 6 rfl) ?_
              refine lv_iadd hx hb dX1_dividesBy_77 ?_
              refine lv_aload_n hx hb dX1_dividesBy_78 rfl (lv_at hl 0 rfl) ?_
              refine lv_aload_n hx hb dX1_dividesBy_79 rfl (lv_at hl 1 rfl) ?_
              refine lv_iload hx hb dX1_dividesBy_80 (lv_at hl 4 rfl) ?_
              refine lv_iload_n hx hb dX1_dividesBy_82 rfl (lv_at hl 3 rfl) ?_
              refine lv_isub hx hb dX1_dividesBy_83 ?_
              refine lv_iload hx hb dX1_dividesBy_84 (lv_at hl 6 rfl) ?_
              refine lv_iadd hx hb dX1_dividesBy_86 ?_
              obtain ⟨j_2, hj_2, ej_2, h⟩ := h
              refine x_iald hx hb hK hP hk_p1 ej_2 hj_2 dX1_dividesBy_87 ?_
              refine lv_iload hx hb dX1_dividesBy_88 (lv_at hl 5 rfl) ?_
              refine lv_aload_n hx hb dX1_dividesBy_90 rfl (lv_at hl 2 rfl) ?_
              refine lv_iload hx hb dX1_dividesBy_91 (lv_at hl 6 rfl) ?_
              obtain ⟨j_3, hj_3, ej_3, h⟩ := h
              refine x_iald hx hb hK hP hk_p2 ej_3 hj_3 dX1_dividesBy_93 ?_
              refine lv_imul hx hb dX1_dividesBy_94 ?_
              refine lv_isub hx hb dX1_dividesBy_95 ?_
              refine x_cV (k := 0) (As := [.int ((xi T p1 j_2) - (x5 * (xi T p2 j_3)))]) (rest := [.int ((x4 - x3) + x6), .ref (b + p1)]) ⟨hx, hb, hml, hown, hts⟩ (mx1_reduced l G b hole ((xi T p1 j_2) - (x5 * (xi T p2 j_3))) K T  _ h) (cwV 1 hts (lw_V q1120 q746 qs22 q118 q747) rfl rfl rfl cwx_X1_reduced ⟨Nat.le_of_ble_eq_true rfl, Nat.le_of_ble_eq_true rfl⟩) (x_recv (CC := RX1) (ci := 0) hK hP (xs_0 hP) (by decide) (by decide) rfl (xE_8 (xs_0 hP))) hK hV hb0 hP hS rfl hl.1 rfl (Nat.le_of_ble_eq_true rfl) dX1_dividesBy_96 ⟨by first | exact Nat.zero_le _ | (show _ + _ ≤ Z - kc K0; omega), by first | exact Nat.zero_le _ | (show _ + _ ≤ Y - ks K0; omega)⟩ (fun r_4 T1 K1 H locs h hle1 hc1 hs1 hP hS => ?_)
              obtain ⟨h, hTe, hKe⟩ := h
              rw [hTe, hKe] at hP
              obtain ⟨j_7, hj_7, ej_7, h⟩ := h
              obtain ⟨T_8, eT_8⟩ : ∃ z : XT, z = xwi T p1 j_7 r_4 := ⟨_, rfl⟩
              have h := h T_8 eT_8
              refine x_iast hx hb hK hP hS hk_p1 ej_7 hj_7 dX1_dividesBy_99 (fun H locs hP hS => ?_)
              rw [← eT_8] at hP
              obtain ⟨x6_9, ex6_9⟩ : ∃ y : Int32, y = x6 + 1 := ⟨_, rfl⟩
              have h := h x6_9 ex6_9
              refine lv_iinc (v := x6_9) (lv' := [(6, .int x6_9), (0, .ref (b + 0)), (1, .ref (b + p1)), (2, .ref (b + p2)), (3, .int x3), (4, .int x4), (5, .int x5)]) hx hb dX1_dividesBy_100 hl (k := 6) rfl (by rw [ex6_9]; rfl) (by decide) rfl (fun ls hl => ?_)
              refine lv_goto (tgt := 59) hx hb dX1_dividesBy_103 (by decide) ?_
              obtain ⟨mm, hmm, h⟩ := h
              exact ih59 mm hmm _ _ _ _ _  hP hS (lv_sub hl [1, 2, 3, 4, 5, 6, 0] rfl) h
      unfold wx1_dividesBy_b19 at h
      refine lv_iload hx hb dX1_dividesBy_19 (lv_at hl 4 rfl) ?_
      refine lv_iload_n hx hb dX1_dividesBy_21 rfl (lv_at hl 3 rfl) ?_
      refine lv_icmp_lt (tgt := 112) hx hb dX1_dividesBy_22 (by decide) (fun c_22 => ?_) (fun c_22 => ?_)
      · have h := h.1 c_22
        refine lv_aload_n hx hb dX1_dividesBy_112 rfl (lv_at hl 0 rfl) ?_
        refine x_get (CC := RX1) (TT := TX1) (N := 26) (ci := 0) (v := .ref (b + 77)) hx hb hts in_X1 hown hK hP (xs_0 hP) (by decide) (by decide) rfl (xE_8 (xs_0 hP)) 13 (by decide) q398 rfl rfl dX1_dividesBy_113 ?_
        refine lv_iconst (v := 0) hx hb dX1_dividesBy_116 (by decide) ?_
        refine lv_aload_n hx hb dX1_dividesBy_117 rfl (lv_at hl 1 rfl) ?_
        refine lv_iconst (v := 0) hx hb dX1_dividesBy_118 (by decide) ?_
        refine lv_aload_n hx hb dX1_dividesBy_119 rfl (lv_at hl 1 rfl) ?_
        refine x_alen1 hx hb hK hP hk_p1 dX1_dividesBy_120 ?_
        obtain ⟨sp_12, dp_13, n_14, ea1, ea2, ea3, ea4, ea5, h⟩ := h
        obtain ⟨T_15, eT_15⟩ : ∃ z : XT, z = xcpy T 77 p1 sp_12 dp_13 n_14 := ⟨_, rfl⟩
        have h := h T_15 eT_15
        refine x_copyi hx hb (hml.trans hl.1.symm) hown hts q1112 q929 q928 q136 hK hP hS (xs_77 hP) hk_p1 ea1 ea2 ea3 (by rw [xl_77 hP]; exact ea4) ea5 (Nat.le_of_ble_eq_true rfl) (Nat.le_of_ble_eq_true rfl) dX1_dividesBy_121 (fun H locs hP hS => ?_)
        rw [← eT_15] at hP
        exact W.vret hx hb hr (fun t ht hW => ⟨⟨(), T_15, K, rfl, ⟨h, rfl⟩, kle.rf, rfl, rfl, by rw [ht]; exact hP, va_K.moved hW.alike hK⟩, hS.F ht⟩) hS.2.2 dX1_dividesBy_124
      · have h := h.2 c_22
        refine lv_aload_n hx hb dX1_dividesBy_25 rfl (lv_at hl 1 rfl) ?_
        refine lv_iload hx hb dX1_dividesBy_26 (lv_at hl 4 rfl) ?_
        obtain ⟨j_16, hj_16, ej_16, h⟩ := h
        refine x_iald hx hb hK hP hk_p1 ej_16 hj_16 dX1_dividesBy_28 ?_
        refine lv_aload_n hx hb dX1_dividesBy_29 rfl (lv_at hl 0 rfl) ?_
        refine x_get (CC := RX1) (TT := TX1) (N := 26) (ci := 0) (v := .ref (b + 1)) hx hb hts in_X1 hown hK hP (xs_0 hP) (by decide) (by decide) rfl (xE_8 (xs_0 hP)) 5 (by decide) q390 rfl rfl dX1_dividesBy_30 ?_
        refine lv_aload_n hx hb dX1_dividesBy_33 rfl (lv_at hl 2 rfl) ?_
        refine lv_iload_n hx hb dX1_dividesBy_34 rfl (lv_at hl 3 rfl) ?_
        obtain ⟨j_17, hj_17, ej_17, h⟩ := h
        refine x_iald hx hb hK hP hk_p2 ej_17 hj_17 dX1_dividesBy_35 ?_
        obtain ⟨j_18, hj_18, ej_18, h⟩ := h
        refine x_iald hx hb hK hP (xs_1 hP) ej_18 (by rw [xl_1 hP]; exact hj_18) dX1_dividesBy_36 ?_
        refine lv_imul hx hb dX1_dividesBy_37 ?_
        refine lv_aload_n hx hb dX1_dividesBy_38 rfl (lv_at hl 0 rfl) ?_
        refine x_get (CC := RX1) (TT := TX1) (N := 26) (ci := 0) (v := .int (xi T 0 0)) hx hb hts in_X1 hown hK hP (xs_0 hP) (by decide) (by decide) rfl (xE_8 (xs_0 hP)) 0 (by decide) q384 rfl rfl dX1_dividesBy_39 ?_
        obtain ⟨hne, h⟩ := h
        refine m_irem hx hb dX1_dividesBy_42 hne ?_
        refine lv_topi (fun x5_19 ex5_19 => ?_)
        have h := h x5_19 ex5_19
        refine lv_istore (lv' := [(5, .int x5_19), (0, .ref (b + 0)), (1, .ref (b + p1)), (2, .ref (b + p2)), (3, .int x3), (4, .int x4)]) hx hb dX1_dividesBy_43 hl (by decide) rfl (fun ls hl => ?_)
        refine lv_aload_n hx hb dX1_dividesBy_45 rfl (lv_at hl 1 rfl) ?_
        refine x_get (CC := RX1) (TT := TX1) (N := 26) (ci := 0) (v := .ref (b + 77)) hx hb hts in_X1 hown hK hP (xs_0 hP) (by decide) (by decide) rfl (xE_8 (xs_0 hP)) 13 (by decide) q398 rfl rfl dX1_dividesBy_46 ?_
        refine lv_iload hx hb dX1_dividesBy_49 (lv_at hl 5 rfl) ?_
        refine lv_iload_n hx hb dX1_dividesBy_51 rfl (lv_at hl 4 rfl) ?_
        refine lv_isub hx hb dX1_dividesBy_52 ?_
        refine lv_iload hx hb dX1_dividesBy_53 (lv_at hl 0 rfl) ?_
        obtain ⟨j_20, hj_20, ej_20, h⟩ := h
        obtain ⟨T_21, eT_21⟩ : ∃ z : XT, z = xwi T 77 j_20 x5_19 := ⟨_, rfl⟩
        have h := h T_21 eT_21
        refine x_iast hx hb hK hP hS (xs_77 hP) ej_20 (by rw [xl_77 hP]; exact hj_20) dX1_dividesBy_55 (fun H locs hP hS => ?_)
        rw [← eT_21] at hP
        refine lv_iconst (v := 0) hx hb dX1_dividesBy_56 (by decide) ?_
        refine lv_istore (lv' := [(6, .int 0), (5, .int x5_19), (0, .ref (b + 0)), (1, .ref (b + p1)), (2, .ref (b + p2)), (3, .int x3), (4, .int x4)]) hx hb dX1_dividesBy_57 hl (by decide) rfl (fun ls hl => ?_)
        exact L59 _ _ _ _ _ _ _ h  hP hS (lv_sub hl [2, 3, 4, 5, 6, 1, 0] rfl)
  unfold wx1_dividesBy at h
  refine lv_aload_n hx hb dX1_dividesBy_0 rfl (lv_at hl 2 rfl) ?_
  refine x_cS (As := [.ref (b + p2)]) (rest := []) ⟨hx, hb, hml, hown, hts⟩ (mx1_top l G b hole p2 K T hk_p2 _ h) (va_cwS 1 hts (lw_S q1113 q1114 q118 q1115) rfl rfl rfl cwx_X1_top ⟨Nat.le_of_ble_eq_true rfl, Nat.le_of_ble_eq_true rfl⟩) hK hV hb0 hP hS rfl hl.1 rfl (Nat.le_of_ble_eq_true rfl) dX1_dividesBy_1 ⟨by first | exact Nat.zero_le _ | (show _ + _ ≤ Z - kc K0; omega), by first | exact Nat.zero_le _ | (show _ + _ ≤ Y - ks K0; omega)⟩ (fun r_23 T1 K1 H locs h hle1 hc1 hs1 hP hS => ?_)
  obtain ⟨h, hTe, hKe⟩ := h
  rw [hTe, hKe] at hP
  refine lv_istore_n (lv' := [(3, .int r_23), (0, .ref (b + 0)), (1, .ref (b + p1)), (2, .ref (b + p2))]) hx hb dX1_dividesBy_4 rfl hl (by decide) rfl (fun ls hl => ?_)
  refine lv_aload_n hx hb dX1_dividesBy_5 rfl (lv_at hl 1 rfl) ?_
  refine x_get (CC := RX1) (TT := TX1) (N := 26) (ci := 0) (v := .ref (b + 77)) hx hb hts in_X1 hown hK hP (xs_0 hP) (by decide) (by decide) rfl (xE_8 (xs_0 hP)) 13 (by decide) q398 rfl rfl dX1_dividesBy_6 ?_
  refine lv_iconst (v := 0) hx hb dX1_dividesBy_9 (by decide) ?_
  refine x_cS (As := [.ref (b + 77), .int 0]) (rest := []) ⟨hx, hb, hml, hown, hts⟩ (mxJ3_fill_2 l G b hole 77 0 K T (xs_77 hP) _ h) (va_cwS 2 hts (lw_S q741 q742 q127 q743) rfl rfl rfl cwx_J3_fill_2 ⟨Nat.le_of_ble_eq_true rfl, Nat.le_of_ble_eq_true rfl⟩) hK hV hb0 hP hS rfl hl.1 rfl (Nat.le_of_ble_eq_true rfl) dX1_dividesBy_10 ⟨by first | exact Nat.zero_le _ | (show _ + _ ≤ Z - kc K0; omega), by first | exact Nat.zero_le _ | (show _ + _ ≤ Y - ks K0; omega)⟩ (fun r_26 T1 K1 H locs h hle1 hc1 hs1 hP hS => ?_)
  obtain ⟨h, hKe⟩ := h
  rw [hKe] at hP
  generalize T1 = T_27 at h hP
  refine lv_aload_n hx hb dX1_dividesBy_13 rfl (lv_at hl 2 rfl) ?_
  refine x_cS (As := [.ref (b + p1)]) (rest := []) ⟨hx, hb, hml, hown, hts⟩ (mx1_top l G b hole p1 K T_27 hk_p1 _ h) (va_cwS 1 hts (lw_S q1113 q1114 q118 q1115) rfl rfl rfl cwx_X1_top ⟨Nat.le_of_ble_eq_true rfl, Nat.le_of_ble_eq_true rfl⟩) hK hV hb0 hP hS rfl hl.1 rfl (Nat.le_of_ble_eq_true rfl) dX1_dividesBy_14 ⟨by first | exact Nat.zero_le _ | (show _ + _ ≤ Z - kc K0; omega), by first | exact Nat.zero_le _ | (show _ + _ ≤ Y - ks K0; omega)⟩ (fun r_29 T1 K1 H locs h hle1 hc1 hs1 hP hS => ?_)
  obtain ⟨h, hTe, hKe⟩ := h
  rw [hTe, hKe] at hP
  refine lv_istore (lv' := [(4, .int r_29), (3, .int r_23), (0, .ref (b + 0)), (1, .ref (b + p1)), (2, .ref (b + p2))]) hx hb dX1_dividesBy_17 hl (by decide) rfl (fun ls hl => ?_)
  exact L19 _ _ _ _ _ _ h  hP hS (lv_sub hl [2, 3, 4, 1, 0] rfl)
theorem cwx_X1_primitive : yX1_primitive.cls = RX1 ∧ yX1_primitive.cls ≠ "java/lang/invoke/MethodHandle" ∧ yX1_primitive.cls ≠ "java/lang/invoke/VarHandle" ∧ (parseMethodDescriptor yX1_primitive.desc).map (fun d => d.parameters.length) = some 1 := by decide +kernel
def wx1_primitive_j53 (p1 : Nat) (Z Y : Nat) (post : Nat → XT → XK → Prop) (x2 : Nat) (x3 : Int32) (K : XK) (T : XT) : Prop :=
    ∃ Z_4 Y_5 : Nat, kc K ≤ Z_4 ∧ Z_4 ≤ Z ∧ ks K ≤ Y_5 ∧ Y_5 ≤ Y ∧ wxJ3_copyOf x2 (x3 + 1) K T Z_4 Y_5 (fun r_1 T_2 K_3 =>
    post r_1 T_2 (kset K_3 Z Y))
def wx1_primitive_b26 (p1 : Nat) (Z Y : Nat) (post : Nat → XT → XK → Prop) (R26 : Int32 → XT → Prop) (x2 : Nat) (x3 : Int32) (x4 : Nat) (x5 : Int32) (x6 : Int32) (K : XK) (T : XT) : Prop :=
      ((x5 ≤ x6 →
        wx1_primitive_j53 p1 Z Y post x2 x3 K T) ∧
       (¬ (x5 ≤ x6) →
        ∃ j_6 : Nat, j_6 < kl K x4 ∧ x6 = nI j_6 ∧ ∃ v_7 : Nat, xr T x4 j_6 = some v_7 ∧
        wx1_dividesBy v_7 x2 K T (fun T_9 =>
        ∀ x6_11 : Int32, x6_11 = x6 + 1 →
        R26 x6_11 T_9)))
def wx1_primitive_l26 (p1 : Nat) (Z Y : Nat) (post : Nat → XT → XK → Prop) (x2 : Nat) (x3 : Int32) (x4 : Nat) (x5 : Int32) (x6 : Int32) (K : XK) (T : XT) : Prop := wLoop (fun (R : ((Int32) × (XT)) → Prop) (v : (Int32) × (XT)) => wx1_primitive_b26 p1 Z Y post (fun x6 T => R (x6, T)) x2 x3 x4 x5 v.1 K v.2) (x6, T)
def wx1_primitive (p1 : Nat) (K0 : XK) (T : XT) (Z Y : Nat) (post : Nat → XT → XK → Prop) : Prop :=
  wx1_contentOf p1 K0 T (fun r_13 T_14 =>
  wx1_top r_13 K0 T_14 (fun r_16 =>
  ((r_16 ≤ 0 →
    wx1_primitive_j53 p1 Z Y post r_13 r_16 K0 T_14) ∧
   (¬ (r_16 ≤ 0) →
    ∀ x5_19 : Int32, x5_19 = (nI (kl K0 p1)) →
    wx1_primitive_l26 p1 Z Y post r_13 r_16 p1 x5_19 0 K0 T_14))))
set_option maxHeartbeats 4000000 in
theorem mx1_primitive (l : Launch) (G : XG) (b : Nat) (hole : Nat → Prop) (p1 : Nat) (K0 : XK) (T : XT) (Z Y : Nat) (hZ : kc K0 ≤ Z) (hY : ks K0 ≤ Y) (hk_p1 : kd K0 p1 = 4) (post : Nat → XT → XK → Prop) (h : wx1_primitive p1 K0 T Z Y post) : Met l yX1_primitive (ws_ yX1_primitive cX1_primitive 8 (some (.array .int))) ({ frames := 3, cells := (Z - kc K0), slots := (Y - ks K0), locals := 88 } : Room) (xPc G b hole [.ref (b + 0), .ref (b + p1)] K0 T) (xQ G b hole K0 (Z - kc K0) (Y - ks K0) (ρ := Nat) (eR b) (fun r T1 K1 => post r T1 K1 ∧ kd K1 r = 1)) (Z - kc K0) (Y - ks K0) (xA b hole) := by
  refine Met.ofW (cc := cX1_primitive) (maxL := 8) (ret := (some (.array .int))) (by decide) rfl ?_
  intro p e s m args below meth c s₁ B hml hv
  obtain ⟨rfl, hP, hK, hV⟩ := hv
  have hx := B.exec
  have hb := B.bytes
  have hr := B.returns
  have hts := atoms_spec (ws := ws_ yX1_primitive cX1_primitive 8 (some (.array .int))) B.pre
  have hts : ∀ w ∈ lw_all, w.before _ s = true := fun w h => hts w (List.mem_cons_of_mem _ h)
  have hown : s.vm.findClass RX1 = some m.cls := findClass_of_methodNamed B.named
  have hlocks := B.notSynchronized
  have hb0 : b ≤ s.heap.size := by rw [hP.2.2.2]; exact Nat.le_add_right _ _
  have hS : va_S (xA b hole) s.heap s.heap [] := va_S.rf
  have hl := lv_entry ([.ref (b + 0), .ref (b + p1)]) (n := 8) (Nat.le_of_ble_eq_true rfl)
  rw [lg_entry_eq]
  generalize (lg_sl ([.ref (b + 0), .ref (b + p1)]) ++ List.replicate (8 - (lg_sl ([.ref (b + 0), .ref (b + p1)])).length) Slot.unset).toArray = ls at hl ⊢
  have hl : lv_has ls 8 [(0, .ref (b + 0)), (1, .ref (b + p1))] := hl
  have hle0 : kle K0 K0 := kle.rf
  have J53 : ∀ (x2 : Nat) (x3 : Int32) (T : XT) (K : XK) (cn sn : Nat) (H : Heap) (locs : List Loc) (ls : Array Slot), wx1_primitive_j53 p1 Z Y post x2 x3 K T → kle K0 K → kc K0 + cn = kc K → ks K0 + sn = ks K → kc K ≤ Z → ks K ≤ Y → (kd K x2 = 1) → (kd K p1 = 4) → xW G b hole K T H → va_S (xA b hole) s.heap H locs → lv_has ls 8 [(0, .ref (b + 0)), (2, .ref (b + x2)), (3, .int x3)] → W p l e (headSpec (ws_ yX1_primitive cX1_primitive 8 (some (.array .int))) ({ frames := 3, cells := (Z - kc K0), slots := (Y - ks K0), locals := 88 } : Room)).room s m ([.ref (b + 0), .ref (b + p1)] : List Value).toArray below meth c H locs cn sn (MQ below (xQ G b hole K0 (Z - kc K0) (Y - ks K0) (ρ := Nat) (eR b) (fun r T1 K1 => post r T1 K1 ∧ kd K1 r = 1)) ([.ref (b + 0), .ref (b + p1)] : List Value).toArray s (Z - kc K0) (Y - ks K0) (xA b hole)) (F0 m 53 ls []) := by
    intro x2 x3 T K cn sn H locs ls h hle0 hcn hsn hzz hyy hk_x2 hk_p1 hP hS hl
    unfold wx1_primitive_j53 at h
    refine lv_aload_n hx hb dX1_primitive_53 rfl (lv_at hl 1 rfl) ?_
    refine lv_iload_n hx hb dX1_primitive_54 rfl (lv_at hl 2 rfl) ?_
    refine lv_iconst (v := 1) hx hb dX1_primitive_55 (by decide) ?_
    refine lv_iadd hx hb dX1_primitive_56 ?_
    obtain ⟨Z_4, Y_5, hz1, hz2, hy1, hy2, h⟩ := h
    refine x_cS (As := [.ref (b + x2), .int (x3 + 1)]) (rest := []) ⟨hx, hb, hml, hown, hts⟩ (mxJ3_copyOf l G b hole x2 (x3 + 1) K T Z_4 Y_5 hz1 hy1 hk_x2 _ h) (va_cwS 2 hts (lw_S q1125 q977 q127 q978) rfl rfl rfl cwx_J3_copyOf ⟨Nat.le_of_ble_eq_true rfl, Nat.le_of_ble_eq_true rfl⟩) hK hV hb0 hP hS rfl hl.1 rfl (Nat.le_of_ble_eq_true rfl) dX1_primitive_57 ⟨by first | exact Nat.zero_le _ | (show _ + _ ≤ Z - kc K0; omega), by first | exact Nat.zero_le _ | (show _ + _ ≤ Y - ks K0; omega)⟩ (fun r_1 T1 K1 H locs h hle1 hc1 hs1 hP hS => ?_)
    obtain ⟨h, hk_r_1⟩ := h
    generalize T1 = T_2 at h hP
    generalize K1 = K_3 at h hP hle1 hc1 hs1 hk_r_1
    have hk_x2 : kd K_3 x2 = 1 := hle1.kd hk_x2
    have hk_p1 : kd K_3 p1 = 4 := hle1.kd hk_p1
    have hle0 := hle0.tr hle1
    have hcn : kc K0 + (cn + (Z_4 - kc K)) = kc K_3 := by omega
    have hsn : ks K0 + (sn + (Y_5 - ks K)) = ks K_3 := by omega
    have hzz : kc K_3 ≤ Z := by omega
    have hyy : ks K_3 ≤ Y := by omega
    refine W.widen (k := Z - kc K0) (n := Y - ks K0) (by omega) (by omega) ?_
    exact W.aret (v := .ref (b + r_1)) hx hb hr (Or.inr ⟨_, rfl⟩) (Or.inr ⟨_, rfl⟩) (fun t ht hW => ⟨⟨r_1, T_2, (kset K_3 Z Y), rfl, ⟨h, hk_r_1⟩, hle0, (by show Z = _; omega), (by show Y = _; omega), by rw [ht]; exact hP, va_K.moved hW.alike hK⟩, hS.F ht⟩) hS.2.2 dX1_primitive_60
  have L26 : ∀ (x2 : Nat) (x3 : Int32) (x4 : Nat) (x5 : Int32) (x6 : Int32) (T : XT) (K : XK) (cn sn : Nat) (H : Heap) (locs : List Loc) (ls : Array Slot), wx1_primitive_l26 p1 Z Y post x2 x3 x4 x5 x6 K T → kle K0 K → kc K0 + cn = kc K → ks K0 + sn = ks K → kc K ≤ Z → ks K ≤ Y → (kd K x2 = 1) → (kd K x4 = 4) → (kd K p1 = 4) → xW G b hole K T H → va_S (xA b hole) s.heap H locs → lv_has ls 8 [(0, .ref (b + 0)), (2, .ref (b + x2)), (3, .int x3), (4, .ref (b + x4)), (5, .int x5), (6, .int x6)] → W p l e (headSpec (ws_ yX1_primitive cX1_primitive 8 (some (.array .int))) ({ frames := 3, cells := (Z - kc K0), slots := (Y - ks K0), locals := 88 } : Room)).room s m ([.ref (b + 0), .ref (b + p1)] : List Value).toArray below meth c H locs cn sn (MQ below (xQ G b hole K0 (Z - kc K0) (Y - ks K0) (ρ := Nat) (eR b) (fun r T1 K1 => post r T1 K1 ∧ kd K1 r = 1)) ([.ref (b + 0), .ref (b + p1)] : List Value).toArray s (Z - kc K0) (Y - ks K0) (xA b hole)) (F0 m 26 ls []) := by
    intro x2 x3 x4 x5 x6 T K cn sn H locs ls h hle0 hcn hsn hzz hyy hk_x2 hk_x4 hk_p1 hP hS hl
    obtain ⟨I26, n26, hI, hstep26⟩ := h
    induction n26 using Nat.strongRecOn generalizing x6 T H locs ls with
    | ind n26 ih26 =>
      have h : wx1_primitive_b26 p1 Z Y post (fun x6 T => ∃ mm, mm < n26 ∧ I26 mm (x6, T)) x2 x3 x4 x5 x6 K T := hstep26 n26 _ hI
      clear hI
      unfold wx1_primitive_b26 at h
      refine lv_iload hx hb dX1_primitive_26 (lv_at hl 5 rfl) ?_
      refine lv_iload hx hb dX1_primitive_28 (lv_at hl 4 rfl) ?_
      refine lv_icmp_ge (tgt := 53) hx hb dX1_primitive_30 (by decide) (fun c_12 => ?_) (fun c_12 => ?_)
      · have h := h.1 c_12
        exact J53 _ _ _ _ _ _ _ _ _ h hle0 hcn hsn hzz hyy hk_x2 hk_p1 hP hS (lv_sub hl [0, 1, 2] rfl)
      · have h := h.2 c_12
        refine lv_aload hx hb dX1_primitive_33 (lv_at hl 3 rfl) ?_
        refine lv_iload hx hb dX1_primitive_35 (lv_at hl 5 rfl) ?_
        obtain ⟨j_6, hj_6, ej_6, v_7, ev_7, h⟩ := h
        refine x_aald4 hx hb hK hP hk_x4 ej_6 hj_6 dX1_primitive_37 ?_
        refine x_some ev_7 ?_
        have hk_v_7 : kd K v_7 = 1 := hP.ty hk_x4 (by decide) ev_7
        refine lv_astore (lv' := [(7, .ref (b + v_7)), (0, .ref (b + 0)), (2, .ref (b + x2)), (3, .int x3), (4, .ref (b + x4)), (5, .int x5), (6, .int x6)]) hx hb dX1_primitive_38 hl (by decide) rfl (fun ls hl => ?_)
        refine lv_aload_n hx hb dX1_primitive_40 rfl (lv_at hl 1 rfl) ?_
        refine lv_aload hx hb dX1_primitive_41 (lv_at hl 0 rfl) ?_
        refine lv_aload_n hx hb dX1_primitive_43 rfl (lv_at hl 2 rfl) ?_
        refine x_cV (k := 0) (As := [.ref (b + v_7), .ref (b + x2)]) (rest := []) ⟨hx, hb, hml, hown, hts⟩ (mx1_dividesBy l G b hole v_7 x2 K T hk_v_7 hk_x2 _ h) (cwV 2 hts (lw_V q1121 q1123 qs53 q118 q1124) rfl rfl rfl cwx_X1_dividesBy ⟨Nat.le_of_ble_eq_true rfl, Nat.le_of_ble_eq_true rfl⟩) (x_recv (CC := RX1) (ci := 0) hK hP (xs_0 hP) (by decide) (by decide) rfl (xE_8 (xs_0 hP))) hK hV hb0 hP hS rfl hl.1 rfl (Nat.le_of_ble_eq_true rfl) dX1_primitive_44 ⟨by first | exact Nat.zero_le _ | (show _ + _ ≤ Z - kc K0; omega), by first | exact Nat.zero_le _ | (show _ + _ ≤ Y - ks K0; omega)⟩ (fun r_8 T1 K1 H locs h hle1 hc1 hs1 hP hS => ?_)
        obtain ⟨h, hKe⟩ := h
        rw [hKe] at hP
        generalize T1 = T_9 at h hP
        obtain ⟨x6_11, ex6_11⟩ : ∃ y : Int32, y = x6 + 1 := ⟨_, rfl⟩
        have h := h x6_11 ex6_11
        refine lv_iinc (v := x6_11) (lv' := [(6, .int x6_11), (7, .ref (b + v_7)), (0, .ref (b + 0)), (2, .ref (b + x2)), (3, .int x3), (4, .ref (b + x4)), (5, .int x5)]) hx hb dX1_primitive_47 hl (k := 6) rfl (by rw [ex6_11]; rfl) (by decide) rfl (fun ls hl => ?_)
        refine lv_goto (tgt := 26) hx hb dX1_primitive_50 (by decide) ?_
        obtain ⟨mm, hmm, h⟩ := h
        exact ih26 mm hmm _ _ _ _ _  hP hS (lv_sub hl [2, 3, 4, 5, 6, 0] rfl) h
  have hcn : kc K0 + 0 = kc K0 := rfl
  have hsn : ks K0 + 0 = ks K0 := rfl
  have hzz := hZ
  have hyy := hY
  unfold wx1_primitive at h
  refine lv_aload_n hx hb dX1_primitive_0 rfl (lv_at hl 0 rfl) ?_
  refine lv_aload_n hx hb dX1_primitive_1 rfl (lv_at hl 1 rfl) ?_
  refine x_cV (k := 0) (As := [.ref (b + p1)]) (rest := []) ⟨hx, hb, hml, hown, hts⟩ (mx1_contentOf l G b hole p1 K0 T hk_p1 _ h) (cwV 1 hts (lw_V q1108 q1110 qs51 q118 q1111) rfl rfl rfl cwx_X1_contentOf ⟨Nat.le_of_ble_eq_true rfl, Nat.le_of_ble_eq_true rfl⟩) (x_recv (CC := RX1) (ci := 0) hK hP (xs_0 hP) (by decide) (by decide) rfl (xE_8 (xs_0 hP))) hK hV hb0 hP hS rfl hl.1 rfl (Nat.le_of_ble_eq_true rfl) dX1_primitive_2 ⟨by first | exact Nat.zero_le _ | (show _ + _ ≤ Z - kc K0; omega), by first | exact Nat.zero_le _ | (show _ + _ ≤ Y - ks K0; omega)⟩ (fun r_13 T1 K1 H locs h hle1 hc1 hs1 hP hS => ?_)
  obtain ⟨h, hk_r_13, hKe⟩ := h
  rw [hKe] at hP
  generalize T1 = T_14 at h hP
  rw [hKe] at hk_r_13
  refine lv_astore_n (lv' := [(2, .ref (b + r_13)), (0, .ref (b + 0)), (1, .ref (b + p1))]) hx hb dX1_primitive_5 rfl hl (by decide) rfl (fun ls hl => ?_)
  refine lv_aload_n hx hb dX1_primitive_6 rfl (lv_at hl 0 rfl) ?_
  refine x_cS (As := [.ref (b + r_13)]) (rest := []) ⟨hx, hb, hml, hown, hts⟩ (mx1_top l G b hole r_13 K0 T_14 hk_r_13 _ h) (va_cwS 1 hts (lw_S q1113 q1114 q118 q1115) rfl rfl rfl cwx_X1_top ⟨Nat.le_of_ble_eq_true rfl, Nat.le_of_ble_eq_true rfl⟩) hK hV hb0 hP hS rfl hl.1 rfl (Nat.le_of_ble_eq_true rfl) dX1_primitive_7 ⟨by first | exact Nat.zero_le _ | (show _ + _ ≤ Z - kc K0; omega), by first | exact Nat.zero_le _ | (show _ + _ ≤ Y - ks K0; omega)⟩ (fun r_16 T1 K1 H locs h hle1 hc1 hs1 hP hS => ?_)
  obtain ⟨h, hTe, hKe⟩ := h
  rw [hTe, hKe] at hP
  refine lv_istore_n (lv' := [(3, .int r_16), (2, .ref (b + r_13)), (0, .ref (b + 0)), (1, .ref (b + p1))]) hx hb dX1_primitive_10 rfl hl (by decide) rfl (fun ls hl => ?_)
  refine lv_iload_n hx hb dX1_primitive_11 rfl (lv_at hl 0 rfl) ?_
  refine lv_if_le (tgt := 53) hx hb dX1_primitive_12 (by decide) (fun c_20 => ?_) (fun c_20 => ?_)
  · have h := h.1 c_20
    exact J53 _ _ _ _ _ _ _ _ _ h hle0 hcn hsn hzz hyy hk_r_13 hk_p1 hP hS (lv_sub hl [2, 1, 0] rfl)
  · have h := h.2 c_20
    refine lv_aload_n hx hb dX1_primitive_15 rfl (lv_at hl 3 rfl) ?_
    refine lv_astore (lv' := [(4, .ref (b + p1)), (3, .int r_16), (2, .ref (b + r_13)), (0, .ref (b + 0)), (1, .ref (b + p1))]) hx hb dX1_primitive_16 hl (by decide) rfl (fun ls hl => ?_)
    refine lv_aload hx hb dX1_primitive_18 (lv_at hl 0 rfl) ?_
    refine x_alen4 hx hb hK hP hk_p1 dX1_primitive_20 ?_
    refine lv_topi (fun x5_19 ex5_19 => ?_)
    have h := h x5_19 ex5_19
    refine lv_istore (lv' := [(5, .int x5_19), (4, .ref (b + p1)), (3, .int r_16), (2, .ref (b + r_13)), (0, .ref (b + 0)), (1, .ref (b + p1))]) hx hb dX1_primitive_21 hl (by decide) rfl (fun ls hl => ?_)
    refine lv_iconst (v := 0) hx hb dX1_primitive_23 (by decide) ?_
    refine lv_istore (lv' := [(6, .int 0), (5, .int x5_19), (4, .ref (b + p1)), (3, .int r_16), (2, .ref (b + r_13)), (0, .ref (b + 0)), (1, .ref (b + p1))]) hx hb dX1_primitive_24 hl (by decide) rfl (fun ls hl => ?_)
    exact L26 _ _ _ _ _ _ _ _ _ _ _ _ h hle0 hcn hsn hzz hyy hk_r_13 hk_p1 hk_p1 hP hS (lv_sub hl [5, 4, 3, 2, 1, 0] rfl)
theorem cwx_X1_topRow : yX1_topRow.cls ≠ "java/lang/invoke/MethodHandle" ∧ yX1_topRow.cls ≠ "java/lang/invoke/VarHandle" ∧ (parseMethodDescriptor yX1_topRow.desc).map (fun d => d.parameters.length) = some 1 := by decide +kernel
def wx1_topRow_b5 (p1 : Nat) (post : Int32 → Prop) (R5 : Int32 → Prop)  (x1 : Int32) (K : XK) (T : XT) : Prop :=
      ((x1 < 0 →
        post x1) ∧
       (¬ (x1 < 0) →
        ∃ j_1 : Nat, j_1 < kl K p1 ∧ x1 = nI j_1 ∧ ∃ v_2 : Nat, xr T p1 j_1 = some v_2 ∧
        wx1_top v_2 K T (fun r_3 =>
        ((0 ≤ r_3 →
          post x1) ∧
         (¬ (0 ≤ r_3) →
          ∀ x1_6 : Int32, x1_6 = x1 + (-1) →
          R5 x1_6)))))
def wx1_topRow_l5 (p1 : Nat) (post : Int32 → Prop)  (x1 : Int32) (K : XK) (T : XT) : Prop := wLoop (fun (R : ((Int32)) → Prop) (v : (Int32)) => wx1_topRow_b5 p1 post (fun x1 => R x1)  v K T) x1
def wx1_topRow (p1 : Nat) (K : XK) (T : XT) (post : Int32 → Prop) : Prop :=
  ∀ x1_9 : Int32, x1_9 = ((nI (kl K p1)) - 1) →
  wx1_topRow_l5 p1 post x1_9 K T
set_option maxHeartbeats 4000000 in
theorem mx1_topRow (l : Launch) (G : XG) (b : Nat) (hole : Nat → Prop) (p1 : Nat) (K : XK) (T : XT) (hk_p1 : kd K p1 = 4) (post : Int32 → Prop) (h : wx1_topRow p1 K T post) : Met l yX1_topRow (ws_ yX1_topRow cX1_topRow 2 (some .int)) ({ frames := 1, cells := 0, slots := 0, locals := 21 } : Room) (xPc G b hole [.ref (b + p1)] K T) (xQ G b hole K 0 0 (ρ := Int32) eI (fun r T1 K1 => post r ∧ T1 = T ∧ K1 = K)) 0 0 (xA b hole) := by
  refine Met.ofW (cc := cX1_topRow) (maxL := 2) (ret := (some .int)) (by decide) rfl ?_
  intro p e s m args below meth c s₁ B hml hv
  obtain ⟨rfl, hP, hK, hV⟩ := hv
  have hx := B.exec
  have hb := B.bytes
  have hr := B.returns
  have hts := atoms_spec (ws := ws_ yX1_topRow cX1_topRow 2 (some .int)) B.pre
  have hts : ∀ w ∈ lw_all, w.before _ s = true := fun w h => hts w (List.mem_cons_of_mem _ h)
  have hown : s.vm.findClass RX1 = some m.cls := findClass_of_methodNamed B.named
  have hlocks := B.notSynchronized
  have hb0 : b ≤ s.heap.size := by rw [hP.2.2.2]; exact Nat.le_add_right _ _
  have hS : va_S (xA b hole) s.heap s.heap [] := va_S.rf
  have hl := lv_entry ([.ref (b + p1)]) (n := 2) (Nat.le_of_ble_eq_true rfl)
  rw [lg_entry_eq]
  generalize (lg_sl ([.ref (b + p1)]) ++ List.replicate (2 - (lg_sl ([.ref (b + p1)])).length) Slot.unset).toArray = ls at hl ⊢
  have hl : lv_has ls 2 [(0, .ref (b + p1))] := hl
  have L5 : ∀ (x1 : Int32) (H : Heap) (locs : List Loc) (ls : Array Slot), wx1_topRow_l5 p1 post  x1 K T → xW G b hole K T H → va_S (xA b hole) s.heap H locs → lv_has ls 2 [(0, .ref (b + p1)), (1, .int x1)] → W p l e (headSpec (ws_ yX1_topRow cX1_topRow 2 (some .int)) ({ frames := 1, cells := 0, slots := 0, locals := 21 } : Room)).room s m ([.ref (b + p1)] : List Value).toArray below meth c H locs 0 0 (MQ below (xQ G b hole K 0 0 (ρ := Int32) eI (fun r T1 K1 => post r ∧ T1 = T ∧ K1 = K)) ([.ref (b + p1)] : List Value).toArray s 0 0 (xA b hole)) (F0 m 5 ls []) := by
    intro x1 H locs ls h hP hS hl
    obtain ⟨I5, n5, hI, hstep5⟩ := h
    induction n5 using Nat.strongRecOn generalizing x1 H locs ls with
    | ind n5 ih5 =>
      have h : wx1_topRow_b5 p1 post (fun x1 => ∃ mm, mm < n5 ∧ I5 mm x1)  x1 K T := hstep5 n5 _ hI
      clear hI
      unfold wx1_topRow_b5 at h
      refine lv_iload_n hx hb dX1_topRow_5 rfl (lv_at hl 1 rfl) ?_
      refine lv_if_lt (tgt := 24) hx hb dX1_topRow_6 (by decide) (fun c_8 => ?_) (fun c_8 => ?_)
      · have h := h.1 c_8
        refine lv_iload_n hx hb dX1_topRow_24 rfl (lv_at hl 1 rfl) ?_
        exact W.iret (v := x1) hx hb hr (fun t ht hW => ⟨⟨x1, T, K, rfl, ⟨h, rfl, rfl⟩, kle.rf, rfl, rfl, by rw [ht]; exact hP, va_K.moved hW.alike hK⟩, hS.F ht⟩) hS.2.2 dX1_topRow_25
      · have h := h.2 c_8
        refine lv_aload_n hx hb dX1_topRow_9 rfl (lv_at hl 0 rfl) ?_
        refine lv_iload_n hx hb dX1_topRow_10 rfl (lv_at hl 1 rfl) ?_
        obtain ⟨j_1, hj_1, ej_1, v_2, ev_2, h⟩ := h
        refine x_aald4 hx hb hK hP hk_p1 ej_1 hj_1 dX1_topRow_11 ?_
        refine x_some ev_2 ?_
        have hk_v_2 : kd K v_2 = 1 := hP.ty hk_p1 (by decide) ev_2
        refine x_cS (As := [.ref (b + v_2)]) (rest := []) ⟨hx, hb, hml, hown, hts⟩ (mx1_top l G b hole v_2 K T hk_v_2 _ h) (va_cwS 1 hts (lw_S q1113 q1114 q118 q1115) rfl rfl rfl cwx_X1_top ⟨Nat.le_of_ble_eq_true rfl, Nat.le_of_ble_eq_true rfl⟩) hK hV hb0 hP hS rfl hl.1 rfl (Nat.le_of_ble_eq_true rfl) dX1_topRow_12 ⟨by first | exact Nat.zero_le _ | (show _ + _ ≤ Z - kc K0; omega), by first | exact Nat.zero_le _ | (show _ + _ ≤ Y - ks K0; omega)⟩ (fun r_3 T1 K1 H locs h hle1 hc1 hs1 hP hS => ?_)
        obtain ⟨h, hTe, hKe⟩ := h
        rw [hTe, hKe] at hP
        refine lv_if_ge (tgt := 24) hx hb dX1_topRow_15 (by decide) (fun c_7 => ?_) (fun c_7 => ?_)
        · have h := h.1 c_7
          refine lv_iload_n hx hb dX1_topRow_24 rfl (lv_at hl 1 rfl) ?_
          exact W.iret (v := x1) hx hb hr (fun t ht hW => ⟨⟨x1, T, K, rfl, ⟨h, rfl, rfl⟩, kle.rf, rfl, rfl, by rw [ht]; exact hP, va_K.moved hW.alike hK⟩, hS.F ht⟩) hS.2.2 dX1_topRow_25
        · have h := h.2 c_7
          obtain ⟨x1_6, ex1_6⟩ : ∃ y : Int32, y = x1 + (-1) := ⟨_, rfl⟩
          have h := h x1_6 ex1_6
          refine lv_iinc (v := x1_6) (lv' := [(1, .int x1_6), (0, .ref (b + p1))]) hx hb dX1_topRow_18 hl (k := 1) rfl (by rw [ex1_6]; rfl) (by decide) rfl (fun ls hl => ?_)
          refine lv_goto (tgt := 5) hx hb dX1_topRow_21 (by decide) ?_
          obtain ⟨mm, hmm, h⟩ := h
          exact ih5 mm hmm _ _ _ _  hP hS (lv_sub hl [1, 0] rfl) h
  unfold wx1_topRow at h
  refine lv_aload_n hx hb dX1_topRow_0 rfl (lv_at hl 0 rfl) ?_
  refine x_alen4 hx hb hK hP hk_p1 dX1_topRow_1 ?_
  refine lv_iconst (v := 1) hx hb dX1_topRow_2 (by decide) ?_
  refine lv_isub hx hb dX1_topRow_3 ?_
  refine lv_topi (fun x1_9 ex1_9 => ?_)
  have h := h x1_9 ex1_9
  refine lv_istore_n (lv' := [(1, .int x1_9), (0, .ref (b + p1))]) hx hb dX1_topRow_4 rfl hl (by decide) rfl (fun ls hl => ?_)
  exact L5 _ _ _ _ h  hP hS (lv_sub hl [1, 0] rfl)
theorem cwx_X1_mixes : yX1_mixes.cls = RX1 ∧ yX1_mixes.cls ≠ "java/lang/invoke/MethodHandle" ∧ yX1_mixes.cls ≠ "java/lang/invoke/VarHandle" ∧ (parseMethodDescriptor yX1_mixes.desc).map (fun d => d.parameters.length) = some 4 := by decide +kernel
def wx1_mixes_b113 (p1 : Nat) (p2 : Nat) (p3 : Nat) (p4 : Nat) (post : XT → Prop) (R103 : Int32 → XT → Prop) (R113 : Int32 → XT → Prop) (x7 : Int32) (x8 : Int32) (x9 : Int32) (x10 : Int32) (K : XK) (T : XT) : Prop :=
          ((x8 < x10 →
            ∀ x9_1 : Int32, x9_1 = x9 + 1 →
            R103 x9_1 T) ∧
           (¬ (x8 < x10) →
            ∃ j_2 : Nat, j_2 < 2304 ∧ (x9 + x10) = nI j_2 ∧
            ∃ j_3 : Nat, j_3 < kl K p3 ∧ x9 = nI j_3 ∧
            ∃ j_4 : Nat, j_4 < kl K p4 ∧ x10 = nI j_4 ∧
            wx1_reduced ((xi T 77 j_2) - ((xi T p3 j_3) * (xi T p4 j_4))) K T (fun r_5 =>
            ∃ j_8 : Nat, j_8 < 2304 ∧ (x9 + x10) = nI j_8 ∧ ∀ T_9 : XT, T_9 = xwi T 77 j_8 r_5 →
            ∀ x10_10 : Int32, x10_10 = x10 + 1 →
            R113 x10_10 T_9)))
def wx1_mixes_l113 (p1 : Nat) (p2 : Nat) (p3 : Nat) (p4 : Nat) (post : XT → Prop) (R103 : Int32 → XT → Prop) (x7 : Int32) (x8 : Int32) (x9 : Int32) (x10 : Int32) (K : XK) (T : XT) : Prop := wLoop (fun (R : ((Int32) × (XT)) → Prop) (v : (Int32) × (XT)) => wx1_mixes_b113 p1 p2 p3 p4 post R103 (fun x10 T => R (x10, T)) x7 x8 x9 v.1 K v.2) (x10, T)
def wx1_mixes_b103 (p1 : Nat) (p2 : Nat) (p3 : Nat) (p4 : Nat) (post : XT → Prop) (R103 : Int32 → XT → Prop) (x7 : Int32) (x8 : Int32) (x9 : Int32) (K : XK) (T : XT) : Prop :=
      ((x7 < x9 →
        ∃ sp_12 dp_13 n_14 : Nat, 0 = nI sp_12 ∧ 0 = nI dp_13 ∧ 2304 = nI n_14 ∧ sp_12 + n_14 ≤ 2304 ∧ dp_13 + n_14 ≤ kl K p1 ∧ ∀ T_15 : XT, T_15 = xcpy T 77 p1 sp_12 dp_13 n_14 →
        post T_15) ∧
       (¬ (x7 < x9) →
        wx1_mixes_l113 p1 p2 p3 p4 post R103 x7 x8 x9 0 K T))
def wx1_mixes_l103 (p1 : Nat) (p2 : Nat) (p3 : Nat) (p4 : Nat) (post : XT → Prop) (x7 : Int32) (x8 : Int32) (x9 : Int32) (K : XK) (T : XT) : Prop := wLoop (fun (R : ((Int32) × (XT)) → Prop) (v : (Int32) × (XT)) => wx1_mixes_b103 p1 p2 p3 p4 post (fun x9 T => R (x9, T)) x7 x8 v.1 K v.2) (x9, T)
def wx1_mixes_b46 (p1 : Nat) (p2 : Nat) (p3 : Nat) (p4 : Nat) (post : XT → Prop) (R36 : Int32 → XT → Prop) (R46 : Int32 → XT → Prop) (x5 : Int32) (x6 : Int32) (x7 : Int32) (x8 : Int32) (x9 : Int32) (x10 : Int32) (K : XK) (T : XT) : Prop :=
          ((x6 < x10 →
            ∀ x9_17 : Int32, x9_17 = x9 + 1 →
            R36 x9_17 T) ∧
           (¬ (x6 < x10) →
            ∃ j_18 : Nat, j_18 < 2304 ∧ (x9 + x10) = nI j_18 ∧
            ∃ j_19 : Nat, j_19 < kl K p1 ∧ x9 = nI j_19 ∧
            ∃ j_20 : Nat, j_20 < kl K p2 ∧ x10 = nI j_20 ∧
            ¬ (xi T 0 0) = 0 ∧
            ∃ j_21 : Nat, j_21 < 2304 ∧ (x9 + x10) = nI j_21 ∧ ∀ T_22 : XT, T_22 = xwi T 77 j_21 (jrem ((xi T 77 j_18) + ((xi T p1 j_19) * (xi T p2 j_20))) (xi T 0 0)) →
            ∀ x10_23 : Int32, x10_23 = x10 + 1 →
            R46 x10_23 T_22))
def wx1_mixes_l46 (p1 : Nat) (p2 : Nat) (p3 : Nat) (p4 : Nat) (post : XT → Prop) (R36 : Int32 → XT → Prop) (x5 : Int32) (x6 : Int32) (x7 : Int32) (x8 : Int32) (x9 : Int32) (x10 : Int32) (K : XK) (T : XT) : Prop := wLoop (fun (R : ((Int32) × (XT)) → Prop) (v : (Int32) × (XT)) => wx1_mixes_b46 p1 p2 p3 p4 post R36 (fun x10 T => R (x10, T)) x5 x6 x7 x8 x9 v.1 K v.2) (x10, T)
def wx1_mixes_b36 (p1 : Nat) (p2 : Nat) (p3 : Nat) (p4 : Nat) (post : XT → Prop) (R36 : Int32 → XT → Prop) (x5 : Int32) (x6 : Int32) (x7 : Int32) (x8 : Int32) (x9 : Int32) (K : XK) (T : XT) : Prop :=
      ((x5 < x9 →
        wx1_mixes_l103 p1 p2 p3 p4 post x7 x8 0 K T) ∧
       (¬ (x5 < x9) →
        wx1_mixes_l46 p1 p2 p3 p4 post R36 x5 x6 x7 x8 x9 0 K T))
def wx1_mixes_l36 (p1 : Nat) (p2 : Nat) (p3 : Nat) (p4 : Nat) (post : XT → Prop) (x5 : Int32) (x6 : Int32) (x7 : Int32) (x8 : Int32) (x9 : Int32) (K : XK) (T : XT) : Prop := wLoop (fun (R : ((Int32) × (XT)) → Prop) (v : (Int32) × (XT)) => wx1_mixes_b36 p1 p2 p3 p4 post (fun x9 T => R (x9, T)) x5 x6 x7 x8 v.1 K v.2) (x9, T)
def wx1_mixes (p1 : Nat) (p2 : Nat) (p3 : Nat) (p4 : Nat) (K : XK) (T : XT) (post : XT → Prop) : Prop :=
  wx1_top p1 K T (fun r_26 =>
  wx1_top p2 K T (fun r_29 =>
  wx1_top p3 K T (fun r_32 =>
  wx1_top p4 K T (fun r_35 =>
  wxJ3_fill_2 77 0 K T (fun T_39 =>
  wx1_mixes_l36 p1 p2 p3 p4 post r_26 r_29 r_32 r_35 0 K T_39)))))
set_option maxHeartbeats 4000000 in
theorem mx1_mixes (l : Launch) (G : XG) (b : Nat) (hole : Nat → Prop) (p1 : Nat) (p2 : Nat) (p3 : Nat) (p4 : Nat) (K : XK) (T : XT) (hk_p1 : kd K p1 = 1) (hk_p2 : kd K p2 = 1) (hk_p3 : kd K p3 = 1) (hk_p4 : kd K p4 = 1) (post : XT → Prop) (h : wx1_mixes p1 p2 p3 p4 K T post) : Met l yX1_mixes (ws_ yX1_mixes cX1_mixes 11 none) ({ frames := 1, cells := 0, slots := 0, locals := 60 } : Room) (xPc G b hole [.ref (b + 0), .ref (b + p1), .ref (b + p2), .ref (b + p3), .ref (b + p4)] K T) (xQ G b hole K 0 0 (ρ := Unit) eV (fun r T1 K1 => post T1 ∧ K1 = K)) 0 0 (xA b hole) := by
  refine Met.ofW (cc := cX1_mixes) (maxL := 11) (ret := none) (by decide) rfl ?_
  intro p e s m args below meth c s₁ B hml hv
  obtain ⟨rfl, hP, hK, hV⟩ := hv
  have hx := B.exec
  have hb := B.bytes
  have hr := B.returns
  have hts := atoms_spec (ws := ws_ yX1_mixes cX1_mixes 11 none) B.pre
  have hts : ∀ w ∈ lw_all, w.before _ s = true := fun w h => hts w (List.mem_cons_of_mem _ h)
  have hown : s.vm.findClass RX1 = some m.cls := findClass_of_methodNamed B.named
  have hlocks := B.notSynchronized
  have hb0 : b ≤ s.heap.size := by rw [hP.2.2.2]; exact Nat.le_add_right _ _
  have hS : va_S (xA b hole) s.heap s.heap [] := va_S.rf
  have hl := lv_entry ([.ref (b + 0), .ref (b + p1), .ref (b + p2), .ref (b + p3), .ref (b + p4)]) (n := 11) (Nat.le_of_ble_eq_true rfl)
  rw [lg_entry_eq]
  generalize (lg_sl ([.ref (b + 0), .ref (b + p1), .ref (b + p2), .ref (b + p3), .ref (b + p4)]) ++ List.replicate (11 - (lg_sl ([.ref (b + 0), .ref (b + p1), .ref (b + p2), .ref (b + p3), .ref (b + p4)])).length) Slot.unset).toArray = ls at hl ⊢
  have hl : lv_has ls 11 [(0, .ref (b + 0)), (1, .ref (b + p1)), (2, .ref (b + p2)), (3, .ref (b + p3)), (4, .ref (b + p4))] := hl
  have L103 : ∀ (x7 : Int32) (x8 : Int32) (x9 : Int32) (T : XT) (H : Heap) (locs : List Loc) (ls : Array Slot), wx1_mixes_l103 p1 p2 p3 p4 post x7 x8 x9 K T → xW G b hole K T H → va_S (xA b hole) s.heap H locs → lv_has ls 11 [(0, .ref (b + 0)), (1, .ref (b + p1)), (3, .ref (b + p3)), (4, .ref (b + p4)), (7, .int x7), (8, .int x8), (9, .int x9)] → W p l e (headSpec (ws_ yX1_mixes cX1_mixes 11 none) ({ frames := 1, cells := 0, slots := 0, locals := 60 } : Room)).room s m ([.ref (b + 0), .ref (b + p1), .ref (b + p2), .ref (b + p3), .ref (b + p4)] : List Value).toArray below meth c H locs 0 0 (MQ below (xQ G b hole K 0 0 (ρ := Unit) eV (fun r T1 K1 => post T1 ∧ K1 = K)) ([.ref (b + 0), .ref (b + p1), .ref (b + p2), .ref (b + p3), .ref (b + p4)] : List Value).toArray s 0 0 (xA b hole)) (F0 m 103 ls []) := by
    intro x7 x8 x9 T H locs ls h hP hS hl
    obtain ⟨I103, n103, hI, hstep103⟩ := h
    induction n103 using Nat.strongRecOn generalizing x9 T H locs ls with
    | ind n103 ih103 =>
      have h : wx1_mixes_b103 p1 p2 p3 p4 post (fun x9 T => ∃ mm, mm < n103 ∧ I103 mm (x9, T)) x7 x8 x9 K T := hstep103 n103 _ hI
      clear hI
      have L113 : ∀ (x9 : Int32) (x10 : Int32) (T : XT) (H : Heap) (locs : List Loc) (ls : Array Slot), wx1_mixes_l113 p1 p2 p3 p4 post (fun x9 T => ∃ mm, mm < n103 ∧ I103 mm (x9, T)) x7 x8 x9 x10 K T → xW G b hole K T H → va_S (xA b hole) s.heap H locs → lv_has ls 11 [(0, .ref (b + 0)), (1, .ref (b + p1)), (3, .ref (b + p3)), (4, .ref (b + p4)), (7, .int x7), (8, .int x8), (9, .int x9), (10, .int x10)] → W p l e (headSpec (ws_ yX1_mixes cX1_mixes 11 none) ({ frames := 1, cells := 0, slots := 0, locals := 60 } : Room)).room s m ([.ref (b + 0), .ref (b + p1), .ref (b + p2), .ref (b + p3), .ref (b + p4)] : List Value).toArray below meth c H locs 0 0 (MQ below (xQ G b hole K 0 0 (ρ := Unit) eV (fun r T1 K1 => post T1 ∧ K1 = K)) ([.ref (b + 0), .ref (b + p1), .ref (b + p2), .ref (b + p3), .ref (b + p4)] : List Value).toArray s 0 0 (xA b hole)) (F0 m 113 ls []) := by
        intro x9 x10 T H locs ls h hP hS hl
        obtain ⟨I113, n113, hI, hstep113⟩ := h
        induction n113 using Nat.strongRecOn generalizing x10 T H locs ls with
        | ind n113 ih113 =>
          have h : wx1_mixes_b113 p1 p2 p3 p4 post (fun x9 T => ∃ mm, mm < n103 ∧ I103 mm (x9, T)) (fun x10 T => ∃ mm, mm < n113 ∧ I113 mm (x10, T)) x7 x8 x9 x10 K T := hstep113 n113 _ hI
          clear hI
          unfold wx1_mixes_b113 at h
          refine lv_iload hx hb dX1_mixes_113 (lv_at hl 7 rfl) ?_
          refine lv_iload hx hb dX1_mixes_115 (lv_at hl 5 rfl) ?_
          refine lv_icmp_gt (tgt := 161) hx hb dX1_mixes_117 (by decide) (fun c_11 => ?_) (fun c_11 => ?_)
          · have h := h.1 c_11
            obtain ⟨x9_1, ex9_1⟩ : ∃ y : Int32, y = x9 + 1 := ⟨_, rfl⟩
            have h := h x9_1 ex9_1
            refine lv_iinc (v := x9_1) (lv' := [(9, .int x9_1), (0, .ref (b + 0)), (1, .ref (b + p1)), (3, .ref (b + p3)), (4, .ref (b + p4)), (7, .int x7), (8, .int x8), (10, .int x10)]) hx hb dX1_mixes_161 hl (k := 6) rfl (by rw [ex9_1]; rfl) (by decide) rfl (fun ls hl => ?_)
            refine lv_goto (tgt := 103) hx hb dX1_mixes_164 (by decide) ?_
            obtain ⟨mm, hmm, h⟩ := h
            exact ih103 mm hmm _ _ _ _ _  hP hS (lv_sub hl [1, 2, 3, 4, 5, 6, 0] rfl) h
          · have h := h.2 c_11
            refine lv_aload_n hx hb dX1_mixes_120 rfl (lv_at hl 0 rfl) ?_
            refine x_get (CC := RX1) (TT := TX1) (N := 26) (ci := 0) (v := .ref (b + 77)) hx hb hts in_X1 hown hK hP (xs_0 hP) (by decide) (by decide) rfl (xE_8 (xs_0 hP)) 13 (by decide) q398 rfl rfl dX1_mixes_121 ?_
            refine lv_iload hx hb dX1_mixes_124 (lv_at hl 6 rfl) ?_
            refine lv_iload hx hb dX1_mixes_126 (lv_at hl 7 rfl) ?_
            refine lv_iadd hx hb dX1_mixes_128 ?_
            refine lv_aload_n hx hb dX1_mixes_129 rfl (lv_at hl 0 rfl) ?_
            refine lv_aload_n hx hb dX1_mixes_130 rfl (lv_at hl 0 rfl) ?_
            refine x_get (CC := RX1) (TT := TX1) (N := 26) (ci := 0) (v := .ref (b + 77)) hx hb hts in_X1 hown hK hP (xs_0 hP) (by decide) (by decide) rfl (xE_8 (xs_0 hP)) 13 (by decide) q398 rfl rfl dX1_mixes_131 ?_
            refine lv_iload hx hb dX1_mixes_134 (lv_at hl 6 rfl) ?_
            refine lv_iload hx hb dX1_mixes_136 (lv_at hl 7 rfl) ?_
            refine lv_iadd hx hb dX1_mixes_138 ?_
            obtain ⟨j_2, hj_2, ej_2, h⟩ := h
            refine x_iald hx hb hK hP (xs_77 hP) ej_2 (by rw [xl_77 hP]; exact hj_2) dX1_mixes_139 ?_
            refine lv_aload_n hx hb dX1_mixes_140 rfl (lv_at hl 2 rfl) ?_
            refine lv_iload hx hb dX1_mixes_141 (lv_at hl 6 rfl) ?_
            obtain ⟨j_3, hj_3, ej_3, h⟩ := h
            refine x_iald hx hb hK hP hk_p3 ej_3 hj_3 dX1_mixes_143 ?_
            refine lv_aload hx hb dX1_mixes_144 (lv_at hl 3 rfl) ?_
            refine lv_iload hx hb dX1_mixes_146 (lv_at hl 7 rfl) ?_
            obtain ⟨j_4, hj_4, ej_4, h⟩ := h
            refine x_iald hx hb hK hP hk_p4 ej_4 hj_4 dX1_mixes_148 ?_
            refine lv_imul hx hb dX1_mixes_149 ?_
            refine lv_isub hx hb dX1_mixes_150 ?_
            refine x_cV (k := 0) (As := [.int ((xi T 77 j_2) - ((xi T p3 j_3) * (xi T p4 j_4)))]) (rest := [.int (x9 + x10), .ref (b + 77)]) ⟨hx, hb, hml, hown, hts⟩ (mx1_reduced l G b hole ((xi T 77 j_2) - ((xi T p3 j_3) * (xi T p4 j_4))) K T  _ h) (cwV 1 hts (lw_V q1120 q746 qs22 q118 q747) rfl rfl rfl cwx_X1_reduced ⟨Nat.le_of_ble_eq_true rfl, Nat.le_of_ble_eq_true rfl⟩) (x_recv (CC := RX1) (ci := 0) hK hP (xs_0 hP) (by decide) (by decide) rfl (xE_8 (xs_0 hP))) hK hV hb0 hP hS rfl hl.1 rfl (Nat.le_of_ble_eq_true rfl) dX1_mixes_151 ⟨by first | exact Nat.zero_le _ | (show _ + _ ≤ Z - kc K0; omega), by first | exact Nat.zero_le _ | (show _ + _ ≤ Y - ks K0; omega)⟩ (fun r_5 T1 K1 H locs h hle1 hc1 hs1 hP hS => ?_)
            obtain ⟨h, hTe, hKe⟩ := h
            rw [hTe, hKe] at hP
            obtain ⟨j_8, hj_8, ej_8, h⟩ := h
            obtain ⟨T_9, eT_9⟩ : ∃ z : XT, z = xwi T 77 j_8 r_5 := ⟨_, rfl⟩
            have h := h T_9 eT_9
            refine x_iast hx hb hK hP hS (xs_77 hP) ej_8 (by rw [xl_77 hP]; exact hj_8) dX1_mixes_154 (fun H locs hP hS => ?_)
            rw [← eT_9] at hP
            obtain ⟨x10_10, ex10_10⟩ : ∃ y : Int32, y = x10 + 1 := ⟨_, rfl⟩
            have h := h x10_10 ex10_10
            refine lv_iinc (v := x10_10) (lv' := [(10, .int x10_10), (0, .ref (b + 0)), (1, .ref (b + p1)), (3, .ref (b + p3)), (4, .ref (b + p4)), (7, .int x7), (8, .int x8), (9, .int x9)]) hx hb dX1_mixes_155 hl (k := 7) rfl (by rw [ex10_10]; rfl) (by decide) rfl (fun ls hl => ?_)
            refine lv_goto (tgt := 113) hx hb dX1_mixes_158 (by decide) ?_
            obtain ⟨mm, hmm, h⟩ := h
            exact ih113 mm hmm _ _ _ _ _  hP hS (lv_sub hl [1, 2, 3, 4, 5, 6, 7, 0] rfl) h
      unfold wx1_mixes_b103 at h
      refine lv_iload hx hb dX1_mixes_103 (lv_at hl 6 rfl) ?_
      refine lv_iload hx hb dX1_mixes_105 (lv_at hl 4 rfl) ?_
      refine lv_icmp_gt (tgt := 167) hx hb dX1_mixes_107 (by decide) (fun c_16 => ?_) (fun c_16 => ?_)
      · have h := h.1 c_16
        refine lv_aload_n hx hb dX1_mixes_167 rfl (lv_at hl 0 rfl) ?_
        refine x_get (CC := RX1) (TT := TX1) (N := 26) (ci := 0) (v := .ref (b + 77)) hx hb hts in_X1 hown hK hP (xs_0 hP) (by decide) (by decide) rfl (xE_8 (xs_0 hP)) 13 (by decide) q398 rfl rfl dX1_mixes_168 ?_
        refine lv_iconst (v := 0) hx hb dX1_mixes_171 (by decide) ?_
        refine lv_aload_n hx hb dX1_mixes_172 rfl (lv_at hl 1 rfl) ?_
        refine lv_iconst (v := 0) hx hb dX1_mixes_173 (by decide) ?_
        refine lv_sipush (v := 2304) hx hb dX1_mixes_174 (by decide) ?_
        obtain ⟨sp_12, dp_13, n_14, ea1, ea2, ea3, ea4, ea5, h⟩ := h
        obtain ⟨T_15, eT_15⟩ : ∃ z : XT, z = xcpy T 77 p1 sp_12 dp_13 n_14 := ⟨_, rfl⟩
        have h := h T_15 eT_15
        refine x_copyi hx hb (hml.trans hl.1.symm) hown hts q1112 q929 q928 q136 hK hP hS (xs_77 hP) hk_p1 ea1 ea2 ea3 (by rw [xl_77 hP]; exact ea4) ea5 (Nat.le_of_ble_eq_true rfl) (Nat.le_of_ble_eq_true rfl) dX1_mixes_177 (fun H locs hP hS => ?_)
        rw [← eT_15] at hP
        exact W.vret hx hb hr (fun t ht hW => ⟨⟨(), T_15, K, rfl, ⟨h, rfl⟩, kle.rf, rfl, rfl, by rw [ht]; exact hP, va_K.moved hW.alike hK⟩, hS.F ht⟩) hS.2.2 dX1_mixes_180
      · have h := h.2 c_16
        refine lv_iconst (v := 0) hx hb dX1_mixes_110 (by decide) ?_
        refine lv_istore (lv' := [(10, .int 0), (0, .ref (b + 0)), (1, .ref (b + p1)), (3, .ref (b + p3)), (4, .ref (b + p4)), (7, .int x7), (8, .int x8), (9, .int x9)]) hx hb dX1_mixes_111 hl (by decide) rfl (fun ls hl => ?_)
        exact L113 _ _ _ _ _ _ h  hP hS (lv_sub hl [1, 2, 3, 4, 5, 6, 7, 0] rfl)
  have L36 : ∀ (x5 : Int32) (x6 : Int32) (x7 : Int32) (x8 : Int32) (x9 : Int32) (T : XT) (H : Heap) (locs : List Loc) (ls : Array Slot), wx1_mixes_l36 p1 p2 p3 p4 post x5 x6 x7 x8 x9 K T → xW G b hole K T H → va_S (xA b hole) s.heap H locs → lv_has ls 11 [(0, .ref (b + 0)), (1, .ref (b + p1)), (2, .ref (b + p2)), (3, .ref (b + p3)), (4, .ref (b + p4)), (5, .int x5), (6, .int x6), (7, .int x7), (8, .int x8), (9, .int x9)] → W p l e (headSpec (ws_ yX1_mixes cX1_mixes 11 none) ({ frames := 1, cells := 0, slots := 0, locals := 60 } : Room)).room s m ([.ref (b + 0), .ref (b + p1), .ref (b + p2), .ref (b + p3), .ref (b + p4)] : List Value).toArray below meth c H locs 0 0 (MQ below (xQ G b hole K 0 0 (ρ := Unit) eV (fun r T1 K1 => post T1 ∧ K1 = K)) ([.ref (b + 0), .ref (b + p1), .ref (b + p2), .ref (b + p3), .ref (b + p4)] : List Value).toArray s 0 0 (xA b hole)) (F0 m 36 ls []) := by
    intro x5 x6 x7 x8 x9 T H locs ls h hP hS hl
    obtain ⟨I36, n36, hI, hstep36⟩ := h
    induction n36 using Nat.strongRecOn generalizing x9 T H locs ls with
    | ind n36 ih36 =>
      have h : wx1_mixes_b36 p1 p2 p3 p4 post (fun x9 T => ∃ mm, mm < n36 ∧ I36 mm (x9, T)) x5 x6 x7 x8 x9 K T := hstep36 n36 _ hI
      clear hI
      have L46 : ∀ (x9 : Int32) (x10 : Int32) (T : XT) (H : Heap) (locs : List Loc) (ls : Array Slot), wx1_mixes_l46 p1 p2 p3 p4 post (fun x9 T => ∃ mm, mm < n36 ∧ I36 mm (x9, T)) x5 x6 x7 x8 x9 x10 K T → xW G b hole K T H → va_S (xA b hole) s.heap H locs → lv_has ls 11 [(0, .ref (b + 0)), (1, .ref (b + p1)), (2, .ref (b + p2)), (3, .ref (b + p3)), (4, .ref (b + p4)), (5, .int x5), (6, .int x6), (7, .int x7), (8, .int x8), (9, .int x9), (10, .int x10)] → W p l e (headSpec (ws_ yX1_mixes cX1_mixes 11 none) ({ frames := 1, cells := 0, slots := 0, locals := 60 } : Room)).room s m ([.ref (b + 0), .ref (b + p1), .ref (b + p2), .ref (b + p3), .ref (b + p4)] : List Value).toArray below meth c H locs 0 0 (MQ below (xQ G b hole K 0 0 (ρ := Unit) eV (fun r T1 K1 => post T1 ∧ K1 = K)) ([.ref (b + 0), .ref (b + p1), .ref (b + p2), .ref (b + p3), .ref (b + p4)] : List Value).toArray s 0 0 (xA b hole)) (F0 m 46 ls []) := by
        intro x9 x10 T H locs ls h hP hS hl
        obtain ⟨I46, n46, hI, hstep46⟩ := h
        induction n46 using Nat.strongRecOn generalizing x10 T H locs ls with
        | ind n46 ih46 =>
          have h : wx1_mixes_b46 p1 p2 p3 p4 post (fun x9 T => ∃ mm, mm < n36 ∧ I36 mm (x9, T)) (fun x10 T => ∃ mm, mm < n46 ∧ I46 mm (x10, T)) x5 x6 x7 x8 x9 x10 K T := hstep46 n46 _ hI
          clear hI
          unfold wx1_mixes_b46 at h
          refine lv_iload hx hb dX1_mixes_46 (lv_at hl 10 rfl) ?_
          refine lv_iload hx hb dX1_mixes_48 (lv_at hl 6 rfl) ?_
          refine lv_icmp_gt (tgt := 94) hx hb dX1_mixes_50 (by decide) (fun c_24 => ?_) (fun c_24 => ?_)
          · have h := h.1 c_24
            obtain ⟨x9_17, ex9_17⟩ : ∃ y : Int32, y = x9 + 1 := ⟨_, rfl⟩
            have h := h x9_17 ex9_17
            refine lv_iinc (v := x9_17) (lv' := [(9, .int x9_17), (0, .ref (b + 0)), (1, .ref (b + p1)), (2, .ref (b + p2)), (3, .ref (b + p3)), (4, .ref (b + p4)), (5, .int x5), (6, .int x6), (7, .int x7), (8, .int x8), (10, .int x10)]) hx hb dX1_mixes_94 hl (k := 9) rfl (by rw [ex9_17]; rfl) (by decide) rfl (fun ls hl => ?_)
            refine lv_goto (tgt := 36) hx hb dX1_mixes_97 (by decide) ?_
            obtain ⟨mm, hmm, h⟩ := h
            exact ih36 mm hmm _ _ _ _ _  hP hS (lv_sub hl [1, 2, 3, 4, 5, 6, 7, 8, 9, 0] rfl) h
          · have h := h.2 c_24
            refine lv_aload_n hx hb dX1_mixes_53 rfl (lv_at hl 0 rfl) ?_
            refine x_get (CC := RX1) (TT := TX1) (N := 26) (ci := 0) (v := .ref (b + 77)) hx hb hts in_X1 hown hK hP (xs_0 hP) (by decide) (by decide) rfl (xE_8 (xs_0 hP)) 13 (by decide) q398 rfl rfl dX1_mixes_54 ?_
            refine lv_iload hx hb dX1_mixes_57 (lv_at hl 9 rfl) ?_
            refine lv_iload hx hb dX1_mixes_59 (lv_at hl 10 rfl) ?_
            refine lv_iadd hx hb dX1_mixes_61 ?_
            refine lv_aload_n hx hb dX1_mixes_62 rfl (lv_at hl 0 rfl) ?_
            refine x_get (CC := RX1) (TT := TX1) (N := 26) (ci := 0) (v := .ref (b + 77)) hx hb hts in_X1 hown hK hP (xs_0 hP) (by decide) (by decide) rfl (xE_8 (xs_0 hP)) 13 (by decide) q398 rfl rfl dX1_mixes_63 ?_
            refine lv_iload hx hb dX1_mixes_66 (lv_at hl 9 rfl) ?_
            refine lv_iload hx hb dX1_mixes_68 (lv_at hl 10 rfl) ?_
            refine lv_iadd hx hb dX1_mixes_70 ?_
            obtain ⟨j_18, hj_18, ej_18, h⟩ := h
            refine x_iald hx hb hK hP (xs_77 hP) ej_18 (by rw [xl_77 hP]; exact hj_18) dX1_mixes_71 ?_
            refine lv_aload_n hx hb dX1_mixes_72 rfl (lv_at hl 1 rfl) ?_
            refine lv_iload hx hb dX1_mixes_73 (lv_at hl 9 rfl) ?_
            obtain ⟨j_19, hj_19, ej_19, h⟩ := h
            refine x_iald hx hb hK hP hk_p1 ej_19 hj_19 dX1_mixes_75 ?_
            refine lv_aload_n hx hb dX1_mixes_76 rfl (lv_at hl 2 rfl) ?_
            refine lv_iload hx hb dX1_mixes_77 (lv_at hl 10 rfl) ?_
            obtain ⟨j_20, hj_20, ej_20, h⟩ := h
            refine x_iald hx hb hK hP hk_p2 ej_20 hj_20 dX1_mixes_79 ?_
            refine lv_imul hx hb dX1_mixes_80 ?_
            refine lv_iadd hx hb dX1_mixes_81 ?_
            refine lv_aload_n hx hb dX1_mixes_82 rfl (lv_at hl 0 rfl) ?_
            refine x_get (CC := RX1) (TT := TX1) (N := 26) (ci := 0) (v := .int (xi T 0 0)) hx hb hts in_X1 hown hK hP (xs_0 hP) (by decide) (by decide) rfl (xE_8 (xs_0 hP)) 0 (by decide) q384 rfl rfl dX1_mixes_83 ?_
            obtain ⟨hne, h⟩ := h
            refine m_irem hx hb dX1_mixes_86 hne ?_
            obtain ⟨j_21, hj_21, ej_21, h⟩ := h
            obtain ⟨T_22, eT_22⟩ : ∃ z : XT, z = xwi T 77 j_21 (jrem ((xi T 77 j_18) + ((xi T p1 j_19) * (xi T p2 j_20))) (xi T 0 0)) := ⟨_, rfl⟩
            have h := h T_22 eT_22
            refine x_iast hx hb hK hP hS (xs_77 hP) ej_21 (by rw [xl_77 hP]; exact hj_21) dX1_mixes_87 (fun H locs hP hS => ?_)
            rw [← eT_22] at hP
            obtain ⟨x10_23, ex10_23⟩ : ∃ y : Int32, y = x10 + 1 := ⟨_, rfl⟩
            have h := h x10_23 ex10_23
            refine lv_iinc (v := x10_23) (lv' := [(10, .int x10_23), (0, .ref (b + 0)), (1, .ref (b + p1)), (2, .ref (b + p2)), (3, .ref (b + p3)), (4, .ref (b + p4)), (5, .int x5), (6, .int x6), (7, .int x7), (8, .int x8), (9, .int x9)]) hx hb dX1_mixes_88 hl (k := 10) rfl (by rw [ex10_23]; rfl) (by decide) rfl (fun ls hl => ?_)
            refine lv_goto (tgt := 46) hx hb dX1_mixes_91 (by decide) ?_
            obtain ⟨mm, hmm, h⟩ := h
            exact ih46 mm hmm _ _ _ _ _  hP hS (lv_sub hl [1, 2, 3, 4, 5, 6, 7, 8, 9, 10, 0] rfl) h
      unfold wx1_mixes_b36 at h
      refine lv_iload hx hb dX1_mixes_36 (lv_at hl 9 rfl) ?_
      refine lv_iload hx hb dX1_mixes_38 (lv_at hl 5 rfl) ?_
      refine lv_icmp_gt (tgt := 100) hx hb dX1_mixes_40 (by decide) (fun c_25 => ?_) (fun c_25 => ?_)
      · have h := h.1 c_25
        refine lv_iconst (v := 0) hx hb dX1_mixes_100 (by decide) ?_
        refine lv_istore (lv' := [(9, .int 0), (0, .ref (b + 0)), (1, .ref (b + p1)), (2, .ref (b + p2)), (3, .ref (b + p3)), (4, .ref (b + p4)), (5, .int x5), (6, .int x6), (7, .int x7), (8, .int x8)]) hx hb dX1_mixes_101 hl (by decide) rfl (fun ls hl => ?_)
        exact L103 _ _ _ _ _ _ _ h  hP hS (lv_sub hl [1, 2, 4, 5, 8, 9, 0] rfl)
      · have h := h.2 c_25
        refine lv_iconst (v := 0) hx hb dX1_mixes_43 (by decide) ?_
        refine lv_istore (lv' := [(10, .int 0), (0, .ref (b + 0)), (1, .ref (b + p1)), (2, .ref (b + p2)), (3, .ref (b + p3)), (4, .ref (b + p4)), (5, .int x5), (6, .int x6), (7, .int x7), (8, .int x8), (9, .int x9)]) hx hb dX1_mixes_44 hl (by decide) rfl (fun ls hl => ?_)
        exact L46 _ _ _ _ _ _ h  hP hS (lv_sub hl [1, 2, 3, 4, 5, 6, 7, 8, 9, 10, 0] rfl)
  unfold wx1_mixes at h
  refine lv_aload_n hx hb dX1_mixes_0 rfl (lv_at hl 1 rfl) ?_
  refine x_cS (As := [.ref (b + p1)]) (rest := []) ⟨hx, hb, hml, hown, hts⟩ (mx1_top l G b hole p1 K T hk_p1 _ h) (va_cwS 1 hts (lw_S q1113 q1114 q118 q1115) rfl rfl rfl cwx_X1_top ⟨Nat.le_of_ble_eq_true rfl, Nat.le_of_ble_eq_true rfl⟩) hK hV hb0 hP hS rfl hl.1 rfl (Nat.le_of_ble_eq_true rfl) dX1_mixes_1 ⟨by first | exact Nat.zero_le _ | (show _ + _ ≤ Z - kc K0; omega), by first | exact Nat.zero_le _ | (show _ + _ ≤ Y - ks K0; omega)⟩ (fun r_26 T1 K1 H locs h hle1 hc1 hs1 hP hS => ?_)
  obtain ⟨h, hTe, hKe⟩ := h
  rw [hTe, hKe] at hP
  refine lv_istore (lv' := [(5, .int r_26), (0, .ref (b + 0)), (1, .ref (b + p1)), (2, .ref (b + p2)), (3, .ref (b + p3)), (4, .ref (b + p4))]) hx hb dX1_mixes_4 hl (by decide) rfl (fun ls hl => ?_)
  refine lv_aload_n hx hb dX1_mixes_6 rfl (lv_at hl 3 rfl) ?_
  refine x_cS (As := [.ref (b + p2)]) (rest := []) ⟨hx, hb, hml, hown, hts⟩ (mx1_top l G b hole p2 K T hk_p2 _ h) (va_cwS 1 hts (lw_S q1113 q1114 q118 q1115) rfl rfl rfl cwx_X1_top ⟨Nat.le_of_ble_eq_true rfl, Nat.le_of_ble_eq_true rfl⟩) hK hV hb0 hP hS rfl hl.1 rfl (Nat.le_of_ble_eq_true rfl) dX1_mixes_7 ⟨by first | exact Nat.zero_le _ | (show _ + _ ≤ Z - kc K0; omega), by first | exact Nat.zero_le _ | (show _ + _ ≤ Y - ks K0; omega)⟩ (fun r_29 T1 K1 H locs h hle1 hc1 hs1 hP hS => ?_)
  obtain ⟨h, hTe, hKe⟩ := h
  rw [hTe, hKe] at hP
  refine lv_istore (lv' := [(6, .int r_29), (5, .int r_26), (0, .ref (b + 0)), (1, .ref (b + p1)), (2, .ref (b + p2)), (3, .ref (b + p3)), (4, .ref (b + p4))]) hx hb dX1_mixes_10 hl (by decide) rfl (fun ls hl => ?_)
  refine lv_aload_n hx hb dX1_mixes_12 rfl (lv_at hl 5 rfl) ?_
  refine x_cS (As := [.ref (b + p3)]) (rest := []) ⟨hx, hb, hml, hown, hts⟩ (mx1_top l G b hole p3 K T hk_p3 _ h) (va_cwS 1 hts (lw_S q1113 q1114 q118 q1115) rfl rfl rfl cwx_X1_top ⟨Nat.le_of_ble_eq_true rfl, Nat.le_of_ble_eq_true rfl⟩) hK hV hb0 hP hS rfl hl.1 rfl (Nat.le_of_ble_eq_true rfl) dX1_mixes_13 ⟨by first | exact Nat.zero_le _ | (show _ + _ ≤ Z - kc K0; omega), by first | exact Nat.zero_le _ | (show _ + _ ≤ Y - ks K0; omega)⟩ (fun r_32 T1 K1 H locs h hle1 hc1 hs1 hP hS => ?_)
  obtain ⟨h, hTe, hKe⟩ := h
  rw [hTe, hKe] at hP
  refine lv_istore (lv' := [(7, .int r_32), (6, .int r_29), (5, .int r_26), (0, .ref (b + 0)), (1, .ref (b + p1)), (2, .ref (b + p2)), (3, .ref (b + p3)), (4, .ref (b + p4))]) hx hb dX1_mixes_16 hl (by decide) rfl (fun ls hl => ?_)
  refine lv_aload hx hb dX1_mixes_18 (lv_at hl 7 rfl) ?_
  refine x_cS (As := [.ref (b + p4)]) (rest := []) ⟨hx, hb, hml, hown, hts⟩ (mx1_top l G b hole p4 K T hk_p4 _ h) (va_cwS 1 hts (lw_S q1113 q1114 q118 q1115) rfl rfl rfl cwx_X1_top ⟨Nat.le_of_ble_eq_true rfl, Nat.le_of_ble_eq_true rfl⟩) hK hV hb0 hP hS rfl hl.1 rfl (Nat.le_of_ble_eq_true rfl) dX1_mixes_20 ⟨by first | exact Nat.zero_le _ | (show _ + _ ≤ Z - kc K0; omega), by first | exact Nat.zero_le _ | (show _ + _ ≤ Y - ks K0; omega)⟩ (fun r_35 T1 K1 H locs h hle1 hc1 hs1 hP hS => ?_)
  obtain ⟨h, hTe, hKe⟩ := h
  rw [hTe, hKe] at hP
  refine lv_istore (lv' := [(8, .int r_35), (7, .int r_32), (6, .int r_29), (5, .int r_26), (0, .ref (b + 0)), (1, .ref (b + p1)), (2, .ref (b + p2)), (3, .ref (b + p3)), (4, .ref (b + p4))]) hx hb dX1_mixes_23 hl (by decide) rfl (fun ls hl => ?_)
  refine lv_aload_n hx hb dX1_mixes_25 rfl (lv_at hl 4 rfl) ?_
  refine x_get (CC := RX1) (TT := TX1) (N := 26) (ci := 0) (v := .ref (b + 77)) hx hb hts in_X1 hown hK hP (xs_0 hP) (by decide) (by decide) rfl (xE_8 (xs_0 hP)) 13 (by decide) q398 rfl rfl dX1_mixes_26 ?_
  refine lv_iconst (v := 0) hx hb dX1_mixes_29 (by decide) ?_
  refine x_cS (As := [.ref (b + 77), .int 0]) (rest := []) ⟨hx, hb, hml, hown, hts⟩ (mxJ3_fill_2 l G b hole 77 0 K T (xs_77 hP) _ h) (va_cwS 2 hts (lw_S q741 q742 q127 q743) rfl rfl rfl cwx_J3_fill_2 ⟨Nat.le_of_ble_eq_true rfl, Nat.le_of_ble_eq_true rfl⟩) hK hV hb0 hP hS rfl hl.1 rfl (Nat.le_of_ble_eq_true rfl) dX1_mixes_30 ⟨by first | exact Nat.zero_le _ | (show _ + _ ≤ Z - kc K0; omega), by first | exact Nat.zero_le _ | (show _ + _ ≤ Y - ks K0; omega)⟩ (fun r_38 T1 K1 H locs h hle1 hc1 hs1 hP hS => ?_)
  obtain ⟨h, hKe⟩ := h
  rw [hKe] at hP
  generalize T1 = T_39 at h hP
  refine lv_iconst (v := 0) hx hb dX1_mixes_33 (by decide) ?_
  refine lv_istore (lv' := [(9, .int 0), (8, .int r_35), (7, .int r_32), (6, .int r_29), (5, .int r_26), (0, .ref (b + 0)), (1, .ref (b + p1)), (2, .ref (b + p2)), (3, .ref (b + p3)), (4, .ref (b + p4))]) hx hb dX1_mixes_34 hl (by decide) rfl (fun ls hl => ?_)
  exact L36 _ _ _ _ _ _ _ _ _ h  hP hS (lv_sub hl [5, 6, 7, 8, 9, 4, 3, 2, 1, 0] rfl)
theorem cwx_X1_leaves_3 : yX1_leaves_3.cls = RX1 ∧ yX1_leaves_3.cls ≠ "java/lang/invoke/MethodHandle" ∧ yX1_leaves_3.cls ≠ "java/lang/invoke/VarHandle" ∧ (parseMethodDescriptor yX1_leaves_3.desc).map (fun d => d.parameters.length) = some 2 := by decide +kernel
def wx1_leaves_3_j67 (p1 : Nat) (p2 : Nat) (Z Y : Nat) (post : XT → XK → Prop) (R11 : Int32 → XT → XK → Prop) (R20 : Int32 → XT → Prop) (x3 : Int32) (x4 : Int32) (x5 : Int32) (K : XK) (T : XT) : Prop :=
            ∀ x5_1 : Int32, x5_1 = x5 + 1 →
            R20 x5_1 T
def wx1_leaves_3_b20 (p1 : Nat) (p2 : Nat) (Z Y : Nat) (post : XT → XK → Prop) (R11 : Int32 → XT → XK → Prop) (R20 : Int32 → XT → Prop) (x3 : Int32) (x4 : Int32) (x5 : Int32) (K : XK) (T : XT) : Prop :=
          ((x4 ≤ x5 →
            ∃ j_2 : Nat, j_2 < kl K p1 ∧ x4 = nI j_2 ∧ ∃ v_3 : Nat, xr T p1 j_2 = some v_3 ∧
            wxJ3_fill_2 v_3 0 K T (fun T_5 =>
            ∃ Z_10 Y_11 : Nat, kc K ≤ Z_10 ∧ Z_10 ≤ Z ∧ ks K ≤ Y_11 ∧ Y_11 ≤ Y ∧ wx1_primitive p1 K T_5 Z_10 Y_11 (fun r_7 T_8 K_9 =>
            wx1_topRow p1 K_9 T_8 (fun r_12 =>
            R11 r_12 T_8 K_9)))) ∧
           (¬ (x4 ≤ x5) →
            ∃ j_15 : Nat, j_15 < kl K p1 ∧ x5 = nI j_15 ∧ ∃ v_16 : Nat, xr T p1 j_15 = some v_16 ∧
            ∃ j_17 : Nat, j_17 < kl K p2 ∧ x3 = nI j_17 ∧ ∃ v_18 : Nat, xr T p2 j_17 = some v_18 ∧
            ∃ j_19 : Nat, j_19 < kl K p1 ∧ x4 = nI j_19 ∧ ∃ v_20 : Nat, xr T p1 j_19 = some v_20 ∧
            ((x5 < (x4 - x3) →
              wx1_mixes v_16 v_18 v_20 78 K T (fun T_22 =>
              wx1_leaves_3_j67 p1 p2 Z Y post R11 R20 x3 x4 x5 K T_22)) ∧
             (¬ (x5 < (x4 - x3)) →
              ∃ j_24 : Nat, j_24 < kl K p2 ∧ ((x5 - x4) + x3) = nI j_24 ∧ ∃ v_25 : Nat, xr T p2 j_24 = some v_25 ∧
              wx1_mixes v_16 v_18 v_20 v_25 K T (fun T_27 =>
              wx1_leaves_3_j67 p1 p2 Z Y post R11 R20 x3 x4 x5 K T_27)))))
def wx1_leaves_3_l20 (p1 : Nat) (p2 : Nat) (Z Y : Nat) (post : XT → XK → Prop) (R11 : Int32 → XT → XK → Prop) (x3 : Int32) (x4 : Int32) (x5 : Int32) (K : XK) (T : XT) : Prop := wLoop (fun (R : ((Int32) × (XT)) → Prop) (v : (Int32) × (XT)) => wx1_leaves_3_b20 p1 p2 Z Y post R11 (fun x5 T => R (x5, T)) x3 x4 v.1 K v.2) (x5, T)
def wx1_leaves_3_b11 (p1 : Nat) (p2 : Nat) (Z Y : Nat) (post : XT → XK → Prop) (R11 : Int32 → XT → XK → Prop) (x3 : Int32) (x4 : Int32) (K : XK) (T : XT) : Prop :=
      ((x4 < x3 →
        post T (kset K Z Y)) ∧
       (¬ (x4 < x3) →
        wx1_leaves_3_l20 p1 p2 Z Y post R11 x3 x4 0 K T))
def wx1_leaves_3_l11 (p1 : Nat) (p2 : Nat) (Z Y : Nat) (post : XT → XK → Prop) (x3 : Int32) (x4 : Int32) (K : XK) (T : XT) : Prop := wLoop (fun (R : ((Int32) × (XT) × (XK)) → Prop) (v : (Int32) × (XT) × (XK)) => wx1_leaves_3_b11 p1 p2 Z Y post (fun x4 T K => R (x4, T, K)) x3 v.1 v.2.2 v.2.1) (x4, T, K)
def wx1_leaves_3 (p1 : Nat) (p2 : Nat) (K0 : XK) (T : XT) (Z Y : Nat) (post : XT → XK → Prop) : Prop :=
  wx1_topRow p2 K0 T (fun r_32 =>
  wx1_topRow p1 K0 T (fun r_35 =>
  wx1_leaves_3_l11 p1 p2 Z Y post r_32 r_35 K0 T))
set_option maxHeartbeats 4000000 in
theorem mx1_leaves_3 (l : Launch) (G : XG) (b : Nat) (hole : Nat → Prop) (p1 : Nat) (p2 : Nat) (K0 : XK) (T : XT) (Z Y : Nat) (hZ : kc K0 ≤ Z) (hY : ks K0 ≤ Y) (hk_p1 : kd K0 p1 = 4) (hk_p2 : kd K0 p2 = 4) (post : XT → XK → Prop) (h : wx1_leaves_3 p1 p2 K0 T Z Y post) : Met l yX1_leaves_3 (ws_ yX1_leaves_3 cX1_leaves_3 6 none) ({ frames := 4, cells := (Z - kc K0), slots := (Y - ks K0), locals := 115 } : Room) (xPc G b hole [.ref (b + 0), .ref (b + p1), .ref (b + p2)] K0 T) (xQ G b hole K0 (Z - kc K0) (Y - ks K0) (ρ := Unit) eV (fun r T1 K1 => post T1 K1)) (Z - kc K0) (Y - ks K0) (xA b hole) := by
  refine Met.ofW (cc := cX1_leaves_3) (maxL := 6) (ret := none) (by decide) rfl ?_
  intro p e s m args below meth c s₁ B hml hv
  obtain ⟨rfl, hP, hK, hV⟩ := hv
  have hx := B.exec
  have hb := B.bytes
  have hr := B.returns
  have hts := atoms_spec (ws := ws_ yX1_leaves_3 cX1_leaves_3 6 none) B.pre
  have hts : ∀ w ∈ lw_all, w.before _ s = true := fun w h => hts w (List.mem_cons_of_mem _ h)
  have hown : s.vm.findClass RX1 = some m.cls := findClass_of_methodNamed B.named
  have hlocks := B.notSynchronized
  have hb0 : b ≤ s.heap.size := by rw [hP.2.2.2]; exact Nat.le_add_right _ _
  have hS : va_S (xA b hole) s.heap s.heap [] := va_S.rf
  have hl := lv_entry ([.ref (b + 0), .ref (b + p1), .ref (b + p2)]) (n := 6) (Nat.le_of_ble_eq_true rfl)
  rw [lg_entry_eq]
  generalize (lg_sl ([.ref (b + 0), .ref (b + p1), .ref (b + p2)]) ++ List.replicate (6 - (lg_sl ([.ref (b + 0), .ref (b + p1), .ref (b + p2)])).length) Slot.unset).toArray = ls at hl ⊢
  have hl : lv_has ls 6 [(0, .ref (b + 0)), (1, .ref (b + p1)), (2, .ref (b + p2))] := hl
  have hle0 : kle K0 K0 := kle.rf
  have L11 : ∀ (x3 : Int32) (x4 : Int32) (T : XT) (K : XK) (cn sn : Nat) (H : Heap) (locs : List Loc) (ls : Array Slot), wx1_leaves_3_l11 p1 p2 Z Y post x3 x4 K T → kle K0 K → kc K0 + cn = kc K → ks K0 + sn = ks K → kc K ≤ Z → ks K ≤ Y → (kd K p1 = 4) → (kd K p2 = 4) → xW G b hole K T H → va_S (xA b hole) s.heap H locs → lv_has ls 6 [(0, .ref (b + 0)), (1, .ref (b + p1)), (2, .ref (b + p2)), (3, .int x3), (4, .int x4)] → W p l e (headSpec (ws_ yX1_leaves_3 cX1_leaves_3 6 none) ({ frames := 4, cells := (Z - kc K0), slots := (Y - ks K0), locals := 115 } : Room)).room s m ([.ref (b + 0), .ref (b + p1), .ref (b + p2)] : List Value).toArray below meth c H locs cn sn (MQ below (xQ G b hole K0 (Z - kc K0) (Y - ks K0) (ρ := Unit) eV (fun r T1 K1 => post T1 K1)) ([.ref (b + 0), .ref (b + p1), .ref (b + p2)] : List Value).toArray s (Z - kc K0) (Y - ks K0) (xA b hole)) (F0 m 11 ls []) := by
    intro x3 x4 T K cn sn H locs ls h hle0 hcn hsn hzz hyy hk_p1 hk_p2 hP hS hl
    obtain ⟨I11, n11, hI, hstep11⟩ := h
    induction n11 using Nat.strongRecOn generalizing x4 T K cn sn H locs ls with
    | ind n11 ih11 =>
      have h : wx1_leaves_3_b11 p1 p2 Z Y post (fun x4 T K => ∃ mm, mm < n11 ∧ I11 mm (x4, T, K)) x3 x4 K T := hstep11 n11 _ hI
      clear hI
      have L20 : ∀ (x4 : Int32) (x5 : Int32) (T : XT) (K : XK) (cn sn : Nat) (H : Heap) (locs : List Loc) (ls : Array Slot), wx1_leaves_3_l20 p1 p2 Z Y post (fun x4 T K => ∃ mm, mm < n11 ∧ I11 mm (x4, T, K)) x3 x4 x5 K T → kle K0 K → kc K0 + cn = kc K → ks K0 + sn = ks K → kc K ≤ Z → ks K ≤ Y → (kd K p1 = 4) → (kd K p2 = 4) → xW G b hole K T H → va_S (xA b hole) s.heap H locs → lv_has ls 6 [(0, .ref (b + 0)), (1, .ref (b + p1)), (2, .ref (b + p2)), (3, .int x3), (4, .int x4), (5, .int x5)] → W p l e (headSpec (ws_ yX1_leaves_3 cX1_leaves_3 6 none) ({ frames := 4, cells := (Z - kc K0), slots := (Y - ks K0), locals := 115 } : Room)).room s m ([.ref (b + 0), .ref (b + p1), .ref (b + p2)] : List Value).toArray below meth c H locs cn sn (MQ below (xQ G b hole K0 (Z - kc K0) (Y - ks K0) (ρ := Unit) eV (fun r T1 K1 => post T1 K1)) ([.ref (b + 0), .ref (b + p1), .ref (b + p2)] : List Value).toArray s (Z - kc K0) (Y - ks K0) (xA b hole)) (F0 m 20 ls []) := by
        intro x4 x5 T K cn sn H locs ls h hle0 hcn hsn hzz hyy hk_p1 hk_p2 hP hS hl
        obtain ⟨I20, n20, hI, hstep20⟩ := h
        induction n20 using Nat.strongRecOn generalizing x5 T H locs ls with
        | ind n20 ih20 =>
          have h : wx1_leaves_3_b20 p1 p2 Z Y post (fun x4 T K => ∃ mm, mm < n11 ∧ I11 mm (x4, T, K)) (fun x5 T => ∃ mm, mm < n20 ∧ I20 mm (x5, T)) x3 x4 x5 K T := hstep20 n20 _ hI
          clear hI
          have J67 : ∀ (x5 : Int32) (T : XT) (H : Heap) (locs : List Loc) (ls : Array Slot), wx1_leaves_3_j67 p1 p2 Z Y post (fun x4 T K => ∃ mm, mm < n11 ∧ I11 mm (x4, T, K)) (fun x5 T => ∃ mm, mm < n20 ∧ I20 mm (x5, T)) x3 x4 x5 K T → xW G b hole K T H → va_S (xA b hole) s.heap H locs → lv_has ls 6 [(0, .ref (b + 0)), (1, .ref (b + p1)), (2, .ref (b + p2)), (3, .int x3), (4, .int x4), (5, .int x5)] → W p l e (headSpec (ws_ yX1_leaves_3 cX1_leaves_3 6 none) ({ frames := 4, cells := (Z - kc K0), slots := (Y - ks K0), locals := 115 } : Room)).room s m ([.ref (b + 0), .ref (b + p1), .ref (b + p2)] : List Value).toArray below meth c H locs cn sn (MQ below (xQ G b hole K0 (Z - kc K0) (Y - ks K0) (ρ := Unit) eV (fun r T1 K1 => post T1 K1)) ([.ref (b + 0), .ref (b + p1), .ref (b + p2)] : List Value).toArray s (Z - kc K0) (Y - ks K0) (xA b hole)) (F0 m 67 ls []) := by
            intro x5 T H locs ls h hP hS hl
            unfold wx1_leaves_3_j67 at h
            obtain ⟨x5_1, ex5_1⟩ : ∃ y : Int32, y = x5 + 1 := ⟨_, rfl⟩
            have h := h x5_1 ex5_1
            refine lv_iinc (v := x5_1) (lv' := [(5, .int x5_1), (0, .ref (b + 0)), (1, .ref (b + p1)), (2, .ref (b + p2)), (3, .int x3), (4, .int x4)]) hx hb dX1_leaves_3_67 hl (k := 5) rfl (by rw [ex5_1]; rfl) (by decide) rfl (fun ls hl => ?_)
            refine lv_goto (tgt := 20) hx hb dX1_leaves_3_70 (by decide) ?_
            obtain ⟨mm, hmm, h⟩ := h
            exact ih20 mm hmm _ _ _ _ _  hP hS (lv_sub hl [1, 2, 3, 4, 5, 0] rfl) h
          unfold wx1_leaves_3_b20 at h
          refine lv_iload hx hb dX1_leaves_3_20 (lv_at hl 5 rfl) ?_
          refine lv_iload hx hb dX1_leaves_3_22 (lv_at hl 4 rfl) ?_
          refine lv_icmp_ge (tgt := 73) hx hb dX1_leaves_3_24 (by decide) (fun c_30 => ?_) (fun c_30 => ?_)
          · have h := h.1 c_30
            refine lv_aload_n hx hb dX1_leaves_3_73 rfl (lv_at hl 1 rfl) ?_
            refine lv_iload hx hb dX1_leaves_3_74 (lv_at hl 4 rfl) ?_
            obtain ⟨j_2, hj_2, ej_2, v_3, ev_3, h⟩ := h
            refine x_aald4 hx hb hK hP hk_p1 ej_2 hj_2 dX1_leaves_3_76 ?_
            refine x_some ev_3 ?_
            have hk_v_3 : kd K v_3 = 1 := hP.ty hk_p1 (by decide) ev_3
            refine lv_iconst (v := 0) hx hb dX1_leaves_3_77 (by decide) ?_
            refine x_cS (As := [.ref (b + v_3), .int 0]) (rest := []) ⟨hx, hb, hml, hown, hts⟩ (mxJ3_fill_2 l G b hole v_3 0 K T hk_v_3 _ h) (va_cwS 2 hts (lw_S q741 q742 q127 q743) rfl rfl rfl cwx_J3_fill_2 ⟨Nat.le_of_ble_eq_true rfl, Nat.le_of_ble_eq_true rfl⟩) hK hV hb0 hP hS rfl hl.1 rfl (Nat.le_of_ble_eq_true rfl) dX1_leaves_3_78 ⟨by first | exact Nat.zero_le _ | (show _ + _ ≤ Z - kc K0; omega), by first | exact Nat.zero_le _ | (show _ + _ ≤ Y - ks K0; omega)⟩ (fun r_4 T1 K1 H locs h hle1 hc1 hs1 hP hS => ?_)
            obtain ⟨h, hKe⟩ := h
            rw [hKe] at hP
            generalize T1 = T_5 at h hP
            refine lv_aload_n hx hb dX1_leaves_3_81 rfl (lv_at hl 0 rfl) ?_
            refine lv_aload_n hx hb dX1_leaves_3_82 rfl (lv_at hl 1 rfl) ?_
            obtain ⟨Z_10, Y_11, hz1, hz2, hy1, hy2, h⟩ := h
            refine x_cV (k := 0) (As := [.ref (b + p1)]) (rest := []) ⟨hx, hb, hml, hown, hts⟩ (mx1_primitive l G b hole p1 K T_5 Z_10 Y_11 hz1 hy1 hk_p1 _ h) (cwV 1 hts (lw_V q1104 q1106 qs50 q118 q1107) rfl rfl rfl cwx_X1_primitive ⟨Nat.le_of_ble_eq_true rfl, Nat.le_of_ble_eq_true rfl⟩) (x_recv (CC := RX1) (ci := 0) hK hP (xs_0 hP) (by decide) (by decide) rfl (xE_8 (xs_0 hP))) hK hV hb0 hP hS rfl hl.1 rfl (Nat.le_of_ble_eq_true rfl) dX1_leaves_3_83 ⟨by first | exact Nat.zero_le _ | (show _ + _ ≤ Z - kc K0; omega), by first | exact Nat.zero_le _ | (show _ + _ ≤ Y - ks K0; omega)⟩ (fun r_7 T1 K1 H locs h hle1 hc1 hs1 hP hS => ?_)
            obtain ⟨h, hk_r_7⟩ := h
            generalize T1 = T_8 at h hP
            generalize K1 = K_9 at h hP hle1 hc1 hs1 hk_r_7
            have hk_p1 : kd K_9 p1 = 4 := hle1.kd hk_p1
            have hk_p2 : kd K_9 p2 = 4 := hle1.kd hk_p2
            have hle0 := hle0.tr hle1
            have hcn : kc K0 + (cn + (Z_10 - kc K)) = kc K_9 := by omega
            have hsn : ks K0 + (sn + (Y_11 - ks K)) = ks K_9 := by omega
            have hzz : kc K_9 ≤ Z := by omega
            have hyy : ks K_9 ≤ Y := by omega
            refine lv_astore (lv' := [(5, .ref (b + r_7)), (0, .ref (b + 0)), (1, .ref (b + p1)), (2, .ref (b + p2)), (3, .int x3), (4, .int x4)]) hx hb dX1_leaves_3_86 hl (by decide) rfl (fun ls hl => ?_)
            refine lv_aload_n hx hb dX1_leaves_3_88 rfl (lv_at hl 2 rfl) ?_
            refine x_cS (As := [.ref (b + p1)]) (rest := []) ⟨hx, hb, hml, hown, hts⟩ (mx1_topRow l G b hole p1 K_9 T_8 hk_p1 _ h) (va_cwS 1 hts (lw_S q1126 q1127 q118 q1128) rfl rfl rfl cwx_X1_topRow ⟨Nat.le_of_ble_eq_true rfl, Nat.le_of_ble_eq_true rfl⟩) hK hV hb0 hP hS rfl hl.1 rfl (Nat.le_of_ble_eq_true rfl) dX1_leaves_3_89 ⟨by first | exact Nat.zero_le _ | (show _ + _ ≤ Z - kc K0; omega), by first | exact Nat.zero_le _ | (show _ + _ ≤ Y - ks K0; omega)⟩ (fun r_12 T1 K1 H locs h hle1 hc1 hs1 hP hS => ?_)
            obtain ⟨h, hTe, hKe⟩ := h
            rw [hTe, hKe] at hP
            refine lv_istore (lv' := [(4, .int r_12), (5, .ref (b + r_7)), (0, .ref (b + 0)), (1, .ref (b + p1)), (2, .ref (b + p2)), (3, .int x3)]) hx hb dX1_leaves_3_92 hl (by decide) rfl (fun ls hl => ?_)
            refine lv_goto (tgt := 11) hx hb dX1_leaves_3_94 (by decide) ?_
            obtain ⟨mm, hmm, h⟩ := h
            exact ih11 mm hmm _ _ _ _ _ _ _ _ hle0 hcn hsn hzz hyy hk_p1 hk_p2 hP hS (lv_sub hl [2, 3, 4, 5, 0] rfl) h
          · have h := h.2 c_30
            refine lv_aload_n hx hb dX1_leaves_3_27 rfl (lv_at hl 0 rfl) ?_
            refine lv_aload_n hx hb dX1_leaves_3_28 rfl (lv_at hl 1 rfl) ?_
            refine lv_iload hx hb dX1_leaves_3_29 (lv_at hl 5 rfl) ?_
            obtain ⟨j_15, hj_15, ej_15, v_16, ev_16, h⟩ := h
            refine x_aald4 hx hb hK hP hk_p1 ej_15 hj_15 dX1_leaves_3_31 ?_
            refine x_some ev_16 ?_
            have hk_v_16 : kd K v_16 = 1 := hP.ty hk_p1 (by decide) ev_16
            refine lv_aload_n hx hb dX1_leaves_3_32 rfl (lv_at hl 2 rfl) ?_
            refine lv_iload_n hx hb dX1_leaves_3_33 rfl (lv_at hl 3 rfl) ?_
            obtain ⟨j_17, hj_17, ej_17, v_18, ev_18, h⟩ := h
            refine x_aald4 hx hb hK hP hk_p2 ej_17 hj_17 dX1_leaves_3_34 ?_
            refine x_some ev_18 ?_
            have hk_v_18 : kd K v_18 = 1 := hP.ty hk_p2 (by decide) ev_18
            refine lv_aload_n hx hb dX1_leaves_3_35 rfl (lv_at hl 1 rfl) ?_
            refine lv_iload hx hb dX1_leaves_3_36 (lv_at hl 4 rfl) ?_
            obtain ⟨j_19, hj_19, ej_19, v_20, ev_20, h⟩ := h
            refine x_aald4 hx hb hK hP hk_p1 ej_19 hj_19 dX1_leaves_3_38 ?_
            refine x_some ev_20 ?_
            have hk_v_20 : kd K v_20 = 1 := hP.ty hk_p1 (by decide) ev_20
            refine lv_iload hx hb dX1_leaves_3_39 (lv_at hl 5 rfl) ?_
            refine lv_iload hx hb dX1_leaves_3_41 (lv_at hl 4 rfl) ?_
            refine lv_iload_n hx hb dX1_leaves_3_43 rfl (lv_at hl 3 rfl) ?_
            refine lv_isub hx hb dX1_leaves_3_44 ?_
            refine lv_icmp_lt (tgt := 60) hx hb dX1_leaves_3_45 (by decide) (fun c_29 => ?_) (fun c_29 => ?_)
            · have h := h.1 c_29
              refine lv_aload_n hx hb dX1_leaves_3_60 rfl (lv_at hl 0 rfl) ?_
              refine x_get (CC := RX1) (TT := TX1) (N := 26) (ci := 0) (v := .ref (b + 78)) hx hb hts in_X1 hown hK hP (xs_0 hP) (by decide) (by decide) rfl (xE_8 (xs_0 hP)) 14 (by decide) q399 rfl rfl dX1_leaves_3_61 ?_
              refine x_cV (k := 0) (As := [.ref (b + v_16), .ref (b + v_18), .ref (b + v_20), .ref (b + 78)]) (rest := []) ⟨hx, hb, hml, hown, hts⟩ (mx1_mixes l G b hole v_16 v_18 v_20 78 K T hk_v_16 hk_v_18 hk_v_20 (xs_78 hP) _ h) (cwV 4 hts (lw_V q1133 q1135 qs55 q118 q1136) rfl rfl rfl cwx_X1_mixes ⟨Nat.le_of_ble_eq_true rfl, Nat.le_of_ble_eq_true rfl⟩) (x_recv (CC := RX1) (ci := 0) hK hP (xs_0 hP) (by decide) (by decide) rfl (xE_8 (xs_0 hP))) hK hV hb0 hP hS rfl hl.1 rfl (Nat.le_of_ble_eq_true rfl) dX1_leaves_3_64 ⟨by first | exact Nat.zero_le _ | (show _ + _ ≤ Z - kc K0; omega), by first | exact Nat.zero_le _ | (show _ + _ ≤ Y - ks K0; omega)⟩ (fun r_21 T1 K1 H locs h hle1 hc1 hs1 hP hS => ?_)
              obtain ⟨h, hKe⟩ := h
              rw [hKe] at hP
              generalize T1 = T_22 at h hP
              exact J67 _ _ _ _ _ h  hP hS (lv_sub hl [0, 1, 2, 3, 4, 5] rfl)
            · have h := h.2 c_29
              refine lv_aload_n hx hb dX1_leaves_3_48 rfl (lv_at hl 2 rfl) ?_
              refine lv_iload hx hb dX1_leaves_3_49 (lv_at hl 5 rfl) ?_
              refine lv_iload hx hb dX1_leaves_3_51 (lv_at hl 4 rfl) ?_
              refine lv_isub hx hb dX1_leaves_3_53 ?_
              refine lv_iload_n hx hb dX1_leaves_3_54 rfl (lv_at hl 3 rfl) ?_
              refine lv_iadd hx hb dX1_leaves_3_55 ?_
              obtain ⟨j_24, hj_24, ej_24, v_25, ev_25, h⟩ := h
              refine x_aald4 hx hb hK hP hk_p2 ej_24 hj_24 dX1_leaves_3_56 ?_
              refine x_some ev_25 ?_
              have hk_v_25 : kd K v_25 = 1 := hP.ty hk_p2 (by decide) ev_25
              refine lv_goto (tgt := 64) hx hb dX1_leaves_3_57 (by decide) ?_
              refine x_cV (k := 0) (As := [.ref (b + v_16), .ref (b + v_18), .ref (b + v_20), .ref (b + v_25)]) (rest := []) ⟨hx, hb, hml, hown, hts⟩ (mx1_mixes l G b hole v_16 v_18 v_20 v_25 K T hk_v_16 hk_v_18 hk_v_20 hk_v_25 _ h) (cwV 4 hts (lw_V q1133 q1135 qs55 q118 q1136) rfl rfl rfl cwx_X1_mixes ⟨Nat.le_of_ble_eq_true rfl, Nat.le_of_ble_eq_true rfl⟩) (x_recv (CC := RX1) (ci := 0) hK hP (xs_0 hP) (by decide) (by decide) rfl (xE_8 (xs_0 hP))) hK hV hb0 hP hS rfl hl.1 rfl (Nat.le_of_ble_eq_true rfl) dX1_leaves_3_64 ⟨by first | exact Nat.zero_le _ | (show _ + _ ≤ Z - kc K0; omega), by first | exact Nat.zero_le _ | (show _ + _ ≤ Y - ks K0; omega)⟩ (fun r_26 T1 K1 H locs h hle1 hc1 hs1 hP hS => ?_)
              obtain ⟨h, hKe⟩ := h
              rw [hKe] at hP
              generalize T1 = T_27 at h hP
              exact J67 _ _ _ _ _ h  hP hS (lv_sub hl [0, 1, 2, 3, 4, 5] rfl)
      unfold wx1_leaves_3_b11 at h
      refine lv_iload hx hb dX1_leaves_3_11 (lv_at hl 4 rfl) ?_
      refine lv_iload_n hx hb dX1_leaves_3_13 rfl (lv_at hl 3 rfl) ?_
      refine lv_icmp_lt (tgt := 97) hx hb dX1_leaves_3_14 (by decide) (fun c_31 => ?_) (fun c_31 => ?_)
      · have h := h.1 c_31
        refine W.widen (k := Z - kc K0) (n := Y - ks K0) (by omega) (by omega) ?_
        exact W.vret hx hb hr (fun t ht hW => ⟨⟨(), T, (kset K Z Y), rfl, h, hle0, (by show Z = _; omega), (by show Y = _; omega), by rw [ht]; exact hP, va_K.moved hW.alike hK⟩, hS.F ht⟩) hS.2.2 dX1_leaves_3_97
      · have h := h.2 c_31
        refine lv_iconst (v := 0) hx hb dX1_leaves_3_17 (by decide) ?_
        refine lv_istore (lv' := [(5, .int 0), (0, .ref (b + 0)), (1, .ref (b + p1)), (2, .ref (b + p2)), (3, .int x3), (4, .int x4)]) hx hb dX1_leaves_3_18 hl (by decide) rfl (fun ls hl => ?_)
        exact L20 _ _ _ _ _ _ _ _ _ h hle0 hcn hsn hzz hyy hk_p1 hk_p2 hP hS (lv_sub hl [1, 2, 3, 4, 5, 0] rfl)
  have hcn : kc K0 + 0 = kc K0 := rfl
  have hsn : ks K0 + 0 = ks K0 := rfl
  have hzz := hZ
  have hyy := hY
  unfold wx1_leaves_3 at h
  refine lv_aload_n hx hb dX1_leaves_3_0 rfl (lv_at hl 2 rfl) ?_
  refine x_cS (As := [.ref (b + p2)]) (rest := []) ⟨hx, hb, hml, hown, hts⟩ (mx1_topRow l G b hole p2 K0 T hk_p2 _ h) (va_cwS 1 hts (lw_S q1126 q1127 q118 q1128) rfl rfl rfl cwx_X1_topRow ⟨Nat.le_of_ble_eq_true rfl, Nat.le_of_ble_eq_true rfl⟩) hK hV hb0 hP hS rfl hl.1 rfl (Nat.le_of_ble_eq_true rfl) dX1_leaves_3_1 ⟨by first | exact Nat.zero_le _ | (show _ + _ ≤ Z - kc K0; omega), by first | exact Nat.zero_le _ | (show _ + _ ≤ Y - ks K0; omega)⟩ (fun r_32 T1 K1 H locs h hle1 hc1 hs1 hP hS => ?_)
  obtain ⟨h, hTe, hKe⟩ := h
  rw [hTe, hKe] at hP
  refine lv_istore_n (lv' := [(3, .int r_32), (0, .ref (b + 0)), (1, .ref (b + p1)), (2, .ref (b + p2))]) hx hb dX1_leaves_3_4 rfl hl (by decide) rfl (fun ls hl => ?_)
  refine lv_aload_n hx hb dX1_leaves_3_5 rfl (lv_at hl 2 rfl) ?_
  refine x_cS (As := [.ref (b + p1)]) (rest := []) ⟨hx, hb, hml, hown, hts⟩ (mx1_topRow l G b hole p1 K0 T hk_p1 _ h) (va_cwS 1 hts (lw_S q1126 q1127 q118 q1128) rfl rfl rfl cwx_X1_topRow ⟨Nat.le_of_ble_eq_true rfl, Nat.le_of_ble_eq_true rfl⟩) hK hV hb0 hP hS rfl hl.1 rfl (Nat.le_of_ble_eq_true rfl) dX1_leaves_3_6 ⟨by first | exact Nat.zero_le _ | (show _ + _ ≤ Z - kc K0; omega), by first | exact Nat.zero_le _ | (show _ + _ ≤ Y - ks K0; omega)⟩ (fun r_35 T1 K1 H locs h hle1 hc1 hs1 hP hS => ?_)
  obtain ⟨h, hTe, hKe⟩ := h
  rw [hTe, hKe] at hP
  refine lv_istore (lv' := [(4, .int r_35), (3, .int r_32), (0, .ref (b + 0)), (1, .ref (b + p1)), (2, .ref (b + p2))]) hx hb dX1_leaves_3_9 hl (by decide) rfl (fun ls hl => ?_)
  exact L11 _ _ _ _ _ _ _ _ _ h hle0 hcn hsn hzz hyy hk_p1 hk_p2 hP hS (lv_sub hl [2, 3, 4, 1, 0] rfl)
