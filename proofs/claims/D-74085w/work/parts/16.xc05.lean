set_option maxRecDepth 100000
theorem cwx_X1_divisionWhy : yX1_divisionWhy.cls = RX1 ∧ yX1_divisionWhy.cls ≠ "java/lang/invoke/MethodHandle" ∧ yX1_divisionWhy.cls ≠ "java/lang/invoke/VarHandle" ∧ (parseMethodDescriptor yX1_divisionWhy.desc).map (fun d => d.parameters.length) = some 4 := by decide +kernel
def wx1_divisionWhy_j24 (p1 : Int32) (p2 : Int32) (p3 : Int32) (p4 : Int32) (post : Int32 → XT → Prop) (x5 : Int32) (K : XK) (T : XT) : Prop :=
    ((x5 = 0 →
      ∃ v_1 : Nat, xr T 0 18 = some v_1 ∧
      ∃ j_2 : Nat, j_2 < kl K v_1 ∧ p3 = nI j_2 ∧ ∃ v_3 : Nat, xr T v_1 j_2 = some v_3 ∧
      wx1_divides v_3 p4 K T (fun r_4 T_5 =>
      post r_4 T_5)) ∧
     (¬ (x5 = 0) →
      post x5 T))
def wx1_divisionWhy (p1 : Int32) (p2 : Int32) (p3 : Int32) (p4 : Int32) (K : XK) (T : XT) (post : Int32 → XT → Prop) : Prop :=
  ((p2 = 0 →
    wx1_why_2 p1 0 K T (fun r_8 =>
    wx1_divisionWhy_j24 p1 p2 p3 p4 post r_8 K T)) ∧
   (¬ (p2 = 0) →
    wx1_isSet p4 K T (fun r_11 =>
    ((r_11 = 0 →
      wx1_why_2 p1 0 K T (fun r_14 =>
      wx1_divisionWhy_j24 p1 p2 p3 p4 post r_14 K T)) ∧
     (¬ (r_11 = 0) →
      wx1_why_2 p1 1 K T (fun r_17 =>
      wx1_divisionWhy_j24 p1 p2 p3 p4 post r_17 K T))))))
set_option maxHeartbeats 4000000 in
theorem mx1_divisionWhy (l : Launch) (G : XG) (b : Nat) (hole : Nat → Prop) (p1 : Int32) (p2 : Int32) (p3 : Int32) (p4 : Int32) (K : XK) (T : XT)  (post : Int32 → XT → Prop) (h : wx1_divisionWhy p1 p2 p3 p4 K T post) : Met l yX1_divisionWhy (ws_ yX1_divisionWhy cX1_divisionWhy 6 (some .int)) ({ frames := 8, cells := 0, slots := 0, locals := 191 } : Room) (xPc G b hole [.ref (b + 0), .int p1, .int p2, .int p3, .int p4] K T) (xQ G b hole K 0 0 (ρ := Int32) eI (fun r T1 K1 => post r T1 ∧ K1 = K)) 0 0 (xA b hole) := by
  refine Met.ofW (cc := cX1_divisionWhy) (maxL := 6) (ret := (some .int)) (by decide) rfl ?_
  intro p e s m args below meth c s₁ B hml hv
  obtain ⟨rfl, hP, hK, hV⟩ := hv
  have hx := B.exec
  have hb := B.bytes
  have hr := B.returns
  have hts := atoms_spec (ws := ws_ yX1_divisionWhy cX1_divisionWhy 6 (some .int)) B.pre
  have hts : ∀ w ∈ lw_all, w.before _ s = true := fun w h => hts w (List.mem_cons_of_mem _ h)
  have hown : s.vm.findClass RX1 = some m.cls := findClass_of_methodNamed B.named
  have hlocks := B.notSynchronized
  have hb0 : b ≤ s.heap.size := by rw [hP.2.2.2]; exact Nat.le_add_right _ _
  have hS : va_S (xA b hole) s.heap s.heap [] := va_S.rf
  have hl := lv_entry ([.ref (b + 0), .int p1, .int p2, .int p3, .int p4]) (n := 6) (Nat.le_of_ble_eq_true rfl)
  rw [lg_entry_eq]
  generalize (lg_sl ([.ref (b + 0), .int p1, .int p2, .int p3, .int p4]) ++ List.replicate (6 - (lg_sl ([.ref (b + 0), .int p1, .int p2, .int p3, .int p4])).length) Slot.unset).toArray = ls at hl ⊢
  have hl : lv_has ls 6 [(0, .ref (b + 0)), (1, .int p1), (2, .int p2), (3, .int p3), (4, .int p4)] := hl
  have J24 : ∀ (x5 : Int32) (T : XT) (H : Heap) (locs : List Loc) (ls : Array Slot), wx1_divisionWhy_j24 p1 p2 p3 p4 post x5 K T → xW G b hole K T H → va_S (xA b hole) s.heap H locs → lv_has ls 6 [(0, .ref (b + 0)), (3, .int p3), (4, .int p4), (5, .int x5)] → W p l e (headSpec (ws_ yX1_divisionWhy cX1_divisionWhy 6 (some .int)) ({ frames := 8, cells := 0, slots := 0, locals := 191 } : Room)).room s m ([.ref (b + 0), .int p1, .int p2, .int p3, .int p4] : List Value).toArray below meth c H locs 0 0 (MQ below (xQ G b hole K 0 0 (ρ := Int32) eI (fun r T1 K1 => post r T1 ∧ K1 = K)) ([.ref (b + 0), .int p1, .int p2, .int p3, .int p4] : List Value).toArray s 0 0 (xA b hole)) (F0 m 24 ls []) := by
    intro x5 T H locs ls h hP hS hl
    unfold wx1_divisionWhy_j24 at h
    refine lv_iload hx hb dX1_divisionWhy_24 (lv_at hl 3 rfl) ?_
    refine lv_if_eq (tgt := 34) hx hb dX1_divisionWhy_26 (by decide) (fun c_7 => ?_) (fun c_7 => ?_)
    · have h := h.1 c_7
      refine lv_aload_n hx hb dX1_divisionWhy_34 rfl (lv_at hl 0 rfl) ?_
      refine lv_aload_n hx hb dX1_divisionWhy_35 rfl (lv_at hl 0 rfl) ?_
      obtain ⟨v_1, ev_1, h⟩ := h
      refine x_get (CC := RX1) (TT := TX1) (N := 26) (ci := 0) (v := rfv b (xr T 0 18)) hx hb hts in_X1 hown hK hP (xs_0 hP) (by decide) (by decide) rfl (xE_8 (xs_0 hP)) 18 (by decide) q405 rfl rfl dX1_divisionWhy_36 ?_
      refine x_some ev_1 ?_
      have hk_v_1 : kd K v_1 = 3 := hP.ty (xs_0 hP) (by decide) ev_1
      refine lv_iload_n hx hb dX1_divisionWhy_39 rfl (lv_at hl 1 rfl) ?_
      obtain ⟨j_2, hj_2, ej_2, v_3, ev_3, h⟩ := h
      refine x_aald3 hx hb hK hP hk_v_1 ej_2 hj_2 dX1_divisionWhy_40 ?_
      refine x_some ev_3 ?_
      have hk_v_3 : kd K v_3 = 2 := hP.ty hk_v_1 (by decide) ev_3
      refine lv_iload hx hb dX1_divisionWhy_41 (lv_at hl 2 rfl) ?_
      refine x_cV (k := 0) (As := [.ref (b + v_3), .int p4]) (rest := []) ⟨hx, hb, hml, hown, hts⟩ (mx1_divides l G b hole v_3 p4 K T hk_v_3 _ h) (cwV 2 hts (lw_V q892 q894 qs33 q118 q895) rfl rfl rfl cwx_X1_divides ⟨Nat.le_of_ble_eq_true rfl, Nat.le_of_ble_eq_true rfl⟩) (x_recv (CC := RX1) (ci := 0) hK hP (xs_0 hP) (by decide) (by decide) rfl (xE_8 (xs_0 hP))) hK hV hb0 hP hS rfl hl.1 rfl (Nat.le_of_ble_eq_true rfl) dX1_divisionWhy_43 ⟨by first | exact Nat.zero_le _ | (show _ + _ ≤ Z - kc K0; omega), by first | exact Nat.zero_le _ | (show _ + _ ≤ Y - ks K0; omega)⟩ (fun r_4 T1 K1 H locs h hle1 hc1 hs1 hP hS => ?_)
      obtain ⟨h, hKe⟩ := h
      rw [hKe] at hP
      generalize T1 = T_5 at h hP
      exact W.iret (v := r_4) hx hb hr (fun t ht hW => ⟨⟨r_4, T_5, K, rfl, ⟨h, rfl⟩, kle.rf, rfl, rfl, by rw [ht]; exact hP, va_K.moved hW.alike hK⟩, hS.F ht⟩) hS.2.2 dX1_divisionWhy_46
    · have h := h.2 c_7
      refine lv_iload hx hb dX1_divisionWhy_29 (lv_at hl 3 rfl) ?_
      refine lv_goto (tgt := 46) hx hb dX1_divisionWhy_31 (by decide) ?_
      exact W.iret (v := x5) hx hb hr (fun t ht hW => ⟨⟨x5, T, K, rfl, ⟨h, rfl⟩, kle.rf, rfl, rfl, by rw [ht]; exact hP, va_K.moved hW.alike hK⟩, hS.F ht⟩) hS.2.2 dX1_divisionWhy_46
  unfold wx1_divisionWhy at h
  refine lv_aload_n hx hb dX1_divisionWhy_0 rfl (lv_at hl 0 rfl) ?_
  refine lv_iload_n hx hb dX1_divisionWhy_1 rfl (lv_at hl 1 rfl) ?_
  refine lv_iload_n hx hb dX1_divisionWhy_2 rfl (lv_at hl 2 rfl) ?_
  refine lv_if_eq (tgt := 18) hx hb dX1_divisionWhy_3 (by decide) (fun c_21 => ?_) (fun c_21 => ?_)
  · have h := h.1 c_21
    refine lv_iconst (v := 0) hx hb dX1_divisionWhy_18 (by decide) ?_
    refine x_cV (k := 0) (As := [.int p1, .int 0]) (rest := []) ⟨hx, hb, hml, hown, hts⟩ (mx1_why_2 l G b hole p1 0 K T  _ h) (cwV 2 hts (lw_V q773 q775 qs25 q118 q776) rfl rfl rfl cwx_X1_why_2 ⟨Nat.le_of_ble_eq_true rfl, Nat.le_of_ble_eq_true rfl⟩) (x_recv (CC := RX1) (ci := 0) hK hP (xs_0 hP) (by decide) (by decide) rfl (xE_8 (xs_0 hP))) hK hV hb0 hP hS rfl hl.1 rfl (Nat.le_of_ble_eq_true rfl) dX1_divisionWhy_19 ⟨by first | exact Nat.zero_le _ | (show _ + _ ≤ Z - kc K0; omega), by first | exact Nat.zero_le _ | (show _ + _ ≤ Y - ks K0; omega)⟩ (fun r_8 T1 K1 H locs h hle1 hc1 hs1 hP hS => ?_)
    obtain ⟨h, hTe, hKe⟩ := h
    rw [hTe, hKe] at hP
    refine lv_istore (lv' := [(5, .int r_8), (0, .ref (b + 0)), (1, .int p1), (2, .int p2), (3, .int p3), (4, .int p4)]) hx hb dX1_divisionWhy_22 hl (by decide) rfl (fun ls hl => ?_)
    exact J24 _ _ _ _ _ h  hP hS (lv_sub hl [1, 4, 5, 0] rfl)
  · have h := h.2 c_21
    refine lv_iload hx hb dX1_divisionWhy_6 (lv_at hl 4 rfl) ?_
    refine x_cS (As := [.int p4]) (rest := [.int p1, .ref (b + 0)]) ⟨hx, hb, hml, hown, hts⟩ (mx1_isSet l G b hole p4 K T  _ h) (va_cwS 1 hts (lw_S q889 q890 q118 q891) rfl rfl rfl cwx_X1_isSet ⟨Nat.le_of_ble_eq_true rfl, Nat.le_of_ble_eq_true rfl⟩) hK hV hb0 hP hS rfl hl.1 rfl (Nat.le_of_ble_eq_true rfl) dX1_divisionWhy_8 ⟨by first | exact Nat.zero_le _ | (show _ + _ ≤ Z - kc K0; omega), by first | exact Nat.zero_le _ | (show _ + _ ≤ Y - ks K0; omega)⟩ (fun r_11 T1 K1 H locs h hle1 hc1 hs1 hP hS => ?_)
    obtain ⟨h, hTe, hKe⟩ := h
    rw [hTe, hKe] at hP
    refine lv_if_eq (tgt := 18) hx hb dX1_divisionWhy_11 (by decide) (fun c_20 => ?_) (fun c_20 => ?_)
    · have h := h.1 c_20
      refine lv_iconst (v := 0) hx hb dX1_divisionWhy_18 (by decide) ?_
      refine x_cV (k := 0) (As := [.int p1, .int 0]) (rest := []) ⟨hx, hb, hml, hown, hts⟩ (mx1_why_2 l G b hole p1 0 K T  _ h) (cwV 2 hts (lw_V q773 q775 qs25 q118 q776) rfl rfl rfl cwx_X1_why_2 ⟨Nat.le_of_ble_eq_true rfl, Nat.le_of_ble_eq_true rfl⟩) (x_recv (CC := RX1) (ci := 0) hK hP (xs_0 hP) (by decide) (by decide) rfl (xE_8 (xs_0 hP))) hK hV hb0 hP hS rfl hl.1 rfl (Nat.le_of_ble_eq_true rfl) dX1_divisionWhy_19 ⟨by first | exact Nat.zero_le _ | (show _ + _ ≤ Z - kc K0; omega), by first | exact Nat.zero_le _ | (show _ + _ ≤ Y - ks K0; omega)⟩ (fun r_14 T1 K1 H locs h hle1 hc1 hs1 hP hS => ?_)
      obtain ⟨h, hTe, hKe⟩ := h
      rw [hTe, hKe] at hP
      refine lv_istore (lv' := [(5, .int r_14), (0, .ref (b + 0)), (1, .int p1), (2, .int p2), (3, .int p3), (4, .int p4)]) hx hb dX1_divisionWhy_22 hl (by decide) rfl (fun ls hl => ?_)
      exact J24 _ _ _ _ _ h  hP hS (lv_sub hl [1, 4, 5, 0] rfl)
    · have h := h.2 c_20
      refine lv_iconst (v := 1) hx hb dX1_divisionWhy_14 (by decide) ?_
      refine lv_goto (tgt := 19) hx hb dX1_divisionWhy_15 (by decide) ?_
      refine x_cV (k := 0) (As := [.int p1, .int 1]) (rest := []) ⟨hx, hb, hml, hown, hts⟩ (mx1_why_2 l G b hole p1 1 K T  _ h) (cwV 2 hts (lw_V q773 q775 qs25 q118 q776) rfl rfl rfl cwx_X1_why_2 ⟨Nat.le_of_ble_eq_true rfl, Nat.le_of_ble_eq_true rfl⟩) (x_recv (CC := RX1) (ci := 0) hK hP (xs_0 hP) (by decide) (by decide) rfl (xE_8 (xs_0 hP))) hK hV hb0 hP hS rfl hl.1 rfl (Nat.le_of_ble_eq_true rfl) dX1_divisionWhy_19 ⟨by first | exact Nat.zero_le _ | (show _ + _ ≤ Z - kc K0; omega), by first | exact Nat.zero_le _ | (show _ + _ ≤ Y - ks K0; omega)⟩ (fun r_17 T1 K1 H locs h hle1 hc1 hs1 hP hS => ?_)
      obtain ⟨h, hTe, hKe⟩ := h
      rw [hTe, hKe] at hP
      refine lv_istore (lv' := [(5, .int r_17), (0, .ref (b + 0)), (1, .int p1), (2, .int p2), (3, .int p3), (4, .int p4)]) hx hb dX1_divisionWhy_22 hl (by decide) rfl (fun ls hl => ?_)
      exact J24 _ _ _ _ _ h  hP hS (lv_sub hl [1, 4, 5, 0] rfl)
theorem cwx_X1_divided : yX1_divided.cls = RX1 ∧ yX1_divided.cls ≠ "java/lang/invoke/MethodHandle" ∧ yX1_divided.cls ≠ "java/lang/invoke/VarHandle" ∧ (parseMethodDescriptor yX1_divided.desc).map (fun d => d.parameters.length) = some 3 := by decide +kernel
def wx1_divided_b63 (p1 : Int32) (p2 : Int32) (p3 : Int32) (Z Y : Nat) (post : Int32 → XT → XK → Prop) (R63 : Int32 → Int32 → Prop) (x5 : Nat) (x6 : Int32) (x4 : Int32) (x7 : Int32) (K : XK) (T : XT) : Prop :=
      ((x6 ≤ x7 →
        ((¬ p3 = 0 →
          ((¬ p3 = 1 →
            ((¬ p3 = 2 →
              post (xi T 6 6) T (kset K Z Y)) ∧
             (p3 = 2 →
              post x4 T (kset K Z Y)))) ∧
           (p3 = 1 →
            post (xi T 8 2) T (kset K Z Y)))) ∧
         (p3 = 0 →
          post (xi T 6 5) T (kset K Z Y)))) ∧
       (¬ (x6 ≤ x7) →
        ∃ j_4 : Nat, j_4 < kl K x5 ∧ x7 = nI j_4 ∧ ∃ v_5 : Nat, xr T x5 j_4 = some v_5 ∧
        ∀ x4_6 : Int32, x4_6 = (x4 + (xi T v_5 2)) →
        ∀ x7_7 : Int32, x7_7 = x7 + 1 →
        R63 x4_6 x7_7))
def wx1_divided_l63 (p1 : Int32) (p2 : Int32) (p3 : Int32) (Z Y : Nat) (post : Int32 → XT → XK → Prop) (x5 : Nat) (x6 : Int32) (x4 : Int32) (x7 : Int32) (K : XK) (T : XT) : Prop := wLoop (fun (R : ((Int32) × (Int32)) → Prop) (v : (Int32) × (Int32)) => wx1_divided_b63 p1 p2 p3 Z Y post (fun x4 x7 => R (x4, x7)) x5 x6 v.1 v.2 K T) (x4, x7)
def wx1_divided_j43 (p1 : Int32) (p2 : Int32) (p3 : Int32) (Z Y : Nat) (post : Int32 → XT → XK → Prop)  (K : XK) (T : XT) : Prop :=
    ∀ x6_9 : Int32, x6_9 = (nI 8) →
    wx1_divided_l63 p1 p2 p3 Z Y post 7 x6_9 0 0 K T
def wx1_divided (p1 : Int32) (p2 : Int32) (p3 : Int32) (K0 : XK) (T : XT) (Z Y : Nat) (post : Int32 → XT → XK → Prop) : Prop :=
  kc K0 + 1 ≤ Z ∧ ks K0 + 1 ≤ Y ∧ ∀ K_10 : XK, K_10 = knew K0 1 1 1 → ∀ T_11 : XT, T_11 = xnil T (kz K0) →
  ∃ j_12 : Nat, j_12 < kl K_10 (kz K0) ∧ 0 = nI j_12 ∧ ∀ T_13 : XT, T_13 = xwi T_11 (kz K0) j_12 p1 →
  wx1_is (kz K0) K_10 T_13 (fun r_14 =>
  ((r_14 = 0 →
    wx1_divisionWhy 0 1 p1 p2 K_10 T_13 (fun r_17 T_18 =>
    wx1_isRefused r_17 K_10 T_18 (fun r_20 T_21 =>
    ((r_20 = 0 →
      wx1_divided_j43 p1 p2 p3 Z Y post  K_10 T_21) ∧
     (¬ (r_20 = 0) →
      post (-1) T_21 (kset K_10 Z Y)))))) ∧
   (¬ (r_14 = 0) →
    wx1_in p3 0 3 K_10 T_13 (fun r_24 =>
    ((r_24 = 0 →
      wx1_divisionWhy 0 1 p1 p2 K_10 T_13 (fun r_27 T_28 =>
      wx1_isRefused r_27 K_10 T_28 (fun r_30 T_31 =>
      ((r_30 = 0 →
        wx1_divided_j43 p1 p2 p3 Z Y post  K_10 T_31) ∧
       (¬ (r_30 = 0) →
        post (-1) T_31 (kset K_10 Z Y)))))) ∧
     (¬ (r_24 = 0) →
      wx1_divisionWhy 1 1 p1 p2 K_10 T_13 (fun r_34 T_35 =>
      wx1_isRefused r_34 K_10 T_35 (fun r_37 T_38 =>
      ((r_37 = 0 →
        wx1_divided_j43 p1 p2 p3 Z Y post  K_10 T_38) ∧
       (¬ (r_37 = 0) →
        post (-1) T_38 (kset K_10 Z Y)))))))))))
set_option maxHeartbeats 4000000 in
theorem mx1_divided (l : Launch) (G : XG) (b : Nat) (hole : Nat → Prop) (p1 : Int32) (p2 : Int32) (p3 : Int32) (K0 : XK) (T : XT) (Z Y : Nat) (hZ : kc K0 ≤ Z) (hY : ks K0 ≤ Y)  (post : Int32 → XT → XK → Prop) (h : wx1_divided p1 p2 p3 K0 T Z Y post) : Met l yX1_divided (ws_ yX1_divided cX1_divided 9 (some .int)) ({ frames := 9, cells := (Z - kc K0), slots := (Y - ks K0), locals := 216 } : Room) (xPc G b hole [.ref (b + 0), .int p1, .int p2, .int p3] K0 T) (xQ G b hole K0 (Z - kc K0) (Y - ks K0) (ρ := Int32) eI (fun r T1 K1 => post r T1 K1)) (Z - kc K0) (Y - ks K0) (xA b hole) := by
  refine Met.ofW (cc := cX1_divided) (maxL := 9) (ret := (some .int)) (by decide) rfl ?_
  intro p e s m args below meth c s₁ B hml hv
  obtain ⟨rfl, hP, hK, hV⟩ := hv
  have hx := B.exec
  have hb := B.bytes
  have hr := B.returns
  have hts := atoms_spec (ws := ws_ yX1_divided cX1_divided 9 (some .int)) B.pre
  have hts : ∀ w ∈ lw_all, w.before _ s = true := fun w h => hts w (List.mem_cons_of_mem _ h)
  have hown : s.vm.findClass RX1 = some m.cls := findClass_of_methodNamed B.named
  have hlocks := B.notSynchronized
  have hb0 : b ≤ s.heap.size := by rw [hP.2.2.2]; exact Nat.le_add_right _ _
  have hS : va_S (xA b hole) s.heap s.heap [] := va_S.rf
  have hl := lv_entry ([.ref (b + 0), .int p1, .int p2, .int p3]) (n := 9) (Nat.le_of_ble_eq_true rfl)
  rw [lg_entry_eq]
  generalize (lg_sl ([.ref (b + 0), .int p1, .int p2, .int p3]) ++ List.replicate (9 - (lg_sl ([.ref (b + 0), .int p1, .int p2, .int p3])).length) Slot.unset).toArray = ls at hl ⊢
  have hl : lv_has ls 9 [(0, .ref (b + 0)), (1, .int p1), (2, .int p2), (3, .int p3)] := hl
  have hle0 : kle K0 K0 := kle.rf
  have L63 : ∀ (x5 : Nat) (x6 : Int32) (x4 : Int32) (x7 : Int32) (T : XT) (K : XK) (cn sn : Nat) (H : Heap) (locs : List Loc) (ls : Array Slot), wx1_divided_l63 p1 p2 p3 Z Y post x5 x6 x4 x7 K T → kle K0 K → kc K0 + cn = kc K → ks K0 + sn = ks K → kc K ≤ Z → ks K ≤ Y → (kd K x5 = 5) → xW G b hole K T H → va_S (xA b hole) s.heap H locs → lv_has ls 9 [(0, .ref (b + 0)), (3, .int p3), (4, .int x4), (5, .ref (b + x5)), (6, .int x6), (7, .int x7)] → W p l e (headSpec (ws_ yX1_divided cX1_divided 9 (some .int)) ({ frames := 9, cells := (Z - kc K0), slots := (Y - ks K0), locals := 216 } : Room)).room s m ([.ref (b + 0), .int p1, .int p2, .int p3] : List Value).toArray below meth c H locs cn sn (MQ below (xQ G b hole K0 (Z - kc K0) (Y - ks K0) (ρ := Int32) eI (fun r T1 K1 => post r T1 K1)) ([.ref (b + 0), .int p1, .int p2, .int p3] : List Value).toArray s (Z - kc K0) (Y - ks K0) (xA b hole)) (F0 m 63 ls []) := by
    intro x5 x6 x4 x7 T K cn sn H locs ls h hle0 hcn hsn hzz hyy hk_x5 hP hS hl
    obtain ⟨I63, n63, hI, hstep63⟩ := h
    induction n63 using Nat.strongRecOn generalizing x4 x7 H locs ls with
    | ind n63 ih63 =>
      have h : wx1_divided_b63 p1 p2 p3 Z Y post (fun x4 x7 => ∃ mm, mm < n63 ∧ I63 mm (x4, x7)) x5 x6 x4 x7 K T := hstep63 n63 _ hI
      clear hI
      unfold wx1_divided_b63 at h
      refine lv_iload hx hb dX1_divided_63 (lv_at hl 5 rfl) ?_
      refine lv_iload hx hb dX1_divided_65 (lv_at hl 4 rfl) ?_
      refine lv_icmp_ge (tgt := 93) hx hb dX1_divided_67 (by decide) (fun c_8 => ?_) (fun c_8 => ?_)
      · have h := h.1 c_8
        refine lv_iload_n hx hb dX1_divided_93 rfl (lv_at hl 1 rfl) ?_
        refine lv_if_ne (tgt := 107) hx hb dX1_divided_94 (by decide) (fun c_3 => ?_) (fun c_3 => ?_)
        · have h := h.1 c_3
          refine lv_iload_n hx hb dX1_divided_107 rfl (lv_at hl 1 rfl) ?_
          refine lv_iconst (v := 1) hx hb dX1_divided_108 (by decide) ?_
          refine lv_icmp_ne (tgt := 125) hx hb dX1_divided_109 (by decide) (fun c_2 => ?_) (fun c_2 => ?_)
          · have h := h.1 c_2
            refine lv_iload_n hx hb dX1_divided_125 rfl (lv_at hl 1 rfl) ?_
            refine lv_iconst (v := 2) hx hb dX1_divided_126 (by decide) ?_
            refine lv_icmp_ne (tgt := 135) hx hb dX1_divided_127 (by decide) (fun c_1 => ?_) (fun c_1 => ?_)
            · have h := h.1 c_1
              refine lv_aload_n hx hb dX1_divided_135 rfl (lv_at hl 0 rfl) ?_
              refine x_get (CC := RX1) (TT := TX1) (N := 26) (ci := 0) (v := .ref (b + 6)) hx hb hts in_X1 hown hK hP (xs_0 hP) (by decide) (by decide) rfl (xE_8 (xs_0 hP)) 8 (by decide) q393 rfl rfl dX1_divided_136 ?_
              refine x_getN (CC := RX3) (TT := TX3) (N := 9) (ci := 2) (v := .int (xi T 6 6)) hx hb hts in_X3 hown hK hV.1 hP (xs_6 hP) (by decide) (by decide) rfl (xE_10 (xs_6 hP)) 6 (by decide) q190 rfl rfl dX1_divided_139 ?_
              refine W.widen (k := Z - kc K0) (n := Y - ks K0) (by omega) (by omega) ?_
              exact W.iret (v := (xi T 6 6)) hx hb hr (fun t ht hW => ⟨⟨(xi T 6 6), T, (kset K Z Y), rfl, h, hle0, (by show Z = _; omega), (by show Y = _; omega), by rw [ht]; exact hP, va_K.moved hW.alike hK⟩, hS.F ht⟩) hS.2.2 dX1_divided_142
            · have h := h.2 c_1
              refine lv_iload hx hb dX1_divided_130 (lv_at hl 2 rfl) ?_
              refine lv_goto (tgt := 142) hx hb dX1_divided_132 (by decide) ?_
              refine W.widen (k := Z - kc K0) (n := Y - ks K0) (by omega) (by omega) ?_
              exact W.iret (v := x4) hx hb hr (fun t ht hW => ⟨⟨x4, T, (kset K Z Y), rfl, h, hle0, (by show Z = _; omega), (by show Y = _; omega), by rw [ht]; exact hP, va_K.moved hW.alike hK⟩, hS.F ht⟩) hS.2.2 dX1_divided_142
          · have h := h.2 c_2
            refine lv_aload_n hx hb dX1_divided_112 rfl (lv_at hl 0 rfl) ?_
            refine x_get (CC := RX1) (TT := TX1) (N := 26) (ci := 0) (v := .ref (b + 6)) hx hb hts in_X1 hown hK hP (xs_0 hP) (by decide) (by decide) rfl (xE_8 (xs_0 hP)) 8 (by decide) q393 rfl rfl dX1_divided_113 ?_
            refine x_getN (CC := RX3) (TT := TX3) (N := 9) (ci := 2) (v := .ref (b + 8)) hx hb hts in_X3 hown hK hV.1 hP (xs_6 hP) (by decide) (by decide) rfl (xE_10 (xs_6 hP)) 1 (by decide) q183 rfl rfl dX1_divided_116 ?_
            refine x_getN (CC := RX2) (TT := TX2) (N := 3) (ci := 1) (v := .int (xi T 8 2)) hx hb hts in_X2 hown hK hV.1 hP (xs_8 hP) (by decide) (by decide) rfl (xE_9 (xs_8 hP)) 2 (by decide) q162 rfl rfl dX1_divided_119 ?_
            refine lv_goto (tgt := 142) hx hb dX1_divided_122 (by decide) ?_
            refine W.widen (k := Z - kc K0) (n := Y - ks K0) (by omega) (by omega) ?_
            exact W.iret (v := (xi T 8 2)) hx hb hr (fun t ht hW => ⟨⟨(xi T 8 2), T, (kset K Z Y), rfl, h, hle0, (by show Z = _; omega), (by show Y = _; omega), by rw [ht]; exact hP, va_K.moved hW.alike hK⟩, hS.F ht⟩) hS.2.2 dX1_divided_142
        · have h := h.2 c_3
          refine lv_aload_n hx hb dX1_divided_97 rfl (lv_at hl 0 rfl) ?_
          refine x_get (CC := RX1) (TT := TX1) (N := 26) (ci := 0) (v := .ref (b + 6)) hx hb hts in_X1 hown hK hP (xs_0 hP) (by decide) (by decide) rfl (xE_8 (xs_0 hP)) 8 (by decide) q393 rfl rfl dX1_divided_98 ?_
          refine x_getN (CC := RX3) (TT := TX3) (N := 9) (ci := 2) (v := .int (xi T 6 5)) hx hb hts in_X3 hown hK hV.1 hP (xs_6 hP) (by decide) (by decide) rfl (xE_10 (xs_6 hP)) 5 (by decide) q188 rfl rfl dX1_divided_101 ?_
          refine lv_goto (tgt := 142) hx hb dX1_divided_104 (by decide) ?_
          refine W.widen (k := Z - kc K0) (n := Y - ks K0) (by omega) (by omega) ?_
          exact W.iret (v := (xi T 6 5)) hx hb hr (fun t ht hW => ⟨⟨(xi T 6 5), T, (kset K Z Y), rfl, h, hle0, (by show Z = _; omega), (by show Y = _; omega), by rw [ht]; exact hP, va_K.moved hW.alike hK⟩, hS.F ht⟩) hS.2.2 dX1_divided_142
      · have h := h.2 c_8
        refine lv_aload hx hb dX1_divided_70 (lv_at hl 3 rfl) ?_
        refine lv_iload hx hb dX1_divided_72 (lv_at hl 5 rfl) ?_
        obtain ⟨j_4, hj_4, ej_4, v_5, ev_5, h⟩ := h
        refine x_aald5 hx hb hK hP hk_x5 ej_4 hj_4 dX1_divided_74 ?_
        refine x_some ev_5 ?_
        have hk_v_5 : kd K v_5 = 9 := hP.ty hk_x5 (by decide) ev_5
        refine lv_astore (lv' := [(8, .ref (b + v_5)), (0, .ref (b + 0)), (3, .int p3), (4, .int x4), (5, .ref (b + x5)), (6, .int x6), (7, .int x7)]) hx hb dX1_divided_75 hl (by decide) rfl (fun ls hl => ?_)
        refine lv_iload hx hb dX1_divided_77 (lv_at hl 3 rfl) ?_
        refine lv_aload hx hb dX1_divided_79 (lv_at hl 0 rfl) ?_
        refine x_getN (CC := RX2) (TT := TX2) (N := 3) (ci := 1) (v := .int (xi T v_5 2)) hx hb hts in_X2 hown hK hV.1 hP hk_v_5 (by decide) (by decide) rfl (xE_9 hk_v_5) 2 (by decide) q162 rfl rfl dX1_divided_81 ?_
        refine lv_iadd hx hb dX1_divided_84 ?_
        refine lv_topi (fun x4_6 ex4_6 => ?_)
        have h := h x4_6 ex4_6
        refine lv_istore (lv' := [(4, .int x4_6), (8, .ref (b + v_5)), (0, .ref (b + 0)), (3, .int p3), (5, .ref (b + x5)), (6, .int x6), (7, .int x7)]) hx hb dX1_divided_85 hl (by decide) rfl (fun ls hl => ?_)
        obtain ⟨x7_7, ex7_7⟩ : ∃ y : Int32, y = x7 + 1 := ⟨_, rfl⟩
        have h := h x7_7 ex7_7
        refine lv_iinc (v := x7_7) (lv' := [(7, .int x7_7), (4, .int x4_6), (8, .ref (b + v_5)), (0, .ref (b + 0)), (3, .int p3), (5, .ref (b + x5)), (6, .int x6)]) hx hb dX1_divided_87 hl (k := 6) rfl (by rw [ex7_7]; rfl) (by decide) rfl (fun ls hl => ?_)
        refine lv_goto (tgt := 63) hx hb dX1_divided_90 (by decide) ?_
        obtain ⟨mm, hmm, h⟩ := h
        exact ih63 mm hmm _ _ _ _ _  hP hS (lv_sub hl [3, 4, 1, 5, 6, 0] rfl) h
  have J43 : ∀  (T : XT) (K : XK) (cn sn : Nat) (H : Heap) (locs : List Loc) (ls : Array Slot), wx1_divided_j43 p1 p2 p3 Z Y post  K T → kle K0 K → kc K0 + cn = kc K → ks K0 + sn = ks K → kc K ≤ Z → ks K ≤ Y → xW G b hole K T H → va_S (xA b hole) s.heap H locs → lv_has ls 9 [(0, .ref (b + 0)), (3, .int p3)] → W p l e (headSpec (ws_ yX1_divided cX1_divided 9 (some .int)) ({ frames := 9, cells := (Z - kc K0), slots := (Y - ks K0), locals := 216 } : Room)).room s m ([.ref (b + 0), .int p1, .int p2, .int p3] : List Value).toArray below meth c H locs cn sn (MQ below (xQ G b hole K0 (Z - kc K0) (Y - ks K0) (ρ := Int32) eI (fun r T1 K1 => post r T1 K1)) ([.ref (b + 0), .int p1, .int p2, .int p3] : List Value).toArray s (Z - kc K0) (Y - ks K0) (xA b hole)) (F0 m 43 ls []) := by
    intro  T K cn sn H locs ls h hle0 hcn hsn hzz hyy hP hS hl
    unfold wx1_divided_j43 at h
    refine lv_iconst (v := 0) hx hb dX1_divided_43 (by decide) ?_
    refine lv_istore (lv' := [(4, .int 0), (0, .ref (b + 0)), (3, .int p3)]) hx hb dX1_divided_44 hl (by decide) rfl (fun ls hl => ?_)
    refine lv_aload_n hx hb dX1_divided_46 rfl (lv_at hl 1 rfl) ?_
    refine x_get (CC := RX1) (TT := TX1) (N := 26) (ci := 0) (v := .ref (b + 6)) hx hb hts in_X1 hown hK hP (xs_0 hP) (by decide) (by decide) rfl (xE_8 (xs_0 hP)) 8 (by decide) q393 rfl rfl dX1_divided_47 ?_
    refine x_getN (CC := RX3) (TT := TX3) (N := 9) (ci := 2) (v := .ref (b + 7)) hx hb hts in_X3 hown hK hV.1 hP (xs_6 hP) (by decide) (by decide) rfl (xE_10 (xs_6 hP)) 0 (by decide) q181 rfl rfl dX1_divided_50 ?_
    refine lv_astore (lv' := [(5, .ref (b + 7)), (4, .int 0), (0, .ref (b + 0)), (3, .int p3)]) hx hb dX1_divided_53 hl (by decide) rfl (fun ls hl => ?_)
    refine lv_aload hx hb dX1_divided_55 (lv_at hl 0 rfl) ?_
    refine x_alen5 hx hb hK hP (xs_7 hP) dX1_divided_57 ?_
    rw [xl_7 hP]
    refine lv_topi (fun x6_9 ex6_9 => ?_)
    have h := h x6_9 ex6_9
    refine lv_istore (lv' := [(6, .int x6_9), (5, .ref (b + 7)), (4, .int 0), (0, .ref (b + 0)), (3, .int p3)]) hx hb dX1_divided_58 hl (by decide) rfl (fun ls hl => ?_)
    refine lv_iconst (v := 0) hx hb dX1_divided_60 (by decide) ?_
    refine lv_istore (lv' := [(7, .int 0), (6, .int x6_9), (5, .ref (b + 7)), (4, .int 0), (0, .ref (b + 0)), (3, .int p3)]) hx hb dX1_divided_61 hl (by decide) rfl (fun ls hl => ?_)
    exact L63 _ _ _ _ _ _ _ _ _ _ _ h hle0 hcn hsn hzz hyy (xs_7 hP) hP hS (lv_sub hl [4, 5, 3, 2, 1, 0] rfl)
  have hcn : kc K0 + 0 = kc K0 := rfl
  have hsn : ks K0 + 0 = ks K0 := rfl
  have hzz := hZ
  have hyy := hY
  unfold wx1_divided at h
  refine lv_aload_n hx hb dX1_divided_0 rfl (lv_at hl 0 rfl) ?_
  refine lv_aload_n hx hb dX1_divided_1 rfl (lv_at hl 0 rfl) ?_
  refine lv_iconst (v := 1) hx hb dX1_divided_2 (by decide) ?_
  obtain ⟨hc1, hs1, h⟩ := h
  obtain ⟨K_10, eK_10⟩ : ∃ z : XK, z = knew K0 1 1 1 := ⟨_, rfl⟩
  obtain ⟨T_11, eT_11⟩ : ∃ z : XT, z = xnil T (kz K0) := ⟨_, rfl⟩
  have h := h K_10 eK_10 T_11 eT_11
  have hle1 : kle K0 K_10 := by rw [eK_10]; exact kle.new hP.2.2.1 _ _ _
  refine x_newai (N := 1) hx hb hts q170 hK hP hS (by decide) (by decide) (by show _ + 1 ≤ Z - kc K0; omega) (by show _ + _ ≤ Y - ks K0; omega) dX1_divided_3 (fun H hP hS => ?_)
  rw [← eK_10, ← eT_11] at hP
  have hk_n10 : kd K_10 (kz K0) = 1 := by rw [eK_10]; exact knew_kd
  have hle0 := hle0.tr hle1
  have hcn : kc K0 + (0 + 1) = kc K_10 := by rw [eK_10]; show _ = kc K0 + 1; omega
  have hsn : ks K0 + (0 + 1) = ks K_10 := by rw [eK_10]; show _ = ks K0 + 1; omega
  have hzz : kc K_10 ≤ Z := by rw [eK_10]; exact hc1
  have hyy : ks K_10 ≤ Y := by rw [eK_10]; exact hs1
  refine lv_dup hx hb dX1_divided_5 rfl ?_
  refine lv_iconst (v := 0) hx hb dX1_divided_6 (by decide) ?_
  refine lv_iload_n hx hb dX1_divided_7 rfl (lv_at hl 1 rfl) ?_
  obtain ⟨j_12, hj_12, ej_12, h⟩ := h
  obtain ⟨T_13, eT_13⟩ : ∃ z : XT, z = xwi T_11 (kz K0) j_12 p1 := ⟨_, rfl⟩
  have h := h T_13 eT_13
  refine x_iast hx hb hK hP hS hk_n10 ej_12 hj_12 dX1_divided_8 (fun H locs hP hS => ?_)
  rw [← eT_13] at hP
  refine x_cS (As := [.ref (b + (kz K0))]) (rest := [.ref (b + 0), .ref (b + 0)]) ⟨hx, hb, hml, hown, hts⟩ (mx1_is l G b hole (kz K0) K_10 T_13 hk_n10 _ h) (va_cwS 1 hts (lw_S q793 q794 q118 q795) rfl rfl rfl cwx_X1_is ⟨Nat.le_of_ble_eq_true rfl, Nat.le_of_ble_eq_true rfl⟩) hK hV hb0 hP hS rfl hl.1 rfl (Nat.le_of_ble_eq_true rfl) dX1_divided_9 ⟨by first | exact Nat.zero_le _ | (show _ + _ ≤ Z - kc K0; omega), by first | exact Nat.zero_le _ | (show _ + _ ≤ Y - ks K0; omega)⟩ (fun r_14 T1 K1 H locs h hle1 hc1 hs1 hP hS => ?_)
  obtain ⟨h, hTe, hKe⟩ := h
  rw [hTe, hKe] at hP
  refine lv_if_eq (tgt := 28) hx hb dX1_divided_12 (by decide) (fun c_42 => ?_) (fun c_42 => ?_)
  · have h := h.1 c_42
    refine lv_iconst (v := 0) hx hb dX1_divided_28 (by decide) ?_
    refine lv_iconst (v := 1) hx hb dX1_divided_29 (by decide) ?_
    refine lv_iload_n hx hb dX1_divided_30 rfl (lv_at hl 1 rfl) ?_
    refine lv_iload_n hx hb dX1_divided_31 rfl (lv_at hl 2 rfl) ?_
    refine x_cV (k := 0) (As := [.int 0, .int 1, .int p1, .int p2]) (rest := [.ref (b + 0)]) ⟨hx, hb, hml, hown, hts⟩ (mx1_divisionWhy l G b hole 0 1 p1 p2 K_10 T_13  _ h) (cwV 4 hts (lw_V q885 q887 qs32 q118 q888) rfl rfl rfl cwx_X1_divisionWhy ⟨Nat.le_of_ble_eq_true rfl, Nat.le_of_ble_eq_true rfl⟩) (x_recv (CC := RX1) (ci := 0) hK hP (xs_0 hP) (by decide) (by decide) rfl (xE_8 (xs_0 hP))) hK hV hb0 hP hS rfl hl.1 rfl (Nat.le_of_ble_eq_true rfl) dX1_divided_32 ⟨by first | exact Nat.zero_le _ | (show _ + _ ≤ Z - kc K0; omega), by first | exact Nat.zero_le _ | (show _ + _ ≤ Y - ks K0; omega)⟩ (fun r_17 T1 K1 H locs h hle1 hc1 hs1 hP hS => ?_)
    obtain ⟨h, hKe⟩ := h
    rw [hKe] at hP
    generalize T1 = T_18 at h hP
    refine x_cV (k := 0) (As := [.int r_17]) (rest := []) ⟨hx, hb, hml, hown, hts⟩ (mx1_isRefused l G b hole r_17 K_10 T_18  _ h) (cwV 1 hts (lw_V q777 q779 qs26 q118 q780) rfl rfl rfl cwx_X1_isRefused ⟨Nat.le_of_ble_eq_true rfl, Nat.le_of_ble_eq_true rfl⟩) (x_recv (CC := RX1) (ci := 0) hK hP (xs_0 hP) (by decide) (by decide) rfl (xE_8 (xs_0 hP))) hK hV hb0 hP hS rfl hl.1 rfl (Nat.le_of_ble_eq_true rfl) dX1_divided_35 ⟨by first | exact Nat.zero_le _ | (show _ + _ ≤ Z - kc K0; omega), by first | exact Nat.zero_le _ | (show _ + _ ≤ Y - ks K0; omega)⟩ (fun r_20 T1 K1 H locs h hle1 hc1 hs1 hP hS => ?_)
    obtain ⟨h, hKe⟩ := h
    rw [hKe] at hP
    generalize T1 = T_21 at h hP
    refine lv_if_eq (tgt := 43) hx hb dX1_divided_38 (by decide) (fun c_23 => ?_) (fun c_23 => ?_)
    · have h := h.1 c_23
      exact J43 _ _ _ _ _ _ _ h hle0 hcn hsn hzz hyy hP hS (lv_sub hl [0, 3] rfl)
    · have h := h.2 c_23
      refine lv_iconst (v := (-1)) hx hb dX1_divided_41 (by decide) ?_
      refine W.widen (k := Z - kc K0) (n := Y - ks K0) (by omega) (by omega) ?_
      exact W.iret (v := (-1)) hx hb hr (fun t ht hW => ⟨⟨(-1), T_21, (kset K_10 Z Y), rfl, h, hle0, (by show Z = _; omega), (by show Y = _; omega), by rw [ht]; exact hP, va_K.moved hW.alike hK⟩, hS.F ht⟩) hS.2.2 dX1_divided_42
  · have h := h.2 c_42
    refine lv_iload_n hx hb dX1_divided_15 rfl (lv_at hl 3 rfl) ?_
    refine lv_iconst (v := 0) hx hb dX1_divided_16 (by decide) ?_
    refine lv_iconst (v := 3) hx hb dX1_divided_17 (by decide) ?_
    refine x_cS (As := [.int p3, .int 0, .int 3]) (rest := [.ref (b + 0), .ref (b + 0)]) ⟨hx, hb, hml, hown, hts⟩ (mx1_in l G b hole p3 0 3 K_10 T_13  _ h) (va_cwS 3 hts (lw_S q483 q484 q118 q485) rfl rfl rfl cwx_X1_in ⟨Nat.le_of_ble_eq_true rfl, Nat.le_of_ble_eq_true rfl⟩) hK hV hb0 hP hS rfl hl.1 rfl (Nat.le_of_ble_eq_true rfl) dX1_divided_18 ⟨by first | exact Nat.zero_le _ | (show _ + _ ≤ Z - kc K0; omega), by first | exact Nat.zero_le _ | (show _ + _ ≤ Y - ks K0; omega)⟩ (fun r_24 T1 K1 H locs h hle1 hc1 hs1 hP hS => ?_)
    obtain ⟨h, hTe, hKe⟩ := h
    rw [hTe, hKe] at hP
    refine lv_if_eq (tgt := 28) hx hb dX1_divided_21 (by decide) (fun c_41 => ?_) (fun c_41 => ?_)
    · have h := h.1 c_41
      refine lv_iconst (v := 0) hx hb dX1_divided_28 (by decide) ?_
      refine lv_iconst (v := 1) hx hb dX1_divided_29 (by decide) ?_
      refine lv_iload_n hx hb dX1_divided_30 rfl (lv_at hl 1 rfl) ?_
      refine lv_iload_n hx hb dX1_divided_31 rfl (lv_at hl 2 rfl) ?_
      refine x_cV (k := 0) (As := [.int 0, .int 1, .int p1, .int p2]) (rest := [.ref (b + 0)]) ⟨hx, hb, hml, hown, hts⟩ (mx1_divisionWhy l G b hole 0 1 p1 p2 K_10 T_13  _ h) (cwV 4 hts (lw_V q885 q887 qs32 q118 q888) rfl rfl rfl cwx_X1_divisionWhy ⟨Nat.le_of_ble_eq_true rfl, Nat.le_of_ble_eq_true rfl⟩) (x_recv (CC := RX1) (ci := 0) hK hP (xs_0 hP) (by decide) (by decide) rfl (xE_8 (xs_0 hP))) hK hV hb0 hP hS rfl hl.1 rfl (Nat.le_of_ble_eq_true rfl) dX1_divided_32 ⟨by first | exact Nat.zero_le _ | (show _ + _ ≤ Z - kc K0; omega), by first | exact Nat.zero_le _ | (show _ + _ ≤ Y - ks K0; omega)⟩ (fun r_27 T1 K1 H locs h hle1 hc1 hs1 hP hS => ?_)
      obtain ⟨h, hKe⟩ := h
      rw [hKe] at hP
      generalize T1 = T_28 at h hP
      refine x_cV (k := 0) (As := [.int r_27]) (rest := []) ⟨hx, hb, hml, hown, hts⟩ (mx1_isRefused l G b hole r_27 K_10 T_28  _ h) (cwV 1 hts (lw_V q777 q779 qs26 q118 q780) rfl rfl rfl cwx_X1_isRefused ⟨Nat.le_of_ble_eq_true rfl, Nat.le_of_ble_eq_true rfl⟩) (x_recv (CC := RX1) (ci := 0) hK hP (xs_0 hP) (by decide) (by decide) rfl (xE_8 (xs_0 hP))) hK hV hb0 hP hS rfl hl.1 rfl (Nat.le_of_ble_eq_true rfl) dX1_divided_35 ⟨by first | exact Nat.zero_le _ | (show _ + _ ≤ Z - kc K0; omega), by first | exact Nat.zero_le _ | (show _ + _ ≤ Y - ks K0; omega)⟩ (fun r_30 T1 K1 H locs h hle1 hc1 hs1 hP hS => ?_)
      obtain ⟨h, hKe⟩ := h
      rw [hKe] at hP
      generalize T1 = T_31 at h hP
      refine lv_if_eq (tgt := 43) hx hb dX1_divided_38 (by decide) (fun c_33 => ?_) (fun c_33 => ?_)
      · have h := h.1 c_33
        exact J43 _ _ _ _ _ _ _ h hle0 hcn hsn hzz hyy hP hS (lv_sub hl [0, 3] rfl)
      · have h := h.2 c_33
        refine lv_iconst (v := (-1)) hx hb dX1_divided_41 (by decide) ?_
        refine W.widen (k := Z - kc K0) (n := Y - ks K0) (by omega) (by omega) ?_
        exact W.iret (v := (-1)) hx hb hr (fun t ht hW => ⟨⟨(-1), T_31, (kset K_10 Z Y), rfl, h, hle0, (by show Z = _; omega), (by show Y = _; omega), by rw [ht]; exact hP, va_K.moved hW.alike hK⟩, hS.F ht⟩) hS.2.2 dX1_divided_42
    · have h := h.2 c_41
      refine lv_iconst (v := 1) hx hb dX1_divided_24 (by decide) ?_
      refine lv_goto (tgt := 29) hx hb dX1_divided_25 (by decide) ?_
      refine lv_iconst (v := 1) hx hb dX1_divided_29 (by decide) ?_
      refine lv_iload_n hx hb dX1_divided_30 rfl (lv_at hl 1 rfl) ?_
      refine lv_iload_n hx hb dX1_divided_31 rfl (lv_at hl 2 rfl) ?_
      refine x_cV (k := 0) (As := [.int 1, .int 1, .int p1, .int p2]) (rest := [.ref (b + 0)]) ⟨hx, hb, hml, hown, hts⟩ (mx1_divisionWhy l G b hole 1 1 p1 p2 K_10 T_13  _ h) (cwV 4 hts (lw_V q885 q887 qs32 q118 q888) rfl rfl rfl cwx_X1_divisionWhy ⟨Nat.le_of_ble_eq_true rfl, Nat.le_of_ble_eq_true rfl⟩) (x_recv (CC := RX1) (ci := 0) hK hP (xs_0 hP) (by decide) (by decide) rfl (xE_8 (xs_0 hP))) hK hV hb0 hP hS rfl hl.1 rfl (Nat.le_of_ble_eq_true rfl) dX1_divided_32 ⟨by first | exact Nat.zero_le _ | (show _ + _ ≤ Z - kc K0; omega), by first | exact Nat.zero_le _ | (show _ + _ ≤ Y - ks K0; omega)⟩ (fun r_34 T1 K1 H locs h hle1 hc1 hs1 hP hS => ?_)
      obtain ⟨h, hKe⟩ := h
      rw [hKe] at hP
      generalize T1 = T_35 at h hP
      refine x_cV (k := 0) (As := [.int r_34]) (rest := []) ⟨hx, hb, hml, hown, hts⟩ (mx1_isRefused l G b hole r_34 K_10 T_35  _ h) (cwV 1 hts (lw_V q777 q779 qs26 q118 q780) rfl rfl rfl cwx_X1_isRefused ⟨Nat.le_of_ble_eq_true rfl, Nat.le_of_ble_eq_true rfl⟩) (x_recv (CC := RX1) (ci := 0) hK hP (xs_0 hP) (by decide) (by decide) rfl (xE_8 (xs_0 hP))) hK hV hb0 hP hS rfl hl.1 rfl (Nat.le_of_ble_eq_true rfl) dX1_divided_35 ⟨by first | exact Nat.zero_le _ | (show _ + _ ≤ Z - kc K0; omega), by first | exact Nat.zero_le _ | (show _ + _ ≤ Y - ks K0; omega)⟩ (fun r_37 T1 K1 H locs h hle1 hc1 hs1 hP hS => ?_)
      obtain ⟨h, hKe⟩ := h
      rw [hKe] at hP
      generalize T1 = T_38 at h hP
      refine lv_if_eq (tgt := 43) hx hb dX1_divided_38 (by decide) (fun c_40 => ?_) (fun c_40 => ?_)
      · have h := h.1 c_40
        exact J43 _ _ _ _ _ _ _ h hle0 hcn hsn hzz hyy hP hS (lv_sub hl [0, 3] rfl)
      · have h := h.2 c_40
        refine lv_iconst (v := (-1)) hx hb dX1_divided_41 (by decide) ?_
        refine W.widen (k := Z - kc K0) (n := Y - ks K0) (by omega) (by omega) ?_
        exact W.iret (v := (-1)) hx hb hr (fun t ht hW => ⟨⟨(-1), T_38, (kset K_10 Z Y), rfl, h, hle0, (by show Z = _; omega), (by show Y = _; omega), by rw [ht]; exact hP, va_K.moved hW.alike hK⟩, hS.F ht⟩) hS.2.2 dX1_divided_42
theorem cwx_X1_divides_2 : yX1_divides_2.cls = RX1 ∧ yX1_divides_2.cls ≠ "java/lang/invoke/MethodHandle" ∧ yX1_divides_2.cls ≠ "java/lang/invoke/VarHandle" ∧ (parseMethodDescriptor yX1_divides_2.desc).map (fun d => d.parameters.length) = some 2 := by decide +kernel
def wx1_divides_2_j49 (p1 : Int32) (p2 : Int32) (Z Y : Nat) (post : Int32 → XT → XK → Prop)  (K : XK) (T : XT) : Prop :=
    ((¬ (xi T 8 2) = 0 →
      post 0 T (kset K Z Y)) ∧
     ((xi T 8 2) = 0 →
      post 1 T (kset K Z Y)))
def wx1_divides_2 (p1 : Int32) (p2 : Int32) (K0 : XK) (T : XT) (Z Y : Nat) (post : Int32 → XT → XK → Prop) : Prop :=
  kc K0 + 1 ≤ Z ∧ ks K0 + 2 ≤ Y ∧ ∀ K_2 : XK, K_2 = knew K0 1 2 2 → ∀ T_3 : XT, T_3 = xnil T (kz K0) →
  ∃ j_4 : Nat, j_4 < kl K_2 (kz K0) ∧ 0 = nI j_4 ∧ ∀ T_5 : XT, T_5 = xwi T_3 (kz K0) j_4 p1 →
  ∃ j_6 : Nat, j_6 < kl K_2 (kz K0) ∧ 1 = nI j_6 ∧ ∀ T_7 : XT, T_7 = xwi T_5 (kz K0) j_6 p2 →
  wx1_is (kz K0) K_2 T_7 (fun r_8 =>
  kc K_2 + 1 ≤ Z ∧ ks K_2 + 1 ≤ Y ∧ ∀ K_11 : XK, K_11 = knew K_2 1 1 1 → ∀ T_12 : XT, T_12 = xnil T_7 (kz K_2) →
  ∃ j_13 : Nat, j_13 < kl K_11 (kz K_2) ∧ 0 = nI j_13 ∧ ∀ T_14 : XT, T_14 = xwi T_12 (kz K_2) j_13 p1 →
  wx1_is (kz K_2) K_11 T_14 (fun r_15 =>
  ((r_15 = 0 →
    wx1_divisionWhy r_8 1 p2 0 K_11 T_14 (fun r_18 T_19 =>
    wx1_isRefused r_18 K_11 T_19 (fun r_21 T_22 =>
    ((r_21 = 0 →
      wx1_divides_2_j49 p1 p2 Z Y post  K_11 T_22) ∧
     (¬ (r_21 = 0) →
      post (-1) T_22 (kset K_11 Z Y)))))) ∧
   (¬ (r_15 = 0) →
    wx1_divisionWhy r_8 1 p2 (jshl 1 p1) K_11 T_14 (fun r_25 T_26 =>
    wx1_isRefused r_25 K_11 T_26 (fun r_28 T_29 =>
    ((r_28 = 0 →
      wx1_divides_2_j49 p1 p2 Z Y post  K_11 T_29) ∧
     (¬ (r_28 = 0) →
      post (-1) T_29 (kset K_11 Z Y)))))))))
set_option maxHeartbeats 4000000 in
theorem mx1_divides_2 (l : Launch) (G : XG) (b : Nat) (hole : Nat → Prop) (p1 : Int32) (p2 : Int32) (K0 : XK) (T : XT) (Z Y : Nat) (hZ : kc K0 ≤ Z) (hY : ks K0 ≤ Y)  (post : Int32 → XT → XK → Prop) (h : wx1_divides_2 p1 p2 K0 T Z Y post) : Met l yX1_divides_2 (ws_ yX1_divides_2 cX1_divides_2 3 (some .int)) ({ frames := 9, cells := (Z - kc K0), slots := (Y - ks K0), locals := 216 } : Room) (xPc G b hole [.ref (b + 0), .int p1, .int p2] K0 T) (xQ G b hole K0 (Z - kc K0) (Y - ks K0) (ρ := Int32) eI (fun r T1 K1 => post r T1 K1)) (Z - kc K0) (Y - ks K0) (xA b hole) := by
  refine Met.ofW (cc := cX1_divides_2) (maxL := 3) (ret := (some .int)) (by decide) rfl ?_
  intro p e s m args below meth c s₁ B hml hv
  obtain ⟨rfl, hP, hK, hV⟩ := hv
  have hx := B.exec
  have hb := B.bytes
  have hr := B.returns
  have hts := atoms_spec (ws := ws_ yX1_divides_2 cX1_divides_2 3 (some .int)) B.pre
  have hts : ∀ w ∈ lw_all, w.before _ s = true := fun w h => hts w (List.mem_cons_of_mem _ h)
  have hown : s.vm.findClass RX1 = some m.cls := findClass_of_methodNamed B.named
  have hlocks := B.notSynchronized
  have hb0 : b ≤ s.heap.size := by rw [hP.2.2.2]; exact Nat.le_add_right _ _
  have hS : va_S (xA b hole) s.heap s.heap [] := va_S.rf
  have hl := lv_entry ([.ref (b + 0), .int p1, .int p2]) (n := 3) (Nat.le_of_ble_eq_true rfl)
  rw [lg_entry_eq]
  generalize (lg_sl ([.ref (b + 0), .int p1, .int p2]) ++ List.replicate (3 - (lg_sl ([.ref (b + 0), .int p1, .int p2])).length) Slot.unset).toArray = ls at hl ⊢
  have hl : lv_has ls 3 [(0, .ref (b + 0)), (1, .int p1), (2, .int p2)] := hl
  have hle0 : kle K0 K0 := kle.rf
  have J49 : ∀  (T : XT) (K : XK) (cn sn : Nat) (H : Heap) (locs : List Loc) (ls : Array Slot), wx1_divides_2_j49 p1 p2 Z Y post  K T → kle K0 K → kc K0 + cn = kc K → ks K0 + sn = ks K → kc K ≤ Z → ks K ≤ Y → xW G b hole K T H → va_S (xA b hole) s.heap H locs → lv_has ls 3 [(0, .ref (b + 0))] → W p l e (headSpec (ws_ yX1_divides_2 cX1_divides_2 3 (some .int)) ({ frames := 9, cells := (Z - kc K0), slots := (Y - ks K0), locals := 216 } : Room)).room s m ([.ref (b + 0), .int p1, .int p2] : List Value).toArray below meth c H locs cn sn (MQ below (xQ G b hole K0 (Z - kc K0) (Y - ks K0) (ρ := Int32) eI (fun r T1 K1 => post r T1 K1)) ([.ref (b + 0), .int p1, .int p2] : List Value).toArray s (Z - kc K0) (Y - ks K0) (xA b hole)) (F0 m 49 ls []) := by
    intro  T K cn sn H locs ls h hle0 hcn hsn hzz hyy hP hS hl
    unfold wx1_divides_2_j49 at h
    refine lv_aload_n hx hb dX1_divides_2_49 rfl (lv_at hl 0 rfl) ?_
    refine x_get (CC := RX1) (TT := TX1) (N := 26) (ci := 0) (v := .ref (b + 6)) hx hb hts in_X1 hown hK hP (xs_0 hP) (by decide) (by decide) rfl (xE_8 (xs_0 hP)) 8 (by decide) q393 rfl rfl dX1_divides_2_50 ?_
    refine x_getN (CC := RX3) (TT := TX3) (N := 9) (ci := 2) (v := .ref (b + 8)) hx hb hts in_X3 hown hK hV.1 hP (xs_6 hP) (by decide) (by decide) rfl (xE_10 (xs_6 hP)) 1 (by decide) q183 rfl rfl dX1_divides_2_53 ?_
    refine x_getN (CC := RX2) (TT := TX2) (N := 3) (ci := 1) (v := .int (xi T 8 2)) hx hb hts in_X2 hown hK hV.1 hP (xs_8 hP) (by decide) (by decide) rfl (xE_9 (xs_8 hP)) 2 (by decide) q162 rfl rfl dX1_divides_2_56 ?_
    refine lv_if_ne (tgt := 66) hx hb dX1_divides_2_59 (by decide) (fun c_1 => ?_) (fun c_1 => ?_)
    · have h := h.1 c_1
      refine lv_iconst (v := 0) hx hb dX1_divides_2_66 (by decide) ?_
      refine W.widen (k := Z - kc K0) (n := Y - ks K0) (by omega) (by omega) ?_
      exact W.iret (v := 0) hx hb hr (fun t ht hW => ⟨⟨0, T, (kset K Z Y), rfl, h, hle0, (by show Z = _; omega), (by show Y = _; omega), by rw [ht]; exact hP, va_K.moved hW.alike hK⟩, hS.F ht⟩) hS.2.2 dX1_divides_2_67
    · have h := h.2 c_1
      refine lv_iconst (v := 1) hx hb dX1_divides_2_62 (by decide) ?_
      refine lv_goto (tgt := 67) hx hb dX1_divides_2_63 (by decide) ?_
      refine W.widen (k := Z - kc K0) (n := Y - ks K0) (by omega) (by omega) ?_
      exact W.iret (v := 1) hx hb hr (fun t ht hW => ⟨⟨1, T, (kset K Z Y), rfl, h, hle0, (by show Z = _; omega), (by show Y = _; omega), by rw [ht]; exact hP, va_K.moved hW.alike hK⟩, hS.F ht⟩) hS.2.2 dX1_divides_2_67
  have hcn : kc K0 + 0 = kc K0 := rfl
  have hsn : ks K0 + 0 = ks K0 := rfl
  have hzz := hZ
  have hyy := hY
  unfold wx1_divides_2 at h
  refine lv_aload_n hx hb dX1_divides_2_0 rfl (lv_at hl 0 rfl) ?_
  refine lv_aload_n hx hb dX1_divides_2_1 rfl (lv_at hl 0 rfl) ?_
  refine lv_iconst (v := 2) hx hb dX1_divides_2_2 (by decide) ?_
  obtain ⟨hc1, hs1, h⟩ := h
  obtain ⟨K_2, eK_2⟩ : ∃ z : XK, z = knew K0 1 2 2 := ⟨_, rfl⟩
  obtain ⟨T_3, eT_3⟩ : ∃ z : XT, z = xnil T (kz K0) := ⟨_, rfl⟩
  have h := h K_2 eK_2 T_3 eT_3
  have hle1 : kle K0 K_2 := by rw [eK_2]; exact kle.new hP.2.2.1 _ _ _
  refine x_newai (N := 2) hx hb hts q170 hK hP hS (by decide) (by decide) (by show _ + 1 ≤ Z - kc K0; omega) (by show _ + _ ≤ Y - ks K0; omega) dX1_divides_2_3 (fun H hP hS => ?_)
  rw [← eK_2, ← eT_3] at hP
  have hk_n2 : kd K_2 (kz K0) = 1 := by rw [eK_2]; exact knew_kd
  have hle0 := hle0.tr hle1
  have hcn : kc K0 + (0 + 1) = kc K_2 := by rw [eK_2]; show _ = kc K0 + 1; omega
  have hsn : ks K0 + (0 + 2) = ks K_2 := by rw [eK_2]; show _ = ks K0 + 2; omega
  have hzz : kc K_2 ≤ Z := by rw [eK_2]; exact hc1
  have hyy : ks K_2 ≤ Y := by rw [eK_2]; exact hs1
  refine lv_dup hx hb dX1_divides_2_5 rfl ?_
  refine lv_iconst (v := 0) hx hb dX1_divides_2_6 (by decide) ?_
  refine lv_iload_n hx hb dX1_divides_2_7 rfl (lv_at hl 1 rfl) ?_
  obtain ⟨j_4, hj_4, ej_4, h⟩ := h
  obtain ⟨T_5, eT_5⟩ : ∃ z : XT, z = xwi T_3 (kz K0) j_4 p1 := ⟨_, rfl⟩
  have h := h T_5 eT_5
  refine x_iast hx hb hK hP hS hk_n2 ej_4 hj_4 dX1_divides_2_8 (fun H locs hP hS => ?_)
  rw [← eT_5] at hP
  refine lv_dup hx hb dX1_divides_2_9 rfl ?_
  refine lv_iconst (v := 1) hx hb dX1_divides_2_10 (by decide) ?_
  refine lv_iload_n hx hb dX1_divides_2_11 rfl (lv_at hl 2 rfl) ?_
  obtain ⟨j_6, hj_6, ej_6, h⟩ := h
  obtain ⟨T_7, eT_7⟩ : ∃ z : XT, z = xwi T_5 (kz K0) j_6 p2 := ⟨_, rfl⟩
  have h := h T_7 eT_7
  refine x_iast hx hb hK hP hS hk_n2 ej_6 hj_6 dX1_divides_2_12 (fun H locs hP hS => ?_)
  rw [← eT_7] at hP
  refine x_cS (As := [.ref (b + (kz K0))]) (rest := [.ref (b + 0), .ref (b + 0)]) ⟨hx, hb, hml, hown, hts⟩ (mx1_is l G b hole (kz K0) K_2 T_7 hk_n2 _ h) (va_cwS 1 hts (lw_S q793 q794 q118 q795) rfl rfl rfl cwx_X1_is ⟨Nat.le_of_ble_eq_true rfl, Nat.le_of_ble_eq_true rfl⟩) hK hV hb0 hP hS rfl hl.1 rfl (Nat.le_of_ble_eq_true rfl) dX1_divides_2_13 ⟨by first | exact Nat.zero_le _ | (show _ + _ ≤ Z - kc K0; omega), by first | exact Nat.zero_le _ | (show _ + _ ≤ Y - ks K0; omega)⟩ (fun r_8 T1 K1 H locs h hle1 hc1 hs1 hP hS => ?_)
  obtain ⟨h, hTe, hKe⟩ := h
  rw [hTe, hKe] at hP
  refine lv_iconst (v := 1) hx hb dX1_divides_2_16 (by decide) ?_
  refine lv_iload_n hx hb dX1_divides_2_17 rfl (lv_at hl 2 rfl) ?_
  refine lv_iconst (v := 1) hx hb dX1_divides_2_18 (by decide) ?_
  obtain ⟨hc1, hs1, h⟩ := h
  obtain ⟨K_11, eK_11⟩ : ∃ z : XK, z = knew K_2 1 1 1 := ⟨_, rfl⟩
  obtain ⟨T_12, eT_12⟩ : ∃ z : XT, z = xnil T_7 (kz K_2) := ⟨_, rfl⟩
  have h := h K_11 eK_11 T_12 eT_12
  have hle1 : kle K_2 K_11 := by rw [eK_11]; exact kle.new hP.2.2.1 _ _ _
  refine x_newai (N := 1) hx hb hts q170 hK hP hS (by decide) (by decide) (by show _ + 1 ≤ Z - kc K0; omega) (by show _ + _ ≤ Y - ks K0; omega) dX1_divides_2_19 (fun H hP hS => ?_)
  rw [← eK_11, ← eT_12] at hP
  have hk_n11 : kd K_11 (kz K_2) = 1 := by rw [eK_11]; exact knew_kd
  have hle0 := hle0.tr hle1
  have hcn : kc K0 + ((0 + 1) + 1) = kc K_11 := by rw [eK_11]; show _ = kc K_2 + 1; omega
  have hsn : ks K0 + ((0 + 2) + 1) = ks K_11 := by rw [eK_11]; show _ = ks K_2 + 1; omega
  have hzz : kc K_11 ≤ Z := by rw [eK_11]; exact hc1
  have hyy : ks K_11 ≤ Y := by rw [eK_11]; exact hs1
  refine lv_dup hx hb dX1_divides_2_21 rfl ?_
  refine lv_iconst (v := 0) hx hb dX1_divides_2_22 (by decide) ?_
  refine lv_iload_n hx hb dX1_divides_2_23 rfl (lv_at hl 1 rfl) ?_
  obtain ⟨j_13, hj_13, ej_13, h⟩ := h
  obtain ⟨T_14, eT_14⟩ : ∃ z : XT, z = xwi T_12 (kz K_2) j_13 p1 := ⟨_, rfl⟩
  have h := h T_14 eT_14
  refine x_iast hx hb hK hP hS hk_n11 ej_13 hj_13 dX1_divides_2_24 (fun H locs hP hS => ?_)
  rw [← eT_14] at hP
  refine x_cS (As := [.ref (b + (kz K_2))]) (rest := [.int p2, .int 1, .int r_8, .ref (b + 0), .ref (b + 0)]) ⟨hx, hb, hml, hown, hts⟩ (mx1_is l G b hole (kz K_2) K_11 T_14 hk_n11 _ h) (va_cwS 1 hts (lw_S q793 q794 q118 q795) rfl rfl rfl cwx_X1_is ⟨Nat.le_of_ble_eq_true rfl, Nat.le_of_ble_eq_true rfl⟩) hK hV hb0 hP hS rfl hl.1 rfl (Nat.le_of_ble_eq_true rfl) dX1_divides_2_25 ⟨by first | exact Nat.zero_le _ | (show _ + _ ≤ Z - kc K0; omega), by first | exact Nat.zero_le _ | (show _ + _ ≤ Y - ks K0; omega)⟩ (fun r_15 T1 K1 H locs h hle1 hc1 hs1 hP hS => ?_)
  obtain ⟨h, hTe, hKe⟩ := h
  rw [hTe, hKe] at hP
  refine lv_if_eq (tgt := 37) hx hb dX1_divides_2_28 (by decide) (fun c_32 => ?_) (fun c_32 => ?_)
  · have h := h.1 c_32
    refine lv_iconst (v := 0) hx hb dX1_divides_2_37 (by decide) ?_
    refine x_cV (k := 0) (As := [.int r_8, .int 1, .int p2, .int 0]) (rest := [.ref (b + 0)]) ⟨hx, hb, hml, hown, hts⟩ (mx1_divisionWhy l G b hole r_8 1 p2 0 K_11 T_14  _ h) (cwV 4 hts (lw_V q885 q887 qs32 q118 q888) rfl rfl rfl cwx_X1_divisionWhy ⟨Nat.le_of_ble_eq_true rfl, Nat.le_of_ble_eq_true rfl⟩) (x_recv (CC := RX1) (ci := 0) hK hP (xs_0 hP) (by decide) (by decide) rfl (xE_8 (xs_0 hP))) hK hV hb0 hP hS rfl hl.1 rfl (Nat.le_of_ble_eq_true rfl) dX1_divides_2_38 ⟨by first | exact Nat.zero_le _ | (show _ + _ ≤ Z - kc K0; omega), by first | exact Nat.zero_le _ | (show _ + _ ≤ Y - ks K0; omega)⟩ (fun r_18 T1 K1 H locs h hle1 hc1 hs1 hP hS => ?_)
    obtain ⟨h, hKe⟩ := h
    rw [hKe] at hP
    generalize T1 = T_19 at h hP
    refine x_cV (k := 0) (As := [.int r_18]) (rest := []) ⟨hx, hb, hml, hown, hts⟩ (mx1_isRefused l G b hole r_18 K_11 T_19  _ h) (cwV 1 hts (lw_V q777 q779 qs26 q118 q780) rfl rfl rfl cwx_X1_isRefused ⟨Nat.le_of_ble_eq_true rfl, Nat.le_of_ble_eq_true rfl⟩) (x_recv (CC := RX1) (ci := 0) hK hP (xs_0 hP) (by decide) (by decide) rfl (xE_8 (xs_0 hP))) hK hV hb0 hP hS rfl hl.1 rfl (Nat.le_of_ble_eq_true rfl) dX1_divides_2_41 ⟨by first | exact Nat.zero_le _ | (show _ + _ ≤ Z - kc K0; omega), by first | exact Nat.zero_le _ | (show _ + _ ≤ Y - ks K0; omega)⟩ (fun r_21 T1 K1 H locs h hle1 hc1 hs1 hP hS => ?_)
    obtain ⟨h, hKe⟩ := h
    rw [hKe] at hP
    generalize T1 = T_22 at h hP
    refine lv_if_eq (tgt := 49) hx hb dX1_divides_2_44 (by decide) (fun c_24 => ?_) (fun c_24 => ?_)
    · have h := h.1 c_24
      exact J49 _ _ _ _ _ _ _ h hle0 hcn hsn hzz hyy hP hS (lv_sub hl [0] rfl)
    · have h := h.2 c_24
      refine lv_iconst (v := (-1)) hx hb dX1_divides_2_47 (by decide) ?_
      refine W.widen (k := Z - kc K0) (n := Y - ks K0) (by omega) (by omega) ?_
      exact W.iret (v := (-1)) hx hb hr (fun t ht hW => ⟨⟨(-1), T_22, (kset K_11 Z Y), rfl, h, hle0, (by show Z = _; omega), (by show Y = _; omega), by rw [ht]; exact hP, va_K.moved hW.alike hK⟩, hS.F ht⟩) hS.2.2 dX1_divides_2_48
  · have h := h.2 c_32
    refine lv_iconst (v := 1) hx hb dX1_divides_2_31 (by decide) ?_
    refine lv_iload_n hx hb dX1_divides_2_32 rfl (lv_at hl 1 rfl) ?_
    refine m_ishl hx hb dX1_divides_2_33 ?_
    refine lv_goto (tgt := 38) hx hb dX1_divides_2_34 (by decide) ?_
    refine x_cV (k := 0) (As := [.int r_8, .int 1, .int p2, .int (jshl 1 p1)]) (rest := [.ref (b + 0)]) ⟨hx, hb, hml, hown, hts⟩ (mx1_divisionWhy l G b hole r_8 1 p2 (jshl 1 p1) K_11 T_14  _ h) (cwV 4 hts (lw_V q885 q887 qs32 q118 q888) rfl rfl rfl cwx_X1_divisionWhy ⟨Nat.le_of_ble_eq_true rfl, Nat.le_of_ble_eq_true rfl⟩) (x_recv (CC := RX1) (ci := 0) hK hP (xs_0 hP) (by decide) (by decide) rfl (xE_8 (xs_0 hP))) hK hV hb0 hP hS rfl hl.1 rfl (Nat.le_of_ble_eq_true rfl) dX1_divides_2_38 ⟨by first | exact Nat.zero_le _ | (show _ + _ ≤ Z - kc K0; omega), by first | exact Nat.zero_le _ | (show _ + _ ≤ Y - ks K0; omega)⟩ (fun r_25 T1 K1 H locs h hle1 hc1 hs1 hP hS => ?_)
    obtain ⟨h, hKe⟩ := h
    rw [hKe] at hP
    generalize T1 = T_26 at h hP
    refine x_cV (k := 0) (As := [.int r_25]) (rest := []) ⟨hx, hb, hml, hown, hts⟩ (mx1_isRefused l G b hole r_25 K_11 T_26  _ h) (cwV 1 hts (lw_V q777 q779 qs26 q118 q780) rfl rfl rfl cwx_X1_isRefused ⟨Nat.le_of_ble_eq_true rfl, Nat.le_of_ble_eq_true rfl⟩) (x_recv (CC := RX1) (ci := 0) hK hP (xs_0 hP) (by decide) (by decide) rfl (xE_8 (xs_0 hP))) hK hV hb0 hP hS rfl hl.1 rfl (Nat.le_of_ble_eq_true rfl) dX1_divides_2_41 ⟨by first | exact Nat.zero_le _ | (show _ + _ ≤ Z - kc K0; omega), by first | exact Nat.zero_le _ | (show _ + _ ≤ Y - ks K0; omega)⟩ (fun r_28 T1 K1 H locs h hle1 hc1 hs1 hP hS => ?_)
    obtain ⟨h, hKe⟩ := h
    rw [hKe] at hP
    generalize T1 = T_29 at h hP
    refine lv_if_eq (tgt := 49) hx hb dX1_divides_2_44 (by decide) (fun c_31 => ?_) (fun c_31 => ?_)
    · have h := h.1 c_31
      exact J49 _ _ _ _ _ _ _ h hle0 hcn hsn hzz hyy hP hS (lv_sub hl [0] rfl)
    · have h := h.2 c_31
      refine lv_iconst (v := (-1)) hx hb dX1_divides_2_47 (by decide) ?_
      refine W.widen (k := Z - kc K0) (n := Y - ks K0) (by omega) (by omega) ?_
      exact W.iret (v := (-1)) hx hb hr (fun t ht hW => ⟨⟨(-1), T_29, (kset K_11 Z Y), rfl, h, hle0, (by show Z = _; omega), (by show Y = _; omega), by rw [ht]; exact hP, va_K.moved hW.alike hK⟩, hS.F ht⟩) hS.2.2 dX1_divides_2_48
theorem cwx_X6_init : yX6_init.cls ≠ "java/lang/invoke/MethodHandle" ∧ yX6_init.cls ≠ "java/lang/invoke/VarHandle" ∧ (parseMethodDescriptor yX6_init.desc).map (fun d => d.parameters.length) = some 0 := by decide +kernel
def wx6_init (p0 : Nat) (K0 : XK) (T : XT) (Z Y : Nat) (post : XT → XK → Prop) : Prop :=
  kc K0 + 1 ≤ Z ∧ ks K0 + 0 ≤ Y ∧ ∀ K_1 : XK, K_1 = knew K0 1 0 0 → ∀ T_2 : XT, T_2 = xnil T (kz K0) →
  kc K_1 + 1 ≤ Z ∧ ks K_1 + 0 ≤ Y ∧ ∀ K_3 : XK, K_3 = knew K_1 1 0 0 → ∀ T_4 : XT, T_4 = xnil T_2 (kz K_1) →
  wx6_init_2 p0 0 (kz K0) (kz K_1) K_3 T_4 (fun T_6 =>
  post T_6 (kset K_3 Z Y))
set_option maxHeartbeats 4000000 in
theorem mx6_init (l : Launch) (G : XG) (b : Nat) (hole : Nat → Prop) (p0 : Nat) (K0 : XK) (T : XT) (Z Y : Nat) (hZ : kc K0 ≤ Z) (hY : ks K0 ≤ Y) (hk_p0 : kd K0 p0 = 2) (post : XT → XK → Prop) (h : wx6_init p0 K0 T Z Y post) : Met l yX6_init (ws_ yX6_init cX6_init 1 none) ({ frames := 2, cells := (Z - kc K0), slots := (Y - ks K0), locals := 83 } : Room) (xPc G b hole [.ref (b + p0)] K0 T) (xQ G b hole K0 (Z - kc K0) (Y - ks K0) (ρ := Unit) eV (fun r T1 K1 => post T1 K1)) (Z - kc K0) (Y - ks K0) (xA b hole) := by
  refine Met.ofW (cc := cX6_init) (maxL := 1) (ret := none) (by decide) rfl ?_
  intro p e s m args below meth c s₁ B hml hv
  obtain ⟨rfl, hP, hK, hV⟩ := hv
  have hx := B.exec
  have hb := B.bytes
  have hr := B.returns
  have hts := atoms_spec (ws := ws_ yX6_init cX6_init 1 none) B.pre
  have hts : ∀ w ∈ lw_all, w.before _ s = true := fun w h => hts w (List.mem_cons_of_mem _ h)
  have hown : s.vm.findClass RX6 = some m.cls := findClass_of_methodNamed B.named
  have hlocks := B.notSynchronized
  have hin : meth.name = "<init>" := (name_of_methodNamed B.named B.method).1
  have hb0 : b ≤ s.heap.size := by rw [hP.2.2.2]; exact Nat.le_add_right _ _
  have hS : va_S (xA b hole) s.heap s.heap [] := va_S.rf
  have hl := lv_entry ([.ref (b + p0)]) (n := 1) (Nat.le_of_ble_eq_true rfl)
  rw [lg_entry_eq]
  generalize (lg_sl ([.ref (b + p0)]) ++ List.replicate (1 - (lg_sl ([.ref (b + p0)])).length) Slot.unset).toArray = ls at hl ⊢
  have hl : lv_has ls 1 [(0, .ref (b + p0))] := hl
  have hle0 : kle K0 K0 := kle.rf
  have hcn : kc K0 + 0 = kc K0 := rfl
  have hsn : ks K0 + 0 = ks K0 := rfl
  have hzz := hZ
  have hyy := hY
  unfold wx6_init at h
  refine lv_aload_n hx hb dX6_init_0 rfl (lv_at hl 0 rfl) ?_
  refine lv_iconst (v := 0) hx hb dX6_init_1 (by decide) ?_
  refine lv_iconst (v := 0) hx hb dX6_init_2 (by decide) ?_
  obtain ⟨hc1, hs1, h⟩ := h
  obtain ⟨K_1, eK_1⟩ : ∃ z : XK, z = knew K0 1 0 0 := ⟨_, rfl⟩
  obtain ⟨T_2, eT_2⟩ : ∃ z : XT, z = xnil T (kz K0) := ⟨_, rfl⟩
  have h := h K_1 eK_1 T_2 eT_2
  have hle1 : kle K0 K_1 := by rw [eK_1]; exact kle.new hP.2.2.1 _ _ _
  refine x_newai (N := 0) hx hb hts q170 hK hP hS (by decide) (by decide) (by show _ + 1 ≤ Z - kc K0; omega) (by show _ + _ ≤ Y - ks K0; omega) dX6_init_3 (fun H hP hS => ?_)
  rw [← eK_1, ← eT_2] at hP
  have hk_p0 : kd K_1 p0 = 2 := hle1.kd hk_p0
  have hk_n1 : kd K_1 (kz K0) = 1 := by rw [eK_1]; exact knew_kd
  have hle0 := hle0.tr hle1
  have hcn : kc K0 + (0 + 1) = kc K_1 := by rw [eK_1]; show _ = kc K0 + 1; omega
  have hsn : ks K0 + (0 + 0) = ks K_1 := by rw [eK_1]; show _ = ks K0 + 0; omega
  have hzz : kc K_1 ≤ Z := by rw [eK_1]; exact hc1
  have hyy : ks K_1 ≤ Y := by rw [eK_1]; exact hs1
  refine lv_iconst (v := 0) hx hb dX6_init_5 (by decide) ?_
  obtain ⟨hc1, hs1, h⟩ := h
  obtain ⟨K_3, eK_3⟩ : ∃ z : XK, z = knew K_1 1 0 0 := ⟨_, rfl⟩
  obtain ⟨T_4, eT_4⟩ : ∃ z : XT, z = xnil T_2 (kz K_1) := ⟨_, rfl⟩
  have h := h K_3 eK_3 T_4 eT_4
  have hle1 : kle K_1 K_3 := by rw [eK_3]; exact kle.new hP.2.2.1 _ _ _
  refine x_newai (N := 0) hx hb hts q170 hK hP hS (by decide) (by decide) (by show _ + 1 ≤ Z - kc K0; omega) (by show _ + _ ≤ Y - ks K0; omega) dX6_init_6 (fun H hP hS => ?_)
  rw [← eK_3, ← eT_4] at hP
  have hk_p0 : kd K_3 p0 = 2 := hle1.kd hk_p0
  have hk_n1 : kd K_3 (kz K0) = 1 := hle1.kd hk_n1
  have hk_n3 : kd K_3 (kz K_1) = 1 := by rw [eK_3]; exact knew_kd
  have hle0 := hle0.tr hle1
  have hcn : kc K0 + ((0 + 1) + 1) = kc K_3 := by rw [eK_3]; show _ = kc K_1 + 1; omega
  have hsn : ks K0 + ((0 + 0) + 0) = ks K_3 := by rw [eK_3]; show _ = ks K_1 + 0; omega
  have hzz : kc K_3 ≤ Z := by rw [eK_3]; exact hc1
  have hyy : ks K_3 ≤ Y := by rw [eK_3]; exact hs1
  refine x_cI (k := p0) (As := [.int 0, .ref (b + (kz K0)), .ref (b + (kz K_1))]) (rest := []) ⟨hx, hb, hml, hown, hts⟩ (mx6_init_2 l G b hole p0 0 (kz K0) (kz K_1) K_3 T_4 hk_p0 hk_n1 hk_n3 _ h) (cwI 3 hts (lw_meth q362) rfl rfl rfl (hts _ q126) (hts _ q360) (hts _ q361) rfl cwx_X6_init_2 ⟨Nat.le_of_ble_eq_true rfl, Nat.le_of_ble_eq_true rfl⟩) hK hV hb0 hP hS rfl hl.1 rfl (Nat.le_of_ble_eq_true rfl) dX6_init_8 ⟨by first | exact Nat.zero_le _ | (show _ + _ ≤ Z - kc K0; omega), by first | exact Nat.zero_le _ | (show _ + _ ≤ Y - ks K0; omega)⟩ (fun r_5 T1 K1 H locs h hle1 hc1 hs1 hP hS => ?_)
  obtain ⟨h, hKe⟩ := h
  rw [hKe] at hP
  generalize T1 = T_6 at h hP
  refine W.widen (k := Z - kc K0) (n := Y - ks K0) (by omega) (by omega) ?_
  exact W.vret hx hb hr (fun t ht hW => ⟨⟨(), T_6, (kset K_3 Z Y), rfl, h, hle0, (by show Z = _; omega), (by show Y = _; omega), by rw [ht]; exact hP, va_K.moved hW.alike hK⟩, hS.F ht⟩) hS.2.2 dX6_init_11
theorem cwx_J3_copyOf : yJ3_copyOf.cls ≠ "java/lang/invoke/MethodHandle" ∧ yJ3_copyOf.cls ≠ "java/lang/invoke/VarHandle" ∧ (parseMethodDescriptor yJ3_copyOf.desc).map (fun d => d.parameters.length) = some 2 := by decide +kernel
def wxJ3_copyOf (p1 : Nat) (p2 : Int32) (K0 : XK) (T : XT) (Z Y : Nat) (post : Nat → XT → XK → Prop) : Prop :=
  ((¬ p2 = (nI (kl K0 p1)) →
    ∃ n_1 : Nat, n_1 < 2 ^ 27 ∧ p2 = nI n_1 ∧ kc K0 + 1 ≤ Z ∧ ks K0 + n_1 ≤ Y ∧ ∀ K_2 : XK, K_2 = knew K0 1 n_1 n_1 → ∀ T_3 : XT, T_3 = xnil T (kz K0) →
    ∃ sp_4 dp_5 n_6 : Nat, 0 = nI sp_4 ∧ 0 = nI dp_5 ∧ (jmin (nI (kl K_2 p1)) p2) = nI n_6 ∧ sp_4 + n_6 ≤ kl K_2 p1 ∧ dp_5 + n_6 ≤ kl K_2 (kz K0) ∧ ∀ T_7 : XT, T_7 = xcpy T_3 p1 (kz K0) sp_4 dp_5 n_6 →
    post (kz K0) T_7 (kset K_2 Z Y)) ∧
   (p2 = (nI (kl K0 p1)) →
    kc K0 + 1 ≤ Z ∧ ks K0 + (kl K0 p1) ≤ Y ∧ ∀ K_8 : XK, K_8 = knew K0 1 (kl K0 p1) (kl K0 p1) → ∀ T_9 : XT, T_9 = xdup (xnil T (kz K0)) p1 (kz K0) →
    post (kz K0) T_9 (kset K_8 Z Y)))
set_option maxHeartbeats 4000000 in
theorem mxJ3_copyOf (l : Launch) (G : XG) (b : Nat) (hole : Nat → Prop) (p1 : Nat) (p2 : Int32) (K0 : XK) (T : XT) (Z Y : Nat) (hZ : kc K0 ≤ Z) (hY : ks K0 ≤ Y) (hk_p1 : kd K0 p1 = 1) (post : Nat → XT → XK → Prop) (h : wxJ3_copyOf p1 p2 K0 T Z Y post) : Met l yJ3_copyOf (ws_ yJ3_copyOf cJ3_copyOf 3 (some (.array .int))) ({ frames := 1, cells := (Z - kc K0), slots := (Y - ks K0), locals := 60 } : Room) (xPc G b hole [.ref (b + p1), .int p2] K0 T) (xQ G b hole K0 (Z - kc K0) (Y - ks K0) (ρ := Nat) (eR b) (fun r T1 K1 => post r T1 K1 ∧ kd K1 r = 1)) (Z - kc K0) (Y - ks K0) (xA b hole) := by
  refine Met.ofW (cc := cJ3_copyOf) (maxL := 3) (ret := (some (.array .int))) (by decide) rfl ?_
  intro p e s m args below meth c s₁ B hml hv
  obtain ⟨rfl, hP, hK, hV⟩ := hv
  have hx := B.exec
  have hb := B.bytes
  have hr := B.returns
  have hts := atoms_spec (ws := ws_ yJ3_copyOf cJ3_copyOf 3 (some (.array .int))) B.pre
  have hts : ∀ w ∈ lw_all, w.before _ s = true := fun w h => hts w (List.mem_cons_of_mem _ h)
  have hown : s.vm.findClass RJ3 = some m.cls := findClass_of_methodNamed B.named
  have hlocks := B.notSynchronized
  have hb0 : b ≤ s.heap.size := by rw [hP.2.2.2]; exact Nat.le_add_right _ _
  have hS : va_S (xA b hole) s.heap s.heap [] := va_S.rf
  have hl := lv_entry ([.ref (b + p1), .int p2]) (n := 3) (Nat.le_of_ble_eq_true rfl)
  rw [lg_entry_eq]
  generalize (lg_sl ([.ref (b + p1), .int p2]) ++ List.replicate (3 - (lg_sl ([.ref (b + p1), .int p2])).length) Slot.unset).toArray = ls at hl ⊢
  have hl : lv_has ls 3 [(0, .ref (b + p1)), (1, .int p2)] := hl
  have hle0 : kle K0 K0 := kle.rf
  have hcn : kc K0 + 0 = kc K0 := rfl
  have hsn : ks K0 + 0 = ks K0 := rfl
  have hzz := hZ
  have hyy := hY
  unfold wxJ3_copyOf at h
  refine lv_iload_n hx hb dJ3_copyOf_0 rfl (lv_at hl 1 rfl) ?_
  refine lv_aload_n hx hb dJ3_copyOf_1 rfl (lv_at hl 0 rfl) ?_
  refine x_alen1 hx hb hK hP hk_p1 dJ3_copyOf_2 ?_
  refine lv_icmp_ne (tgt := 14) hx hb dJ3_copyOf_3 (by decide) (fun c_10 => ?_) (fun c_10 => ?_)
  · have h := h.1 c_10
    refine lv_iload_n hx hb dJ3_copyOf_14 rfl (lv_at hl 1 rfl) ?_
    obtain ⟨n_1, hn_1, en_1, h⟩ := h
    obtain ⟨hc1, hs1, h⟩ := h
    obtain ⟨K_2, eK_2⟩ : ∃ z : XK, z = knew K0 1 n_1 n_1 := ⟨_, rfl⟩
    obtain ⟨T_3, eT_3⟩ : ∃ z : XT, z = xnil T (kz K0) := ⟨_, rfl⟩
    have h := h K_2 eK_2 T_3 eT_3
    have hle1 : kle K0 K_2 := by rw [eK_2]; exact kle.new hP.2.2.1 _ _ _
    refine x_newai (N := n_1) hx hb hts q170 hK hP hS en_1 hn_1 (by show _ + 1 ≤ Z - kc K0; omega) (by show _ + _ ≤ Y - ks K0; omega) dJ3_copyOf_15 (fun H hP hS => ?_)
    rw [← eK_2, ← eT_3] at hP
    have hk_p1 : kd K_2 p1 = 1 := hle1.kd hk_p1
    have hk_n2 : kd K_2 (kz K0) = 1 := by rw [eK_2]; exact knew_kd
    have hle0 := hle0.tr hle1
    have hcn : kc K0 + (0 + 1) = kc K_2 := by rw [eK_2]; show _ = kc K0 + 1; omega
    have hsn : ks K0 + (0 + n_1) = ks K_2 := by rw [eK_2]; show _ = ks K0 + n_1; omega
    have hzz : kc K_2 ≤ Z := by rw [eK_2]; exact hc1
    have hyy : ks K_2 ≤ Y := by rw [eK_2]; exact hs1
    refine lv_astore_n (lv' := [(2, .ref (b + (kz K0))), (0, .ref (b + p1)), (1, .int p2)]) hx hb dJ3_copyOf_17 rfl hl (by decide) rfl (fun ls hl => ?_)
    refine lv_aload_n hx hb dJ3_copyOf_18 rfl (lv_at hl 1 rfl) ?_
    refine lv_iconst (v := 0) hx hb dJ3_copyOf_19 (by decide) ?_
    refine lv_aload_n hx hb dJ3_copyOf_20 rfl (lv_at hl 0 rfl) ?_
    refine lv_iconst (v := 0) hx hb dJ3_copyOf_21 (by decide) ?_
    refine lv_aload_n hx hb dJ3_copyOf_22 rfl (lv_at hl 1 rfl) ?_
    refine x_alen1 hx hb hK hP hk_p1 dJ3_copyOf_23 ?_
    refine lv_iload_n hx hb dJ3_copyOf_24 rfl (lv_at hl 2 rfl) ?_
    refine x_mmin hx hb (hml.trans hl.1.symm) hown hts q986 q987 q134 q988 (Nat.le_of_ble_eq_true rfl) (Nat.le_of_ble_eq_true rfl) (by first | exact Nat.zero_le _ | (show _ ≤ Z - kc K0; omega)) (by first | exact Nat.zero_le _ | (show _ ≤ Y - ks K0; omega)) dJ3_copyOf_25 ?_
    obtain ⟨sp_4, dp_5, n_6, ea1, ea2, ea3, ea4, ea5, h⟩ := h
    obtain ⟨T_7, eT_7⟩ : ∃ z : XT, z = xcpy T_3 p1 (kz K0) sp_4 dp_5 n_6 := ⟨_, rfl⟩
    have h := h T_7 eT_7
    refine x_copyi hx hb (hml.trans hl.1.symm) hown hts q989 q929 q928 q136 hK hP hS hk_p1 hk_n2 ea1 ea2 ea3 ea4 ea5 (Nat.le_of_ble_eq_true rfl) (Nat.le_of_ble_eq_true rfl) dJ3_copyOf_28 (fun H locs hP hS => ?_)
    rw [← eT_7] at hP
    refine lv_aload_n hx hb dJ3_copyOf_31 rfl (lv_at hl 0 rfl) ?_
    refine W.widen (k := Z - kc K0) (n := Y - ks K0) (by omega) (by omega) ?_
    exact W.aret (v := .ref (b + (kz K0))) hx hb hr (Or.inr ⟨_, rfl⟩) (Or.inr ⟨_, rfl⟩) (fun t ht hW => ⟨⟨(kz K0), T_7, (kset K_2 Z Y), rfl, ⟨h, hk_n2⟩, hle0, (by show Z = _; omega), (by show Y = _; omega), by rw [ht]; exact hP, va_K.moved hW.alike hK⟩, hS.F ht⟩) hS.2.2 dJ3_copyOf_32
  · have h := h.2 c_10
    refine lv_aload_n hx hb dJ3_copyOf_6 rfl (lv_at hl 0 rfl) ?_
    obtain ⟨hc1, hs1, h⟩ := h
    obtain ⟨K_8, eK_8⟩ : ∃ z : XK, z = knew K0 1 (kl K0 p1) (kl K0 p1) := ⟨_, rfl⟩
    obtain ⟨T_9, eT_9⟩ : ∃ z : XT, z = xdup (xnil T (kz K0)) p1 (kz K0) := ⟨_, rfl⟩
    have h := h K_8 eK_8 T_9 eT_9
    have hle1 : kle K0 K_8 := by rw [eK_8]; exact kle.new hP.2.2.1 _ _ _
    refine x_clone1 hx hb (hml.trans hl.1.symm) hown hts q979 q980 q981 q982 q983 q984 hV.1 hK hP hS hk_p1 (Nat.le_of_ble_eq_true rfl) (Nat.le_of_ble_eq_true rfl) (by show _ + 1 ≤ Z - kc K0; omega) (by show _ + _ ≤ Y - ks K0; omega) dJ3_copyOf_7 (fun H hP hS => ?_)
    rw [← eK_8, ← eT_9] at hP
    have hk_p1 : kd K_8 p1 = 1 := hle1.kd hk_p1
    have hk_n8 : kd K_8 (kz K0) = 1 := by rw [eK_8]; exact knew_kd
    have hle0 := hle0.tr hle1
    have hcn : kc K0 + (0 + 1) = kc K_8 := by rw [eK_8]; show _ = kc K0 + 1; omega
    have hsn : ks K0 + (0 + (kl K0 p1)) = ks K_8 := by rw [eK_8]; show _ = ks K0 + (kl K0 p1); omega
    have hzz : kc K_8 ≤ Z := by rw [eK_8]; exact hc1
    have hyy : ks K_8 ≤ Y := by rw [eK_8]; exact hs1
    refine x_cast1 hx hb hown hts q985 hK hP hk_n8 dJ3_copyOf_10 ?_
    refine W.widen (k := Z - kc K0) (n := Y - ks K0) (by omega) (by omega) ?_
    exact W.aret (v := .ref (b + (kz K0))) hx hb hr (Or.inr ⟨_, rfl⟩) (Or.inr ⟨_, rfl⟩) (fun t ht hW => ⟨⟨(kz K0), T_9, (kset K_8 Z Y), rfl, ⟨h, hk_n8⟩, hle0, (by show Z = _; omega), (by show Y = _; omega), by rw [ht]; exact hP, va_K.moved hW.alike hK⟩, hS.F ht⟩) hS.2.2 dJ3_copyOf_13
theorem cwx_X2_poly : yX2_poly.cls = RX2 ∧ yX2_poly.cls ≠ "java/lang/invoke/MethodHandle" ∧ yX2_poly.cls ≠ "java/lang/invoke/VarHandle" ∧ (parseMethodDescriptor yX2_poly.desc).map (fun d => d.parameters.length) = some 0 := by decide +kernel
def wx2_poly (p0 : Nat) (K0 : XK) (T : XT) (Z Y : Nat) (post : Nat → XT → XK → Prop) : Prop :=
  kc K0 + 1 ≤ Z ∧ ks K0 + 3 ≤ Y ∧ ∀ K_1 : XK, K_1 = knew K0 2 0 3 → ∀ T_2 : XT, T_2 = xnil T (kz K0) →
  ∃ Z_6 Y_7 : Nat, kc K_1 ≤ Z_6 ∧ Z_6 ≤ Z ∧ ks K_1 ≤ Y_7 ∧ Y_7 ≤ Y ∧ wxJ3_copyOf (p0 + 1) (xi T_2 p0 2) K_1 T_2 Z_6 Y_7 (fun r_3 T_4 K_5 =>
  ∃ Z_11 Y_12 : Nat, kc K_5 ≤ Z_11 ∧ Z_11 ≤ Z ∧ ks K_5 ≤ Y_12 ∧ Y_12 ≤ Y ∧ wxJ3_copyOf (p0 + 2) (xi T_4 p0 2) K_5 T_4 Z_11 Y_12 (fun r_8 T_9 K_10 =>
  wx6_init_2 (kz K0) (xi T_2 p0 2) r_3 r_8 K_10 T_9 (fun T_14 =>
  post (kz K0) T_14 (kset K_10 Z Y))))
set_option maxHeartbeats 4000000 in
theorem mx2_poly (l : Launch) (G : XG) (b : Nat) (hole : Nat → Prop) (p0 : Nat) (K0 : XK) (T : XT) (Z Y : Nat) (hZ : kc K0 ≤ Z) (hY : ks K0 ≤ Y) (hk_p0 : kd K0 p0 = 9) (post : Nat → XT → XK → Prop) (h : wx2_poly p0 K0 T Z Y post) : Met l yX2_poly (ws_ yX2_poly cX2_poly 1 (some (.object "TermDesk$Poly"))) ({ frames := 2, cells := (Z - kc K0), slots := (Y - ks K0), locals := 83 } : Room) (xPc G b hole [.ref (b + p0)] K0 T) (xQ G b hole K0 (Z - kc K0) (Y - ks K0) (ρ := Nat) (eR b) (fun r T1 K1 => post r T1 K1 ∧ kd K1 r = 2)) (Z - kc K0) (Y - ks K0) (xA b hole) := by
  refine Met.ofW (cc := cX2_poly) (maxL := 1) (ret := (some (.object "TermDesk$Poly"))) (by decide) rfl ?_
  intro p e s m args below meth c s₁ B hml hv
  obtain ⟨rfl, hP, hK, hV⟩ := hv
  have hx := B.exec
  have hb := B.bytes
  have hr := B.returns
  have hts := atoms_spec (ws := ws_ yX2_poly cX2_poly 1 (some (.object "TermDesk$Poly"))) B.pre
  have hts : ∀ w ∈ lw_all, w.before _ s = true := fun w h => hts w (List.mem_cons_of_mem _ h)
  have hown : s.vm.findClass RX2 = some m.cls := findClass_of_methodNamed B.named
  have hlocks := B.notSynchronized
  have hb0 : b ≤ s.heap.size := by rw [hP.2.2.2]; exact Nat.le_add_right _ _
  have hS : va_S (xA b hole) s.heap s.heap [] := va_S.rf
  have hl := lv_entry ([.ref (b + p0)]) (n := 1) (Nat.le_of_ble_eq_true rfl)
  rw [lg_entry_eq]
  generalize (lg_sl ([.ref (b + p0)]) ++ List.replicate (1 - (lg_sl ([.ref (b + p0)])).length) Slot.unset).toArray = ls at hl ⊢
  have hl : lv_has ls 1 [(0, .ref (b + p0))] := hl
  have hle0 : kle K0 K0 := kle.rf
  have hcn : kc K0 + 0 = kc K0 := rfl
  have hsn : ks K0 + 0 = ks K0 := rfl
  have hzz := hZ
  have hyy := hY
  unfold wx2_poly at h
  obtain ⟨hc1, hs1, h⟩ := h
  obtain ⟨K_1, eK_1⟩ : ∃ z : XK, z = knew K0 2 0 3 := ⟨_, rfl⟩
  obtain ⟨T_2, eT_2⟩ : ∃ z : XT, z = xnil T (kz K0) := ⟨_, rfl⟩
  have h := h K_1 eK_1 T_2 eT_2
  have hle1 : kle K0 K_1 := by rw [eK_1]; exact kle.new hP.2.2.1 _ _ _
  refine x_new (CC := RX6) (TT := TX6) (N := 3) (ci := 5) (kn := 2) (fs := [.null, .null, .int 0]) hx hb hts in_X6 tyX6 tyX6_ok hown q975 q356 q126 hK hP hS rfl (by decide) (by decide) (fun K1 h9 => by rw [xE_2 h9]; simp [fs2, xnil, xi, xr, va_up_self, rfv, va_rf]) (fun j hj => by rcases (show j = 0 ∨ j = 1 ∨ j = 2 by omega) with rfl | rfl | rfl <;> rfl) (by show _ + 1 ≤ Z - kc K0; omega) (by show _ + _ ≤ Y - ks K0; omega) dX2_poly_0 (fun H hP hS => ?_)
  rw [← eK_1, ← eT_2] at hP
  have hk_p0 : kd K_1 p0 = 9 := hle1.kd hk_p0
  have hk_n1 : kd K_1 (kz K0) = 2 := by rw [eK_1]; exact knew_kd
  have hle0 := hle0.tr hle1
  have hcn : kc K0 + (0 + 1) = kc K_1 := by rw [eK_1]; show _ = kc K0 + 1; omega
  have hsn : ks K0 + (0 + 3) = ks K_1 := by rw [eK_1]; show _ = ks K0 + 3; omega
  have hzz : kc K_1 ≤ Z := by rw [eK_1]; exact hc1
  have hyy : ks K_1 ≤ Y := by rw [eK_1]; exact hs1
  refine lv_dup hx hb dX2_poly_3 rfl ?_
  refine lv_aload_n hx hb dX2_poly_4 rfl (lv_at hl 0 rfl) ?_
  refine x_get (CC := RX2) (TT := TX2) (N := 3) (ci := 1) (v := .int (xi T_2 p0 2)) hx hb hts in_X2 hown hK hP hk_p0 (by decide) (by decide) rfl (xE_9 hk_p0) 2 (by decide) q161 rfl rfl dX2_poly_5 ?_
  refine lv_aload_n hx hb dX2_poly_8 rfl (lv_at hl 0 rfl) ?_
  refine x_get (CC := RX2) (TT := TX2) (N := 3) (ci := 1) (v := .ref (b + (p0 + 1))) hx hb hts in_X2 hown hK hP hk_p0 (by decide) (by decide) rfl (xE_9 hk_p0) 0 (by decide) q156 rfl rfl dX2_poly_9 ?_
  refine lv_aload_n hx hb dX2_poly_12 rfl (lv_at hl 0 rfl) ?_
  refine x_get (CC := RX2) (TT := TX2) (N := 3) (ci := 1) (v := .int (xi T_2 p0 2)) hx hb hts in_X2 hown hK hP hk_p0 (by decide) (by decide) rfl (xE_9 hk_p0) 2 (by decide) q161 rfl rfl dX2_poly_13 ?_
  obtain ⟨Z_6, Y_7, hz1, hz2, hy1, hy2, h⟩ := h
  refine x_cS (As := [.ref (b + (p0 + 1)), .int (xi T_2 p0 2)]) (rest := [.int (xi T_2 p0 2), .ref (b + (kz K0)), .ref (b + (kz K0))]) ⟨hx, hb, hml, hown, hts⟩ (mxJ3_copyOf l G b hole (p0 + 1) (xi T_2 p0 2) K_1 T_2 Z_6 Y_7 hz1 hy1 (hP.row hk_p0).1 _ h) (va_cwS 2 hts (lw_S q976 q977 q127 q978) rfl rfl rfl cwx_J3_copyOf ⟨Nat.le_of_ble_eq_true rfl, Nat.le_of_ble_eq_true rfl⟩) hK hV hb0 hP hS rfl hl.1 rfl (Nat.le_of_ble_eq_true rfl) dX2_poly_16 ⟨by first | exact Nat.zero_le _ | (show _ + _ ≤ Z - kc K0; omega), by first | exact Nat.zero_le _ | (show _ + _ ≤ Y - ks K0; omega)⟩ (fun r_3 T1 K1 H locs h hle1 hc1 hs1 hP hS => ?_)
  obtain ⟨h, hk_r_3⟩ := h
  generalize T1 = T_4 at h hP
  generalize K1 = K_5 at h hP hle1 hc1 hs1 hk_r_3
  have hk_p0 : kd K_5 p0 = 9 := hle1.kd hk_p0
  have hk_n1 : kd K_5 (kz K0) = 2 := hle1.kd hk_n1
  have hle0 := hle0.tr hle1
  have hcn : kc K0 + ((0 + 1) + (Z_6 - kc K_1)) = kc K_5 := by omega
  have hsn : ks K0 + ((0 + 3) + (Y_7 - ks K_1)) = ks K_5 := by omega
  have hzz : kc K_5 ≤ Z := by omega
  have hyy : ks K_5 ≤ Y := by omega
  refine lv_aload_n hx hb dX2_poly_19 rfl (lv_at hl 0 rfl) ?_
  refine x_get (CC := RX2) (TT := TX2) (N := 3) (ci := 1) (v := .ref (b + (p0 + 2))) hx hb hts in_X2 hown hK hP hk_p0 (by decide) (by decide) rfl (xE_9 hk_p0) 1 (by decide) q158 rfl rfl dX2_poly_20 ?_
  refine lv_aload_n hx hb dX2_poly_23 rfl (lv_at hl 0 rfl) ?_
  refine x_get (CC := RX2) (TT := TX2) (N := 3) (ci := 1) (v := .int (xi T_4 p0 2)) hx hb hts in_X2 hown hK hP hk_p0 (by decide) (by decide) rfl (xE_9 hk_p0) 2 (by decide) q161 rfl rfl dX2_poly_24 ?_
  obtain ⟨Z_11, Y_12, hz1, hz2, hy1, hy2, h⟩ := h
  refine x_cS (As := [.ref (b + (p0 + 2)), .int (xi T_4 p0 2)]) (rest := [.ref (b + r_3), .int (xi T_2 p0 2), .ref (b + (kz K0)), .ref (b + (kz K0))]) ⟨hx, hb, hml, hown, hts⟩ (mxJ3_copyOf l G b hole (p0 + 2) (xi T_4 p0 2) K_5 T_4 Z_11 Y_12 hz1 hy1 (hP.row hk_p0).2 _ h) (va_cwS 2 hts (lw_S q976 q977 q127 q978) rfl rfl rfl cwx_J3_copyOf ⟨Nat.le_of_ble_eq_true rfl, Nat.le_of_ble_eq_true rfl⟩) hK hV hb0 hP hS rfl hl.1 rfl (Nat.le_of_ble_eq_true rfl) dX2_poly_27 ⟨by first | exact Nat.zero_le _ | (show _ + _ ≤ Z - kc K0; omega), by first | exact Nat.zero_le _ | (show _ + _ ≤ Y - ks K0; omega)⟩ (fun r_8 T1 K1 H locs h hle1 hc1 hs1 hP hS => ?_)
  obtain ⟨h, hk_r_8⟩ := h
  generalize T1 = T_9 at h hP
  generalize K1 = K_10 at h hP hle1 hc1 hs1 hk_r_8
  have hk_p0 : kd K_10 p0 = 9 := hle1.kd hk_p0
  have hk_r_3 : kd K_10 r_3 = 1 := hle1.kd hk_r_3
  have hk_n1 : kd K_10 (kz K0) = 2 := hle1.kd hk_n1
  have hle0 := hle0.tr hle1
  have hcn : kc K0 + (((0 + 1) + (Z_6 - kc K_1)) + (Z_11 - kc K_5)) = kc K_10 := by omega
  have hsn : ks K0 + (((0 + 3) + (Y_7 - ks K_1)) + (Y_12 - ks K_5)) = ks K_10 := by omega
  have hzz : kc K_10 ≤ Z := by omega
  have hyy : ks K_10 ≤ Y := by omega
  refine x_cI (k := (kz K0)) (As := [.int (xi T_2 p0 2), .ref (b + r_3), .ref (b + r_8)]) (rest := [.ref (b + (kz K0))]) ⟨hx, hb, hml, hown, hts⟩ (mx6_init_2 l G b hole (kz K0) (xi T_2 p0 2) r_3 r_8 K_10 T_9 hk_n1 hk_r_3 hk_r_8 _ h) (cwI 3 hts (lw_meth q362) rfl rfl rfl (hts _ q126) (hts _ q990) (hts _ q361) rfl cwx_X6_init_2 ⟨Nat.le_of_ble_eq_true rfl, Nat.le_of_ble_eq_true rfl⟩) hK hV hb0 hP hS rfl hl.1 rfl (Nat.le_of_ble_eq_true rfl) dX2_poly_30 ⟨by first | exact Nat.zero_le _ | (show _ + _ ≤ Z - kc K0; omega), by first | exact Nat.zero_le _ | (show _ + _ ≤ Y - ks K0; omega)⟩ (fun r_13 T1 K1 H locs h hle1 hc1 hs1 hP hS => ?_)
  obtain ⟨h, hKe⟩ := h
  rw [hKe] at hP
  generalize T1 = T_14 at h hP
  refine W.widen (k := Z - kc K0) (n := Y - ks K0) (by omega) (by omega) ?_
  exact W.aret (v := .ref (b + (kz K0))) hx hb hr (Or.inl ⟨_, rfl⟩) (Or.inr ⟨_, rfl⟩) (fun t ht hW => ⟨⟨(kz K0), T_14, (kset K_10 Z Y), rfl, ⟨h, hk_n1⟩, hle0, (by show Z = _; omega), (by show Y = _; omega), by rw [ht]; exact hP, va_K.moved hW.alike hK⟩, hS.F ht⟩) hS.2.2 dX2_poly_33
theorem cwx_X1_sum_2 : yX1_sum_2.cls = RX1 ∧ yX1_sum_2.cls ≠ "java/lang/invoke/MethodHandle" ∧ yX1_sum_2.cls ≠ "java/lang/invoke/VarHandle" ∧ (parseMethodDescriptor yX1_sum_2.desc).map (fun d => d.parameters.length) = some 4 := by decide +kernel
def wx1_sum_2 (p1 : Nat) (p2 : Nat) (p3 : Int32) (p4 : Int32) (K0 : XK) (T : XT) (Z Y : Nat) (post : Option Nat → XT → XK → Prop) : Prop :=
  wx1_goes p2 p4 K0 T (fun r_1 =>
  ((r_1 = 0 →
    post none T (kset K0 Z Y)) ∧
   (¬ (r_1 = 0) →
    ∃ v_4 : Nat, xr T p1 0 = some v_4 ∧
    ∃ v_5 : Nat, xr T p1 1 = some v_5 ∧
    wx1_merges 3 v_4 v_5 (xi T p1 2) p2 p3 p4 K0 T (fun r_6 T_7 =>
    ∃ Z_12 Y_13 : Nat, kc K0 ≤ Z_12 ∧ Z_12 ≤ Z ∧ ks K0 ≤ Y_13 ∧ Y_13 ≤ Y ∧ wx2_poly r_6 K0 T_7 Z_12 Y_13 (fun r_9 T_10 K_11 =>
    post (some r_9) T_10 (kset K_11 Z Y))))))
set_option maxHeartbeats 4000000 in
theorem mx1_sum_2 (l : Launch) (G : XG) (b : Nat) (hole : Nat → Prop) (p1 : Nat) (p2 : Nat) (p3 : Int32) (p4 : Int32) (K0 : XK) (T : XT) (Z Y : Nat) (hZ : kc K0 ≤ Z) (hY : ks K0 ≤ Y) (hk_p1 : kd K0 p1 = 2) (hk_p2 : kd K0 p2 = 2) (post : Option Nat → XT → XK → Prop) (h : wx1_sum_2 p1 p2 p3 p4 K0 T Z Y post) : Met l yX1_sum_2 (ws_ yX1_sum_2 cX1_sum_2 5 (some (.object "TermDesk$Poly"))) ({ frames := 5, cells := (Z - kc K0), slots := (Y - ks K0), locals := 119 } : Room) (xPc G b hole [.ref (b + 0), .ref (b + p1), .ref (b + p2), .int p3, .int p4] K0 T) (xQ G b hole K0 (Z - kc K0) (Y - ks K0) (ρ := Option Nat) (eQ b) (fun r T1 K1 => post r T1 K1 ∧ (∀ v, r = some v → kd K1 v = 2))) (Z - kc K0) (Y - ks K0) (xA b hole) := by
  refine Met.ofW (cc := cX1_sum_2) (maxL := 5) (ret := (some (.object "TermDesk$Poly"))) (by decide) rfl ?_
  intro p e s m args below meth c s₁ B hml hv
  obtain ⟨rfl, hP, hK, hV⟩ := hv
  have hx := B.exec
  have hb := B.bytes
  have hr := B.returns
  have hts := atoms_spec (ws := ws_ yX1_sum_2 cX1_sum_2 5 (some (.object "TermDesk$Poly"))) B.pre
  have hts : ∀ w ∈ lw_all, w.before _ s = true := fun w h => hts w (List.mem_cons_of_mem _ h)
  have hown : s.vm.findClass RX1 = some m.cls := findClass_of_methodNamed B.named
  have hlocks := B.notSynchronized
  have hb0 : b ≤ s.heap.size := by rw [hP.2.2.2]; exact Nat.le_add_right _ _
  have hS : va_S (xA b hole) s.heap s.heap [] := va_S.rf
  have hl := lv_entry ([.ref (b + 0), .ref (b + p1), .ref (b + p2), .int p3, .int p4]) (n := 5) (Nat.le_of_ble_eq_true rfl)
  rw [lg_entry_eq]
  generalize (lg_sl ([.ref (b + 0), .ref (b + p1), .ref (b + p2), .int p3, .int p4]) ++ List.replicate (5 - (lg_sl ([.ref (b + 0), .ref (b + p1), .ref (b + p2), .int p3, .int p4])).length) Slot.unset).toArray = ls at hl ⊢
  have hl : lv_has ls 5 [(0, .ref (b + 0)), (1, .ref (b + p1)), (2, .ref (b + p2)), (3, .int p3), (4, .int p4)] := hl
  have hle0 : kle K0 K0 := kle.rf
  have hcn : kc K0 + 0 = kc K0 := rfl
  have hsn : ks K0 + 0 = ks K0 := rfl
  have hzz := hZ
  have hyy := hY
  unfold wx1_sum_2 at h
  refine lv_aload_n hx hb dX1_sum_2_0 rfl (lv_at hl 2 rfl) ?_
  refine lv_iload hx hb dX1_sum_2_1 (lv_at hl 4 rfl) ?_
  refine x_cS (As := [.ref (b + p2), .int p4]) (rest := []) ⟨hx, hb, hml, hown, hts⟩ (mx1_goes l G b hole p2 p4 K0 T hk_p2 _ h) (va_cwS 2 hts (lw_S q969 q931 q118 q932) rfl rfl rfl cwx_X1_goes ⟨Nat.le_of_ble_eq_true rfl, Nat.le_of_ble_eq_true rfl⟩) hK hV hb0 hP hS rfl hl.1 rfl (Nat.le_of_ble_eq_true rfl) dX1_sum_2_3 ⟨by first | exact Nat.zero_le _ | (show _ + _ ≤ Z - kc K0; omega), by first | exact Nat.zero_le _ | (show _ + _ ≤ Y - ks K0; omega)⟩ (fun r_1 T1 K1 H locs h hle1 hc1 hs1 hP hS => ?_)
  obtain ⟨h, hTe, hKe⟩ := h
  rw [hTe, hKe] at hP
  refine lv_if_eq (tgt := 39) hx hb dX1_sum_2_6 (by decide) (fun c_14 => ?_) (fun c_14 => ?_)
  · have h := h.1 c_14
    refine lv_null hx hb dX1_sum_2_39 ?_
    refine W.widen (k := Z - kc K0) (n := Y - ks K0) (by omega) (by omega) ?_
    exact W.aret (v := .null) hx hb hr (Or.inl ⟨_, rfl⟩) (Or.inl rfl) (fun t ht hW => ⟨⟨none, T, (kset K0 Z Y), rfl, ⟨h, (fun _ e9 => by cases e9)⟩, hle0, (by show Z = _; omega), (by show Y = _; omega), by rw [ht]; exact hP, va_K.moved hW.alike hK⟩, hS.F ht⟩) hS.2.2 dX1_sum_2_40
  · have h := h.2 c_14
    refine lv_aload_n hx hb dX1_sum_2_9 rfl (lv_at hl 0 rfl) ?_
    refine lv_aload_n hx hb dX1_sum_2_10 rfl (lv_at hl 0 rfl) ?_
    refine x_get (CC := RX1) (TT := TX1) (N := 26) (ci := 0) (v := .ref (b + 3)) hx hb hts in_X1 hown hK hP (xs_0 hP) (by decide) (by decide) rfl (xE_8 (xs_0 hP)) 7 (by decide) q392 rfl rfl dX1_sum_2_11 ?_
    refine lv_aload_n hx hb dX1_sum_2_14 rfl (lv_at hl 1 rfl) ?_
    obtain ⟨v_4, ev_4, h⟩ := h
    refine x_get (CC := RX6) (TT := TX6) (N := 3) (ci := 5) (v := rfv b (xr T p1 0)) hx hb hts in_X6 hown hK hP hk_p1 (by decide) (by decide) rfl (xE_2 hk_p1) 0 (by decide) q366 rfl rfl dX1_sum_2_15 ?_
    refine x_some ev_4 ?_
    have hk_v_4 : kd K0 v_4 = 1 := hP.ty hk_p1 (by decide) ev_4
    refine lv_aload_n hx hb dX1_sum_2_18 rfl (lv_at hl 1 rfl) ?_
    obtain ⟨v_5, ev_5, h⟩ := h
    refine x_get (CC := RX6) (TT := TX6) (N := 3) (ci := 5) (v := rfv b (xr T p1 1)) hx hb hts in_X6 hown hK hP hk_p1 (by decide) (by decide) rfl (xE_2 hk_p1) 1 (by decide) q369 rfl rfl dX1_sum_2_19 ?_
    refine x_some ev_5 ?_
    have hk_v_5 : kd K0 v_5 = 1 := hP.ty hk_p1 (by decide) ev_5
    refine lv_aload_n hx hb dX1_sum_2_22 rfl (lv_at hl 1 rfl) ?_
    refine x_get (CC := RX6) (TT := TX6) (N := 3) (ci := 5) (v := .int (xi T p1 2)) hx hb hts in_X6 hown hK hP hk_p1 (by decide) (by decide) rfl (xE_2 hk_p1) 2 (by decide) q372 rfl rfl dX1_sum_2_23 ?_
    refine lv_aload_n hx hb dX1_sum_2_26 rfl (lv_at hl 2 rfl) ?_
    refine lv_iload_n hx hb dX1_sum_2_27 rfl (lv_at hl 3 rfl) ?_
    refine lv_iload hx hb dX1_sum_2_28 (lv_at hl 4 rfl) ?_
    refine x_cV (k := 0) (As := [.ref (b + 3), .ref (b + v_4), .ref (b + v_5), .int (xi T p1 2), .ref (b + p2), .int p3, .int p4]) (rest := []) ⟨hx, hb, hml, hown, hts⟩ (mx1_merges l G b hole 3 v_4 v_5 (xi T p1 2) p2 p3 p4 K0 T (xs_3 hP) hk_v_4 hk_v_5 hk_p2 _ h) (cwV 7 hts (lw_V q970 q935 qs37 q118 q936) rfl rfl rfl cwx_X1_merges ⟨Nat.le_of_ble_eq_true rfl, Nat.le_of_ble_eq_true rfl⟩) (x_recv (CC := RX1) (ci := 0) hK hP (xs_0 hP) (by decide) (by decide) rfl (xE_8 (xs_0 hP))) hK hV hb0 hP hS rfl hl.1 rfl (Nat.le_of_ble_eq_true rfl) dX1_sum_2_30 ⟨by first | exact Nat.zero_le _ | (show _ + _ ≤ Z - kc K0; omega), by first | exact Nat.zero_le _ | (show _ + _ ≤ Y - ks K0; omega)⟩ (fun r_6 T1 K1 H locs h hle1 hc1 hs1 hP hS => ?_)
    obtain ⟨h, hk_r_6, hKe⟩ := h
    rw [hKe] at hP
    generalize T1 = T_7 at h hP
    rw [hKe] at hk_r_6
    obtain ⟨Z_12, Y_13, hz1, hz2, hy1, hy2, h⟩ := h
    refine x_cV (k := r_6) (As := []) (rest := []) ⟨hx, hb, hml, hown, hts⟩ (mx2_poly l G b hole r_6 K0 T_7 Z_12 Y_13 hz1 hy1 hk_r_6 _ h) (cwV 0 hts (lw_V q971 q972 q973 q119 q974) rfl rfl rfl cwx_X2_poly ⟨Nat.le_of_ble_eq_true rfl, Nat.le_of_ble_eq_true rfl⟩) (x_recv (CC := RX2) (ci := 1) hK hP hk_r_6 (by decide) (by decide) rfl (xE_9 hk_r_6)) hK hV hb0 hP hS rfl hl.1 rfl (Nat.le_of_ble_eq_true rfl) dX1_sum_2_33 ⟨by first | exact Nat.zero_le _ | (show _ + _ ≤ Z - kc K0; omega), by first | exact Nat.zero_le _ | (show _ + _ ≤ Y - ks K0; omega)⟩ (fun r_9 T1 K1 H locs h hle1 hc1 hs1 hP hS => ?_)
    obtain ⟨h, hk_r_9⟩ := h
    generalize T1 = T_10 at h hP
    generalize K1 = K_11 at h hP hle1 hc1 hs1 hk_r_9
    have hk_p1 : kd K_11 p1 = 2 := hle1.kd hk_p1
    have hk_p2 : kd K_11 p2 = 2 := hle1.kd hk_p2
    have hle0 := hle0.tr hle1
    have hcn : kc K0 + (0 + (Z_12 - kc K0)) = kc K_11 := by omega
    have hsn : ks K0 + (0 + (Y_13 - ks K0)) = ks K_11 := by omega
    have hzz : kc K_11 ≤ Z := by omega
    have hyy : ks K_11 ≤ Y := by omega
    refine lv_goto (tgt := 40) hx hb dX1_sum_2_36 (by decide) ?_
    refine W.widen (k := Z - kc K0) (n := Y - ks K0) (by omega) (by omega) ?_
    exact W.aret (v := .ref (b + r_9)) hx hb hr (Or.inl ⟨_, rfl⟩) (Or.inr ⟨_, rfl⟩) (fun t ht hW => ⟨⟨(some r_9), T_10, (kset K_11 Z Y), rfl, ⟨h, (fun _ e9 => by cases e9; exact hk_r_9)⟩, hle0, (by show Z = _; omega), (by show Y = _; omega), by rw [ht]; exact hP, va_K.moved hW.alike hK⟩, hS.F ht⟩) hS.2.2 dX1_sum_2_40
theorem cwx_X1_scaled : yX1_scaled.cls = RX1 ∧ yX1_scaled.cls ≠ "java/lang/invoke/MethodHandle" ∧ yX1_scaled.cls ≠ "java/lang/invoke/VarHandle" ∧ (parseMethodDescriptor yX1_scaled.desc).map (fun d => d.parameters.length) = some 2 := by decide +kernel
def wx1_scaled (p1 : Nat) (p2 : Int32) (K0 : XK) (T : XT) (Z Y : Nat) (post : Nat → XT → XK → Prop) : Prop :=
  kc K0 + 1 ≤ Z ∧ ks K0 + 3 ≤ Y ∧ ∀ K_1 : XK, K_1 = knew K0 2 0 3 → ∀ T_2 : XT, T_2 = xnil T (kz K0) →
  ∃ Z_6 Y_7 : Nat, kc K_1 ≤ Z_6 ∧ Z_6 ≤ Z ∧ ks K_1 ≤ Y_7 ∧ Y_7 ≤ Y ∧ wx6_init (kz K0) K_1 T_2 Z_6 Y_7 (fun T_4 K_5 =>
  ∃ Z_11 Y_12 : Nat, kc K_5 ≤ Z_11 ∧ Z_11 ≤ Z ∧ ks K_5 ≤ Y_12 ∧ Y_12 ≤ Y ∧ wx1_sum_2 (kz K0) p1 p2 0 K_5 T_4 Z_11 Y_12 (fun r_8 T_9 K_10 =>
  ∃ v_13 : Nat, r_8 = some v_13 ∧
  post v_13 T_9 (kset K_10 Z Y)))
set_option maxHeartbeats 4000000 in
theorem mx1_scaled (l : Launch) (G : XG) (b : Nat) (hole : Nat → Prop) (p1 : Nat) (p2 : Int32) (K0 : XK) (T : XT) (Z Y : Nat) (hZ : kc K0 ≤ Z) (hY : ks K0 ≤ Y) (hk_p1 : kd K0 p1 = 2) (post : Nat → XT → XK → Prop) (h : wx1_scaled p1 p2 K0 T Z Y post) : Met l yX1_scaled (ws_ yX1_scaled cX1_scaled 3 (some (.object "TermDesk$Poly"))) ({ frames := 6, cells := (Z - kc K0), slots := (Y - ks K0), locals := 143 } : Room) (xPc G b hole [.ref (b + 0), .ref (b + p1), .int p2] K0 T) (xQ G b hole K0 (Z - kc K0) (Y - ks K0) (ρ := Nat) (eR b) (fun r T1 K1 => post r T1 K1 ∧ kd K1 r = 2)) (Z - kc K0) (Y - ks K0) (xA b hole) := by
  refine Met.ofW (cc := cX1_scaled) (maxL := 3) (ret := (some (.object "TermDesk$Poly"))) (by decide) rfl ?_
  intro p e s m args below meth c s₁ B hml hv
  obtain ⟨rfl, hP, hK, hV⟩ := hv
  have hx := B.exec
  have hb := B.bytes
  have hr := B.returns
  have hts := atoms_spec (ws := ws_ yX1_scaled cX1_scaled 3 (some (.object "TermDesk$Poly"))) B.pre
  have hts : ∀ w ∈ lw_all, w.before _ s = true := fun w h => hts w (List.mem_cons_of_mem _ h)
  have hown : s.vm.findClass RX1 = some m.cls := findClass_of_methodNamed B.named
  have hlocks := B.notSynchronized
  have hb0 : b ≤ s.heap.size := by rw [hP.2.2.2]; exact Nat.le_add_right _ _
  have hS : va_S (xA b hole) s.heap s.heap [] := va_S.rf
  have hl := lv_entry ([.ref (b + 0), .ref (b + p1), .int p2]) (n := 3) (Nat.le_of_ble_eq_true rfl)
  rw [lg_entry_eq]
  generalize (lg_sl ([.ref (b + 0), .ref (b + p1), .int p2]) ++ List.replicate (3 - (lg_sl ([.ref (b + 0), .ref (b + p1), .int p2])).length) Slot.unset).toArray = ls at hl ⊢
  have hl : lv_has ls 3 [(0, .ref (b + 0)), (1, .ref (b + p1)), (2, .int p2)] := hl
  have hle0 : kle K0 K0 := kle.rf
  have hcn : kc K0 + 0 = kc K0 := rfl
  have hsn : ks K0 + 0 = ks K0 := rfl
  have hzz := hZ
  have hyy := hY
  unfold wx1_scaled at h
  refine lv_aload_n hx hb dX1_scaled_0 rfl (lv_at hl 0 rfl) ?_
  obtain ⟨hc1, hs1, h⟩ := h
  obtain ⟨K_1, eK_1⟩ : ∃ z : XK, z = knew K0 2 0 3 := ⟨_, rfl⟩
  obtain ⟨T_2, eT_2⟩ : ∃ z : XT, z = xnil T (kz K0) := ⟨_, rfl⟩
  have h := h K_1 eK_1 T_2 eT_2
  have hle1 : kle K0 K_1 := by rw [eK_1]; exact kle.new hP.2.2.1 _ _ _
  refine x_new (CC := RX6) (TT := TX6) (N := 3) (ci := 5) (kn := 2) (fs := [.null, .null, .int 0]) hx hb hts in_X6 tyX6 tyX6_ok hown q352 q356 q126 hK hP hS rfl (by decide) (by decide) (fun K1 h9 => by rw [xE_2 h9]; simp [fs2, xnil, xi, xr, va_up_self, rfv, va_rf]) (fun j hj => by rcases (show j = 0 ∨ j = 1 ∨ j = 2 by omega) with rfl | rfl | rfl <;> rfl) (by show _ + 1 ≤ Z - kc K0; omega) (by show _ + _ ≤ Y - ks K0; omega) dX1_scaled_1 (fun H hP hS => ?_)
  rw [← eK_1, ← eT_2] at hP
  have hk_p1 : kd K_1 p1 = 2 := hle1.kd hk_p1
  have hk_n1 : kd K_1 (kz K0) = 2 := by rw [eK_1]; exact knew_kd
  have hle0 := hle0.tr hle1
  have hcn : kc K0 + (0 + 1) = kc K_1 := by rw [eK_1]; show _ = kc K0 + 1; omega
  have hsn : ks K0 + (0 + 3) = ks K_1 := by rw [eK_1]; show _ = ks K0 + 3; omega
  have hzz : kc K_1 ≤ Z := by rw [eK_1]; exact hc1
  have hyy : ks K_1 ≤ Y := by rw [eK_1]; exact hs1
  refine lv_dup hx hb dX1_scaled_4 rfl ?_
  obtain ⟨Z_6, Y_7, hz1, hz2, hy1, hy2, h⟩ := h
  refine x_cI (k := (kz K0)) (As := []) (rest := [.ref (b + (kz K0)), .ref (b + 0)]) ⟨hx, hb, hml, hown, hts⟩ (mx6_init l G b hole (kz K0) K_1 T_2 Z_6 Y_7 hz1 hy1 hk_n1 _ h) (cwI 0 hts (lw_meth q359) rfl rfl rfl (hts _ q126) (hts _ q357) (hts _ q358) rfl cwx_X6_init ⟨Nat.le_of_ble_eq_true rfl, Nat.le_of_ble_eq_true rfl⟩) hK hV hb0 hP hS rfl hl.1 rfl (Nat.le_of_ble_eq_true rfl) dX1_scaled_5 ⟨by first | exact Nat.zero_le _ | (show _ + _ ≤ Z - kc K0; omega), by first | exact Nat.zero_le _ | (show _ + _ ≤ Y - ks K0; omega)⟩ (fun r_3 T1 K1 H locs h hle1 hc1 hs1 hP hS => ?_)
  generalize T1 = T_4 at h hP
  generalize K1 = K_5 at h hP hle1 hc1 hs1
  have hk_p1 : kd K_5 p1 = 2 := hle1.kd hk_p1
  have hk_n1 : kd K_5 (kz K0) = 2 := hle1.kd hk_n1
  have hle0 := hle0.tr hle1
  have hcn : kc K0 + ((0 + 1) + (Z_6 - kc K_1)) = kc K_5 := by omega
  have hsn : ks K0 + ((0 + 3) + (Y_7 - ks K_1)) = ks K_5 := by omega
  have hzz : kc K_5 ≤ Z := by omega
  have hyy : ks K_5 ≤ Y := by omega
  refine lv_aload_n hx hb dX1_scaled_8 rfl (lv_at hl 1 rfl) ?_
  refine lv_iload_n hx hb dX1_scaled_9 rfl (lv_at hl 2 rfl) ?_
  refine lv_iconst (v := 0) hx hb dX1_scaled_10 (by decide) ?_
  obtain ⟨Z_11, Y_12, hz1, hz2, hy1, hy2, h⟩ := h
  refine x_cV (k := 0) (As := [.ref (b + (kz K0)), .ref (b + p1), .int p2, .int 0]) (rest := []) ⟨hx, hb, hml, hown, hts⟩ (mx1_sum_2 l G b hole (kz K0) p1 p2 0 K_5 T_4 Z_11 Y_12 hz1 hy1 hk_n1 hk_p1 _ h) (cwV 4 hts (lw_V q965 q967 qs42 q118 q968) rfl rfl rfl cwx_X1_sum_2 ⟨Nat.le_of_ble_eq_true rfl, Nat.le_of_ble_eq_true rfl⟩) (x_recv (CC := RX1) (ci := 0) hK hP (xs_0 hP) (by decide) (by decide) rfl (xE_8 (xs_0 hP))) hK hV hb0 hP hS rfl hl.1 rfl (Nat.le_of_ble_eq_true rfl) dX1_scaled_11 ⟨by first | exact Nat.zero_le _ | (show _ + _ ≤ Z - kc K0; omega), by first | exact Nat.zero_le _ | (show _ + _ ≤ Y - ks K0; omega)⟩ (fun r_8 T1 K1 H locs h hle1 hc1 hs1 hP hS => ?_)
  obtain ⟨h, hk_r_8⟩ := h
  generalize T1 = T_9 at h hP
  generalize K1 = K_10 at h hP hle1 hc1 hs1 hk_r_8
  have hk_p1 : kd K_10 p1 = 2 := hle1.kd hk_p1
  have hle0 := hle0.tr hle1
  have hcn : kc K0 + (((0 + 1) + (Z_6 - kc K_1)) + (Z_11 - kc K_5)) = kc K_10 := by omega
  have hsn : ks K0 + (((0 + 3) + (Y_7 - ks K_1)) + (Y_12 - ks K_5)) = ks K_10 := by omega
  have hzz : kc K_10 ≤ Z := by omega
  have hyy : ks K_10 ≤ Y := by omega
  obtain ⟨v_13, ev_13, h⟩ := h
  have hk_v_13 := hk_r_8 _ ev_13
  refine x_some ev_13 ?_
  refine W.widen (k := Z - kc K0) (n := Y - ks K0) (by omega) (by omega) ?_
  exact W.aret (v := .ref (b + v_13)) hx hb hr (Or.inl ⟨_, rfl⟩) (Or.inr ⟨_, rfl⟩) (fun t ht hW => ⟨⟨v_13, T_9, (kset K_10 Z Y), rfl, ⟨h, hk_v_13⟩, hle0, (by show Z = _; omega), (by show Y = _; omega), by rw [ht]; exact hP, va_K.moved hW.alike hK⟩, hS.F ht⟩) hS.2.2 dX1_scaled_14
theorem cwx_X1_monic : yX1_monic.cls = RX1 ∧ yX1_monic.cls ≠ "java/lang/invoke/MethodHandle" ∧ yX1_monic.cls ≠ "java/lang/invoke/VarHandle" ∧ (parseMethodDescriptor yX1_monic.desc).map (fun d => d.parameters.length) = some 1 := by decide +kernel
def wx1_monic (p1 : Nat) (K0 : XK) (T : XT) (Z Y : Nat) (post : Nat → XT → XK → Prop) : Prop :=
  wx6_isZero p1 K0 T (fun r_1 =>
  ((r_1 = 0 →
    ∃ v_4 : Nat, xr T p1 1 = some v_4 ∧
    ∃ j_5 : Nat, j_5 < kl K0 v_4 ∧ 0 = nI j_5 ∧
    ∃ j_6 : Nat, j_6 < 98 ∧ (xi T v_4 j_5) = nI j_6 ∧
    ∃ Z_10 Y_11 : Nat, kc K0 ≤ Z_10 ∧ Z_10 ≤ Z ∧ ks K0 ≤ Y_11 ∧ Y_11 ≤ Y ∧ wx1_scaled p1 (xi T 1 j_6) K0 T Z_10 Y_11 (fun r_7 T_8 K_9 =>
    post r_7 T_8 (kset K_9 Z Y))) ∧
   (¬ (r_1 = 0) →
    post p1 T (kset K0 Z Y))))
set_option maxHeartbeats 4000000 in
theorem mx1_monic (l : Launch) (G : XG) (b : Nat) (hole : Nat → Prop) (p1 : Nat) (K0 : XK) (T : XT) (Z Y : Nat) (hZ : kc K0 ≤ Z) (hY : ks K0 ≤ Y) (hk_p1 : kd K0 p1 = 2) (post : Nat → XT → XK → Prop) (h : wx1_monic p1 K0 T Z Y post) : Met l yX1_monic (ws_ yX1_monic cX1_monic 2 (some (.object "TermDesk$Poly"))) ({ frames := 7, cells := (Z - kc K0), slots := (Y - ks K0), locals := 165 } : Room) (xPc G b hole [.ref (b + 0), .ref (b + p1)] K0 T) (xQ G b hole K0 (Z - kc K0) (Y - ks K0) (ρ := Nat) (eR b) (fun r T1 K1 => post r T1 K1 ∧ kd K1 r = 2)) (Z - kc K0) (Y - ks K0) (xA b hole) := by
  refine Met.ofW (cc := cX1_monic) (maxL := 2) (ret := (some (.object "TermDesk$Poly"))) (by decide) rfl ?_
  intro p e s m args below meth c s₁ B hml hv
  obtain ⟨rfl, hP, hK, hV⟩ := hv
  have hx := B.exec
  have hb := B.bytes
  have hr := B.returns
  have hts := atoms_spec (ws := ws_ yX1_monic cX1_monic 2 (some (.object "TermDesk$Poly"))) B.pre
  have hts : ∀ w ∈ lw_all, w.before _ s = true := fun w h => hts w (List.mem_cons_of_mem _ h)
  have hown : s.vm.findClass RX1 = some m.cls := findClass_of_methodNamed B.named
  have hlocks := B.notSynchronized
  have hb0 : b ≤ s.heap.size := by rw [hP.2.2.2]; exact Nat.le_add_right _ _
  have hS : va_S (xA b hole) s.heap s.heap [] := va_S.rf
  have hl := lv_entry ([.ref (b + 0), .ref (b + p1)]) (n := 2) (Nat.le_of_ble_eq_true rfl)
  rw [lg_entry_eq]
  generalize (lg_sl ([.ref (b + 0), .ref (b + p1)]) ++ List.replicate (2 - (lg_sl ([.ref (b + 0), .ref (b + p1)])).length) Slot.unset).toArray = ls at hl ⊢
  have hl : lv_has ls 2 [(0, .ref (b + 0)), (1, .ref (b + p1))] := hl
  have hle0 : kle K0 K0 := kle.rf
  have hcn : kc K0 + 0 = kc K0 := rfl
  have hsn : ks K0 + 0 = ks K0 := rfl
  have hzz := hZ
  have hyy := hY
  unfold wx1_monic at h
  refine lv_aload_n hx hb dX1_monic_0 rfl (lv_at hl 1 rfl) ?_
  refine x_cV (k := p1) (As := []) (rest := []) ⟨hx, hb, hml, hown, hts⟩ (mx6_isZero l G b hole p1 K0 T hk_p1 _ h) (cwV 0 hts (lw_V q785 q786 q787 q126 q788) rfl rfl rfl cwx_X6_isZero ⟨Nat.le_of_ble_eq_true rfl, Nat.le_of_ble_eq_true rfl⟩) (x_recv (CC := RX6) (ci := 5) hK hP hk_p1 (by decide) (by decide) rfl (xE_2 hk_p1)) hK hV hb0 hP hS rfl hl.1 rfl (Nat.le_of_ble_eq_true rfl) dX1_monic_1 ⟨by first | exact Nat.zero_le _ | (show _ + _ ≤ Z - kc K0; omega), by first | exact Nat.zero_le _ | (show _ + _ ≤ Y - ks K0; omega)⟩ (fun r_1 T1 K1 H locs h hle1 hc1 hs1 hP hS => ?_)
  obtain ⟨h, hTe, hKe⟩ := h
  rw [hTe, hKe] at hP
  refine lv_if_eq (tgt := 11) hx hb dX1_monic_4 (by decide) (fun c_12 => ?_) (fun c_12 => ?_)
  · have h := h.1 c_12
    refine lv_aload_n hx hb dX1_monic_11 rfl (lv_at hl 0 rfl) ?_
    refine lv_aload_n hx hb dX1_monic_12 rfl (lv_at hl 1 rfl) ?_
    refine lv_aload_n hx hb dX1_monic_13 rfl (lv_at hl 0 rfl) ?_
    refine x_get (CC := RX1) (TT := TX1) (N := 26) (ci := 0) (v := .ref (b + 1)) hx hb hts in_X1 hown hK hP (xs_0 hP) (by decide) (by decide) rfl (xE_8 (xs_0 hP)) 5 (by decide) q390 rfl rfl dX1_monic_14 ?_
    refine lv_aload_n hx hb dX1_monic_17 rfl (lv_at hl 1 rfl) ?_
    obtain ⟨v_4, ev_4, h⟩ := h
    refine x_get (CC := RX6) (TT := TX6) (N := 3) (ci := 5) (v := rfv b (xr T p1 1)) hx hb hts in_X6 hown hK hP hk_p1 (by decide) (by decide) rfl (xE_2 hk_p1) 1 (by decide) q369 rfl rfl dX1_monic_18 ?_
    refine x_some ev_4 ?_
    have hk_v_4 : kd K0 v_4 = 1 := hP.ty hk_p1 (by decide) ev_4
    refine lv_iconst (v := 0) hx hb dX1_monic_21 (by decide) ?_
    obtain ⟨j_5, hj_5, ej_5, h⟩ := h
    refine x_iald hx hb hK hP hk_v_4 ej_5 hj_5 dX1_monic_22 ?_
    obtain ⟨j_6, hj_6, ej_6, h⟩ := h
    refine x_iald hx hb hK hP (xs_1 hP) ej_6 (by rw [xl_1 hP]; exact hj_6) dX1_monic_23 ?_
    obtain ⟨Z_10, Y_11, hz1, hz2, hy1, hy2, h⟩ := h
    refine x_cV (k := 0) (As := [.ref (b + p1), .int (xi T 1 j_6)]) (rest := []) ⟨hx, hb, hml, hown, hts⟩ (mx1_scaled l G b hole p1 (xi T 1 j_6) K0 T Z_10 Y_11 hz1 hy1 hk_p1 _ h) (cwV 2 hts (lw_V q961 q963 qs41 q118 q964) rfl rfl rfl cwx_X1_scaled ⟨Nat.le_of_ble_eq_true rfl, Nat.le_of_ble_eq_true rfl⟩) (x_recv (CC := RX1) (ci := 0) hK hP (xs_0 hP) (by decide) (by decide) rfl (xE_8 (xs_0 hP))) hK hV hb0 hP hS rfl hl.1 rfl (Nat.le_of_ble_eq_true rfl) dX1_monic_24 ⟨by first | exact Nat.zero_le _ | (show _ + _ ≤ Z - kc K0; omega), by first | exact Nat.zero_le _ | (show _ + _ ≤ Y - ks K0; omega)⟩ (fun r_7 T1 K1 H locs h hle1 hc1 hs1 hP hS => ?_)
    obtain ⟨h, hk_r_7⟩ := h
    generalize T1 = T_8 at h hP
    generalize K1 = K_9 at h hP hle1 hc1 hs1 hk_r_7
    have hk_p1 : kd K_9 p1 = 2 := hle1.kd hk_p1
    have hle0 := hle0.tr hle1
    have hcn : kc K0 + (0 + (Z_10 - kc K0)) = kc K_9 := by omega
    have hsn : ks K0 + (0 + (Y_11 - ks K0)) = ks K_9 := by omega
    have hzz : kc K_9 ≤ Z := by omega
    have hyy : ks K_9 ≤ Y := by omega
    refine W.widen (k := Z - kc K0) (n := Y - ks K0) (by omega) (by omega) ?_
    exact W.aret (v := .ref (b + r_7)) hx hb hr (Or.inl ⟨_, rfl⟩) (Or.inr ⟨_, rfl⟩) (fun t ht hW => ⟨⟨r_7, T_8, (kset K_9 Z Y), rfl, ⟨h, hk_r_7⟩, hle0, (by show Z = _; omega), (by show Y = _; omega), by rw [ht]; exact hP, va_K.moved hW.alike hK⟩, hS.F ht⟩) hS.2.2 dX1_monic_27
  · have h := h.2 c_12
    refine lv_aload_n hx hb dX1_monic_7 rfl (lv_at hl 1 rfl) ?_
    refine lv_goto (tgt := 27) hx hb dX1_monic_8 (by decide) ?_
    refine W.widen (k := Z - kc K0) (n := Y - ks K0) (by omega) (by omega) ?_
    exact W.aret (v := .ref (b + p1)) hx hb hr (Or.inl ⟨_, rfl⟩) (Or.inr ⟨_, rfl⟩) (fun t ht hW => ⟨⟨p1, T, (kset K0 Z Y), rfl, ⟨h, hk_p1⟩, hle0, (by show Z = _; omega), (by show Y = _; omega), by rw [ht]; exact hP, va_K.moved hW.alike hK⟩, hS.F ht⟩) hS.2.2 dX1_monic_27
theorem cwx_X1_pair : yX1_pair.cls = RX1 ∧ yX1_pair.cls ≠ "java/lang/invoke/MethodHandle" ∧ yX1_pair.cls ≠ "java/lang/invoke/VarHandle" ∧ (parseMethodDescriptor yX1_pair.desc).map (fun d => d.parameters.length) = some 2 := by decide +kernel
def wx1_pair_b8 (p1 : Nat) (p2 : Nat) (Z Y : Nat) (post : Option Nat → XT → XK → Prop) (R8 : Int32 → Int32 → Int32 → Prop)  (x3 : Int32) (x4 : Int32) (x5 : Int32) (K : XK) (T : XT) : Prop :=
      ((3 ≤ x5 →
        kc K + 1 ≤ Z ∧ ks K + 3 ≤ Y ∧ ∀ K_1 : XK, K_1 = knew K 2 0 3 → ∀ T_2 : XT, T_2 = xnil T (kz K) →
        ∃ Z_6 Y_7 : Nat, kc K_1 ≤ Z_6 ∧ Z_6 ≤ Z ∧ ks K_1 ≤ Y_7 ∧ Y_7 ≤ Y ∧ wx6_init (kz K) K_1 T_2 Z_6 Y_7 (fun T_4 K_5 =>
        ∃ Z_11 Y_12 : Nat, kc K_5 ≤ Z_11 ∧ Z_11 ≤ Z ∧ ks K_5 ≤ Y_12 ∧ Y_12 ≤ Y ∧ wx1_monic p1 K_5 T_4 Z_11 Y_12 (fun r_8 T_9 K_10 =>
        ∃ Z_16 Y_17 : Nat, kc K_10 ≤ Z_16 ∧ Z_16 ≤ Z ∧ ks K_10 ≤ Y_17 ∧ Y_17 ≤ Y ∧ wx1_sum_2 (kz K) r_8 1 x3 K_10 T_9 Z_16 Y_17 (fun r_13 T_14 K_15 =>
        ((r_13 = none →
          post none T_14 (kset K_15 Z Y)) ∧
         (∀ v_18 : Nat, r_13 = some v_18 →
          ∃ Z_22 Y_23 : Nat, kc K_15 ≤ Z_22 ∧ Z_22 ≤ Z ∧ ks K_15 ≤ Y_23 ∧ Y_23 ≤ Y ∧ wx1_monic p2 K_15 T_14 Z_22 Y_23 (fun r_19 T_20 K_21 =>
          ∃ Z_27 Y_28 : Nat, kc K_21 ≤ Z_27 ∧ Z_27 ≤ Z ∧ ks K_21 ≤ Y_28 ∧ Y_28 ≤ Y ∧ wx1_sum_2 v_18 r_19 ((xi T_20 0 0) - 1) x4 K_21 T_20 Z_27 Y_28 (fun r_24 T_25 K_26 =>
          post r_24 T_25 (kset K_26 Z Y))))))))) ∧
       (¬ (3 ≤ x5) →
        ∃ v_30 : Nat, xr T p1 0 = some v_30 ∧
        ∃ j_31 : Nat, j_31 < kl K v_30 ∧ 0 = nI j_31 ∧
        wx1_exponent (xi T v_30 j_31) x5 K T (fun r_32 =>
        ∃ v_35 : Nat, xr T p2 0 = some v_35 ∧
        ∃ j_36 : Nat, j_36 < kl K v_35 ∧ 0 = nI j_36 ∧
        wx1_exponent (xi T v_35 j_36) x5 K T (fun r_37 =>
        ∀ x3_40 : Int32, x3_40 = (x3 ||| (jshl (jmax 0 (r_37 - r_32)) (4 * x5))) →
        ∀ x4_41 : Int32, x4_41 = (x4 ||| (jshl (jmax 0 (r_32 - r_37)) (4 * x5))) →
        ∀ x5_42 : Int32, x5_42 = x5 + 1 →
        R8 x3_40 x4_41 x5_42))))
def wx1_pair_l8 (p1 : Nat) (p2 : Nat) (Z Y : Nat) (post : Option Nat → XT → XK → Prop)  (x3 : Int32) (x4 : Int32) (x5 : Int32) (K : XK) (T : XT) : Prop := wLoop (fun (R : ((Int32) × (Int32) × (Int32)) → Prop) (v : (Int32) × (Int32) × (Int32)) => wx1_pair_b8 p1 p2 Z Y post (fun x3 x4 x5 => R (x3, x4, x5))  v.1 v.2.1 v.2.2 K T) (x3, x4, x5)
def wx1_pair (p1 : Nat) (p2 : Nat) (K0 : XK) (T : XT) (Z Y : Nat) (post : Option Nat → XT → XK → Prop) : Prop :=
  wx1_pair_l8 p1 p2 Z Y post 0 0 0 K0 T
set_option maxHeartbeats 4000000 in
theorem mx1_pair (l : Launch) (G : XG) (b : Nat) (hole : Nat → Prop) (p1 : Nat) (p2 : Nat) (K0 : XK) (T : XT) (Z Y : Nat) (hZ : kc K0 ≤ Z) (hY : ks K0 ≤ Y) (hk_p1 : kd K0 p1 = 2) (hk_p2 : kd K0 p2 = 2) (post : Option Nat → XT → XK → Prop) (h : wx1_pair p1 p2 K0 T Z Y post) : Met l yX1_pair (ws_ yX1_pair cX1_pair 8 (some (.object "TermDesk$Poly"))) ({ frames := 8, cells := (Z - kc K0), slots := (Y - ks K0), locals := 186 } : Room) (xPc G b hole [.ref (b + 0), .ref (b + p1), .ref (b + p2)] K0 T) (xQ G b hole K0 (Z - kc K0) (Y - ks K0) (ρ := Option Nat) (eQ b) (fun r T1 K1 => post r T1 K1 ∧ (∀ v, r = some v → kd K1 v = 2))) (Z - kc K0) (Y - ks K0) (xA b hole) := by
  refine Met.ofW (cc := cX1_pair) (maxL := 8) (ret := (some (.object "TermDesk$Poly"))) (by decide) rfl ?_
  intro p e s m args below meth c s₁ B hml hv
  obtain ⟨rfl, hP, hK, hV⟩ := hv
  have hx := B.exec
  have hb := B.bytes
  have hr := B.returns
  have hts := atoms_spec (ws := ws_ yX1_pair cX1_pair 8 (some (.object "TermDesk$Poly"))) B.pre
  have hts : ∀ w ∈ lw_all, w.before _ s = true := fun w h => hts w (List.mem_cons_of_mem _ h)
  have hown : s.vm.findClass RX1 = some m.cls := findClass_of_methodNamed B.named
  have hlocks := B.notSynchronized
  have hb0 : b ≤ s.heap.size := by rw [hP.2.2.2]; exact Nat.le_add_right _ _
  have hS : va_S (xA b hole) s.heap s.heap [] := va_S.rf
  have hl := lv_entry ([.ref (b + 0), .ref (b + p1), .ref (b + p2)]) (n := 8) (Nat.le_of_ble_eq_true rfl)
  rw [lg_entry_eq]
  generalize (lg_sl ([.ref (b + 0), .ref (b + p1), .ref (b + p2)]) ++ List.replicate (8 - (lg_sl ([.ref (b + 0), .ref (b + p1), .ref (b + p2)])).length) Slot.unset).toArray = ls at hl ⊢
  have hl : lv_has ls 8 [(0, .ref (b + 0)), (1, .ref (b + p1)), (2, .ref (b + p2))] := hl
  have hle0 : kle K0 K0 := kle.rf
  have L8 : ∀ (x3 : Int32) (x4 : Int32) (x5 : Int32) (T : XT) (K : XK) (cn sn : Nat) (H : Heap) (locs : List Loc) (ls : Array Slot), wx1_pair_l8 p1 p2 Z Y post  x3 x4 x5 K T → kle K0 K → kc K0 + cn = kc K → ks K0 + sn = ks K → kc K ≤ Z → ks K ≤ Y → (kd K p1 = 2) → (kd K p2 = 2) → xW G b hole K T H → va_S (xA b hole) s.heap H locs → lv_has ls 8 [(0, .ref (b + 0)), (1, .ref (b + p1)), (2, .ref (b + p2)), (3, .int x3), (4, .int x4), (5, .int x5)] → W p l e (headSpec (ws_ yX1_pair cX1_pair 8 (some (.object "TermDesk$Poly"))) ({ frames := 8, cells := (Z - kc K0), slots := (Y - ks K0), locals := 186 } : Room)).room s m ([.ref (b + 0), .ref (b + p1), .ref (b + p2)] : List Value).toArray below meth c H locs cn sn (MQ below (xQ G b hole K0 (Z - kc K0) (Y - ks K0) (ρ := Option Nat) (eQ b) (fun r T1 K1 => post r T1 K1 ∧ (∀ v, r = some v → kd K1 v = 2))) ([.ref (b + 0), .ref (b + p1), .ref (b + p2)] : List Value).toArray s (Z - kc K0) (Y - ks K0) (xA b hole)) (F0 m 8 ls []) := by
    intro x3 x4 x5 T K cn sn H locs ls h hle0 hcn hsn hzz hyy hk_p1 hk_p2 hP hS hl
    obtain ⟨I8, n8, hI, hstep8⟩ := h
    induction n8 using Nat.strongRecOn generalizing x3 x4 x5 H locs ls with
    | ind n8 ih8 =>
      have h : wx1_pair_b8 p1 p2 Z Y post (fun x3 x4 x5 => ∃ mm, mm < n8 ∧ I8 mm (x3, x4, x5))  x3 x4 x5 K T := hstep8 n8 _ hI
      clear hI
      unfold wx1_pair_b8 at h
      refine lv_iload hx hb dX1_pair_8 (lv_at hl 5 rfl) ?_
      refine lv_iconst (v := 3) hx hb dX1_pair_10 (by decide) ?_
      refine lv_icmp_ge (tgt := 82) hx hb dX1_pair_11 (by decide) (fun c_43 => ?_) (fun c_43 => ?_)
      · have h := h.1 c_43
        refine lv_aload_n hx hb dX1_pair_82 rfl (lv_at hl 0 rfl) ?_
        obtain ⟨hc1, hs1, h⟩ := h
        obtain ⟨K_1, eK_1⟩ : ∃ z : XK, z = knew K 2 0 3 := ⟨_, rfl⟩
        obtain ⟨T_2, eT_2⟩ : ∃ z : XT, z = xnil T (kz K) := ⟨_, rfl⟩
        have h := h K_1 eK_1 T_2 eT_2
        have hle1 : kle K K_1 := by rw [eK_1]; exact kle.new hP.2.2.1 _ _ _
        refine x_new (CC := RX6) (TT := TX6) (N := 3) (ci := 5) (kn := 2) (fs := [.null, .null, .int 0]) hx hb hts in_X6 tyX6 tyX6_ok hown q352 q356 q126 hK hP hS rfl (by decide) (by decide) (fun K1 h9 => by rw [xE_2 h9]; simp [fs2, xnil, xi, xr, va_up_self, rfv, va_rf]) (fun j hj => by rcases (show j = 0 ∨ j = 1 ∨ j = 2 by omega) with rfl | rfl | rfl <;> rfl) (by show _ + 1 ≤ Z - kc K0; omega) (by show _ + _ ≤ Y - ks K0; omega) dX1_pair_83 (fun H hP hS => ?_)
        rw [← eK_1, ← eT_2] at hP
        have hk_p1 : kd K_1 p1 = 2 := hle1.kd hk_p1
        have hk_p2 : kd K_1 p2 = 2 := hle1.kd hk_p2
        have hk_n1 : kd K_1 (kz K) = 2 := by rw [eK_1]; exact knew_kd
        have hle0 := hle0.tr hle1
        have hcn : kc K0 + (cn + 1) = kc K_1 := by rw [eK_1]; show _ = kc K + 1; omega
        have hsn : ks K0 + (sn + 3) = ks K_1 := by rw [eK_1]; show _ = ks K + 3; omega
        have hzz : kc K_1 ≤ Z := by rw [eK_1]; exact hc1
        have hyy : ks K_1 ≤ Y := by rw [eK_1]; exact hs1
        refine lv_dup hx hb dX1_pair_86 rfl ?_
        obtain ⟨Z_6, Y_7, hz1, hz2, hy1, hy2, h⟩ := h
        refine x_cI (k := (kz K)) (As := []) (rest := [.ref (b + (kz K)), .ref (b + 0)]) ⟨hx, hb, hml, hown, hts⟩ (mx6_init l G b hole (kz K) K_1 T_2 Z_6 Y_7 hz1 hy1 hk_n1 _ h) (cwI 0 hts (lw_meth q359) rfl rfl rfl (hts _ q126) (hts _ q357) (hts _ q358) rfl cwx_X6_init ⟨Nat.le_of_ble_eq_true rfl, Nat.le_of_ble_eq_true rfl⟩) hK hV hb0 hP hS rfl hl.1 rfl (Nat.le_of_ble_eq_true rfl) dX1_pair_87 ⟨by first | exact Nat.zero_le _ | (show _ + _ ≤ Z - kc K0; omega), by first | exact Nat.zero_le _ | (show _ + _ ≤ Y - ks K0; omega)⟩ (fun r_3 T1 K1 H locs h hle1 hc1 hs1 hP hS => ?_)
        generalize T1 = T_4 at h hP
        generalize K1 = K_5 at h hP hle1 hc1 hs1
        have hk_p1 : kd K_5 p1 = 2 := hle1.kd hk_p1
        have hk_p2 : kd K_5 p2 = 2 := hle1.kd hk_p2
        have hk_n1 : kd K_5 (kz K) = 2 := hle1.kd hk_n1
        have hle0 := hle0.tr hle1
        have hcn : kc K0 + ((cn + 1) + (Z_6 - kc K_1)) = kc K_5 := by omega
        have hsn : ks K0 + ((sn + 3) + (Y_7 - ks K_1)) = ks K_5 := by omega
        have hzz : kc K_5 ≤ Z := by omega
        have hyy : ks K_5 ≤ Y := by omega
        refine lv_aload_n hx hb dX1_pair_90 rfl (lv_at hl 0 rfl) ?_
        refine lv_aload_n hx hb dX1_pair_91 rfl (lv_at hl 1 rfl) ?_
        obtain ⟨Z_11, Y_12, hz1, hz2, hy1, hy2, h⟩ := h
        refine x_cV (k := 0) (As := [.ref (b + p1)]) (rest := [.ref (b + (kz K)), .ref (b + 0)]) ⟨hx, hb, hml, hown, hts⟩ (mx1_monic l G b hole p1 K_5 T_4 Z_11 Y_12 hz1 hy1 hk_p1 _ h) (cwV 1 hts (lw_V q957 q959 qs40 q118 q960) rfl rfl rfl cwx_X1_monic ⟨Nat.le_of_ble_eq_true rfl, Nat.le_of_ble_eq_true rfl⟩) (x_recv (CC := RX1) (ci := 0) hK hP (xs_0 hP) (by decide) (by decide) rfl (xE_8 (xs_0 hP))) hK hV hb0 hP hS rfl hl.1 rfl (Nat.le_of_ble_eq_true rfl) dX1_pair_92 ⟨by first | exact Nat.zero_le _ | (show _ + _ ≤ Z - kc K0; omega), by first | exact Nat.zero_le _ | (show _ + _ ≤ Y - ks K0; omega)⟩ (fun r_8 T1 K1 H locs h hle1 hc1 hs1 hP hS => ?_)
        obtain ⟨h, hk_r_8⟩ := h
        generalize T1 = T_9 at h hP
        generalize K1 = K_10 at h hP hle1 hc1 hs1 hk_r_8
        have hk_p1 : kd K_10 p1 = 2 := hle1.kd hk_p1
        have hk_p2 : kd K_10 p2 = 2 := hle1.kd hk_p2
        have hk_n1 : kd K_10 (kz K) = 2 := hle1.kd hk_n1
        have hle0 := hle0.tr hle1
        have hcn : kc K0 + (((cn + 1) + (Z_6 - kc K_1)) + (Z_11 - kc K_5)) = kc K_10 := by omega
        have hsn : ks K0 + (((sn + 3) + (Y_7 - ks K_1)) + (Y_12 - ks K_5)) = ks K_10 := by omega
        have hzz : kc K_10 ≤ Z := by omega
        have hyy : ks K_10 ≤ Y := by omega
        refine lv_iconst (v := 1) hx hb dX1_pair_95 (by decide) ?_
        refine lv_iload_n hx hb dX1_pair_96 rfl (lv_at hl 3 rfl) ?_
        obtain ⟨Z_16, Y_17, hz1, hz2, hy1, hy2, h⟩ := h
        refine x_cV (k := 0) (As := [.ref (b + (kz K)), .ref (b + r_8), .int 1, .int x3]) (rest := []) ⟨hx, hb, hml, hown, hts⟩ (mx1_sum_2 l G b hole (kz K) r_8 1 x3 K_10 T_9 Z_16 Y_17 hz1 hy1 hk_n1 hk_r_8 _ h) (cwV 4 hts (lw_V q965 q967 qs42 q118 q968) rfl rfl rfl cwx_X1_sum_2 ⟨Nat.le_of_ble_eq_true rfl, Nat.le_of_ble_eq_true rfl⟩) (x_recv (CC := RX1) (ci := 0) hK hP (xs_0 hP) (by decide) (by decide) rfl (xE_8 (xs_0 hP))) hK hV hb0 hP hS rfl hl.1 rfl (Nat.le_of_ble_eq_true rfl) dX1_pair_97 ⟨by first | exact Nat.zero_le _ | (show _ + _ ≤ Z - kc K0; omega), by first | exact Nat.zero_le _ | (show _ + _ ≤ Y - ks K0; omega)⟩ (fun r_13 T1 K1 H locs h hle1 hc1 hs1 hP hS => ?_)
        obtain ⟨h, hk_r_13⟩ := h
        generalize T1 = T_14 at h hP
        generalize K1 = K_15 at h hP hle1 hc1 hs1 hk_r_13
        have hk_p1 : kd K_15 p1 = 2 := hle1.kd hk_p1
        have hk_p2 : kd K_15 p2 = 2 := hle1.kd hk_p2
        have hle0 := hle0.tr hle1
        have hcn : kc K0 + ((((cn + 1) + (Z_6 - kc K_1)) + (Z_11 - kc K_5)) + (Z_16 - kc K_10)) = kc K_15 := by omega
        have hsn : ks K0 + ((((sn + 3) + (Y_7 - ks K_1)) + (Y_12 - ks K_5)) + (Y_17 - ks K_10)) = ks K_15 := by omega
        have hzz : kc K_15 ≤ Z := by omega
        have hyy : ks K_15 ≤ Y := by omega
        refine x_astore (lv' := [(5, rfv b r_13), (0, .ref (b + 0)), (1, .ref (b + p1)), (2, .ref (b + p2)), (3, .int x3), (4, .int x4)]) hx hb dX1_pair_100 hl (by decide) rfl (fun ls hl => ?_)
        refine x_aload hx hb dX1_pair_102 (lv_at hl 0 rfl) ?_
        refine x_ifnonnull (tgt := 111) hx hb dX1_pair_104 (by decide) (fun v_18 c_29 => ?_) (fun c_29 => ?_)
        · replace h := h.2 v_18 c_29
          have hk_v_18 : kd K_15 v_18 = 2 := hk_r_13 _ c_29
          subst c_29
          refine lv_aload_n hx hb dX1_pair_111 rfl (lv_at hl 1 rfl) ?_
          refine lv_aload hx hb dX1_pair_112 (lv_at hl 0 rfl) ?_
          refine lv_aload_n hx hb dX1_pair_114 rfl (lv_at hl 1 rfl) ?_
          refine lv_aload_n hx hb dX1_pair_115 rfl (lv_at hl 3 rfl) ?_
          obtain ⟨Z_22, Y_23, hz1, hz2, hy1, hy2, h⟩ := h
          refine x_cV (k := 0) (As := [.ref (b + p2)]) (rest := [.ref (b + v_18), .ref (b + 0)]) ⟨hx, hb, hml, hown, hts⟩ (mx1_monic l G b hole p2 K_15 T_14 Z_22 Y_23 hz1 hy1 hk_p2 _ h) (cwV 1 hts (lw_V q957 q959 qs40 q118 q960) rfl rfl rfl cwx_X1_monic ⟨Nat.le_of_ble_eq_true rfl, Nat.le_of_ble_eq_true rfl⟩) (x_recv (CC := RX1) (ci := 0) hK hP (xs_0 hP) (by decide) (by decide) rfl (xE_8 (xs_0 hP))) hK hV hb0 hP hS rfl hl.1 rfl (Nat.le_of_ble_eq_true rfl) dX1_pair_116 ⟨by first | exact Nat.zero_le _ | (show _ + _ ≤ Z - kc K0; omega), by first | exact Nat.zero_le _ | (show _ + _ ≤ Y - ks K0; omega)⟩ (fun r_19 T1 K1 H locs h hle1 hc1 hs1 hP hS => ?_)
          obtain ⟨h, hk_r_19⟩ := h
          generalize T1 = T_20 at h hP
          generalize K1 = K_21 at h hP hle1 hc1 hs1 hk_r_19
          have hk_v_18 : kd K_21 v_18 = 2 := hle1.kd hk_v_18
          have hk_p1 : kd K_21 p1 = 2 := hle1.kd hk_p1
          have hk_p2 : kd K_21 p2 = 2 := hle1.kd hk_p2
          have hle0 := hle0.tr hle1
          have hcn : kc K0 + (((((cn + 1) + (Z_6 - kc K_1)) + (Z_11 - kc K_5)) + (Z_16 - kc K_10)) + (Z_22 - kc K_15)) = kc K_21 := by omega
          have hsn : ks K0 + (((((sn + 3) + (Y_7 - ks K_1)) + (Y_12 - ks K_5)) + (Y_17 - ks K_10)) + (Y_23 - ks K_15)) = ks K_21 := by omega
          have hzz : kc K_21 ≤ Z := by omega
          have hyy : ks K_21 ≤ Y := by omega
          refine lv_aload_n hx hb dX1_pair_119 rfl (lv_at hl 1 rfl) ?_
          refine x_get (CC := RX1) (TT := TX1) (N := 26) (ci := 0) (v := .int (xi T_20 0 0)) hx hb hts in_X1 hown hK hP (xs_0 hP) (by decide) (by decide) rfl (xE_8 (xs_0 hP)) 0 (by decide) q384 rfl rfl dX1_pair_120 ?_
          refine lv_iconst (v := 1) hx hb dX1_pair_123 (by decide) ?_
          refine lv_isub hx hb dX1_pair_124 ?_
          refine lv_iload hx hb dX1_pair_125 (lv_at hl 5 rfl) ?_
          obtain ⟨Z_27, Y_28, hz1, hz2, hy1, hy2, h⟩ := h
          refine x_cV (k := 0) (As := [.ref (b + v_18), .ref (b + r_19), .int ((xi T_20 0 0) - 1), .int x4]) (rest := []) ⟨hx, hb, hml, hown, hts⟩ (mx1_sum_2 l G b hole v_18 r_19 ((xi T_20 0 0) - 1) x4 K_21 T_20 Z_27 Y_28 hz1 hy1 hk_v_18 hk_r_19 _ h) (cwV 4 hts (lw_V q965 q967 qs42 q118 q968) rfl rfl rfl cwx_X1_sum_2 ⟨Nat.le_of_ble_eq_true rfl, Nat.le_of_ble_eq_true rfl⟩) (x_recv (CC := RX1) (ci := 0) hK hP (xs_0 hP) (by decide) (by decide) rfl (xE_8 (xs_0 hP))) hK hV hb0 hP hS rfl hl.1 rfl (Nat.le_of_ble_eq_true rfl) dX1_pair_127 ⟨by first | exact Nat.zero_le _ | (show _ + _ ≤ Z - kc K0; omega), by first | exact Nat.zero_le _ | (show _ + _ ≤ Y - ks K0; omega)⟩ (fun r_24 T1 K1 H locs h hle1 hc1 hs1 hP hS => ?_)
          obtain ⟨h, hk_r_24⟩ := h
          generalize T1 = T_25 at h hP
          generalize K1 = K_26 at h hP hle1 hc1 hs1 hk_r_24
          have hk_v_18 : kd K_26 v_18 = 2 := hle1.kd hk_v_18
          have hk_p1 : kd K_26 p1 = 2 := hle1.kd hk_p1
          have hk_p2 : kd K_26 p2 = 2 := hle1.kd hk_p2
          have hle0 := hle0.tr hle1
          have hcn : kc K0 + ((((((cn + 1) + (Z_6 - kc K_1)) + (Z_11 - kc K_5)) + (Z_16 - kc K_10)) + (Z_22 - kc K_15)) + (Z_27 - kc K_21)) = kc K_26 := by omega
          have hsn : ks K0 + ((((((sn + 3) + (Y_7 - ks K_1)) + (Y_12 - ks K_5)) + (Y_17 - ks K_10)) + (Y_23 - ks K_15)) + (Y_28 - ks K_21)) = ks K_26 := by omega
          have hzz : kc K_26 ≤ Z := by omega
          have hyy : ks K_26 ≤ Y := by omega
          refine W.widen (k := Z - kc K0) (n := Y - ks K0) (by omega) (by omega) ?_
          exact W.aret (v := rfv b r_24) hx hb hr (Or.inl ⟨_, rfl⟩) (by cases r_24 <;> first | exact Or.inl rfl | exact Or.inr ⟨_, rfl⟩) (fun t ht hW => ⟨⟨r_24, T_25, (kset K_26 Z Y), rfl, ⟨h, hk_r_24⟩, hle0, (by show Z = _; omega), (by show Y = _; omega), by rw [ht]; exact hP, va_K.moved hW.alike hK⟩, hS.F ht⟩) hS.2.2 dX1_pair_130
        · replace h := h.1 c_29
          refine lv_null hx hb dX1_pair_107 ?_
          refine lv_goto (tgt := 130) hx hb dX1_pair_108 (by decide) ?_
          refine W.widen (k := Z - kc K0) (n := Y - ks K0) (by omega) (by omega) ?_
          exact W.aret (v := .null) hx hb hr (Or.inl ⟨_, rfl⟩) (Or.inl rfl) (fun t ht hW => ⟨⟨none, T_14, (kset K_15 Z Y), rfl, ⟨h, (fun _ e9 => by cases e9)⟩, hle0, (by show Z = _; omega), (by show Y = _; omega), by rw [ht]; exact hP, va_K.moved hW.alike hK⟩, hS.F ht⟩) hS.2.2 dX1_pair_130
      · have h := h.2 c_43
        refine lv_aload_n hx hb dX1_pair_14 rfl (lv_at hl 1 rfl) ?_
        obtain ⟨v_30, ev_30, h⟩ := h
        refine x_get (CC := RX6) (TT := TX6) (N := 3) (ci := 5) (v := rfv b (xr T p1 0)) hx hb hts in_X6 hown hK hP hk_p1 (by decide) (by decide) rfl (xE_2 hk_p1) 0 (by decide) q366 rfl rfl dX1_pair_15 ?_
        refine x_some ev_30 ?_
        have hk_v_30 : kd K v_30 = 1 := hP.ty hk_p1 (by decide) ev_30
        refine lv_iconst (v := 0) hx hb dX1_pair_18 (by decide) ?_
        obtain ⟨j_31, hj_31, ej_31, h⟩ := h
        refine x_iald hx hb hK hP hk_v_30 ej_31 hj_31 dX1_pair_19 ?_
        refine lv_iload hx hb dX1_pair_20 (lv_at hl 5 rfl) ?_
        refine x_cS (As := [.int (xi T v_30 j_31), .int x5]) (rest := []) ⟨hx, hb, hml, hown, hts⟩ (mx1_exponent l G b hole (xi T v_30 j_31) x5 K T  _ h) (va_cwS 2 hts (lw_S q723 q724 q118 q725) rfl rfl rfl cwx_X1_exponent ⟨Nat.le_of_ble_eq_true rfl, Nat.le_of_ble_eq_true rfl⟩) hK hV hb0 hP hS rfl hl.1 rfl (Nat.le_of_ble_eq_true rfl) dX1_pair_22 ⟨by first | exact Nat.zero_le _ | (show _ + _ ≤ Z - kc K0; omega), by first | exact Nat.zero_le _ | (show _ + _ ≤ Y - ks K0; omega)⟩ (fun r_32 T1 K1 H locs h hle1 hc1 hs1 hP hS => ?_)
        obtain ⟨h, hTe, hKe⟩ := h
        rw [hTe, hKe] at hP
        refine lv_istore (lv' := [(6, .int r_32), (0, .ref (b + 0)), (1, .ref (b + p1)), (2, .ref (b + p2)), (3, .int x3), (4, .int x4), (5, .int x5)]) hx hb dX1_pair_25 hl (by decide) rfl (fun ls hl => ?_)
        refine lv_aload_n hx hb dX1_pair_27 rfl (lv_at hl 3 rfl) ?_
        obtain ⟨v_35, ev_35, h⟩ := h
        refine x_get (CC := RX6) (TT := TX6) (N := 3) (ci := 5) (v := rfv b (xr T p2 0)) hx hb hts in_X6 hown hK hP hk_p2 (by decide) (by decide) rfl (xE_2 hk_p2) 0 (by decide) q366 rfl rfl dX1_pair_28 ?_
        refine x_some ev_35 ?_
        have hk_v_35 : kd K v_35 = 1 := hP.ty hk_p2 (by decide) ev_35
        refine lv_iconst (v := 0) hx hb dX1_pair_31 (by decide) ?_
        obtain ⟨j_36, hj_36, ej_36, h⟩ := h
        refine x_iald hx hb hK hP hk_v_35 ej_36 hj_36 dX1_pair_32 ?_
        refine lv_iload hx hb dX1_pair_33 (lv_at hl 6 rfl) ?_
        refine x_cS (As := [.int (xi T v_35 j_36), .int x5]) (rest := []) ⟨hx, hb, hml, hown, hts⟩ (mx1_exponent l G b hole (xi T v_35 j_36) x5 K T  _ h) (va_cwS 2 hts (lw_S q723 q724 q118 q725) rfl rfl rfl cwx_X1_exponent ⟨Nat.le_of_ble_eq_true rfl, Nat.le_of_ble_eq_true rfl⟩) hK hV hb0 hP hS rfl hl.1 rfl (Nat.le_of_ble_eq_true rfl) dX1_pair_35 ⟨by first | exact Nat.zero_le _ | (show _ + _ ≤ Z - kc K0; omega), by first | exact Nat.zero_le _ | (show _ + _ ≤ Y - ks K0; omega)⟩ (fun r_37 T1 K1 H locs h hle1 hc1 hs1 hP hS => ?_)
        obtain ⟨h, hTe, hKe⟩ := h
        rw [hTe, hKe] at hP
        refine lv_istore (lv' := [(7, .int r_37), (6, .int r_32), (0, .ref (b + 0)), (1, .ref (b + p1)), (2, .ref (b + p2)), (3, .int x3), (4, .int x4), (5, .int x5)]) hx hb dX1_pair_38 hl (by decide) rfl (fun ls hl => ?_)
        refine lv_iload_n hx hb dX1_pair_40 rfl (lv_at hl 5 rfl) ?_
        refine lv_iconst (v := 0) hx hb dX1_pair_41 (by decide) ?_
        refine lv_iload hx hb dX1_pair_42 (lv_at hl 0 rfl) ?_
        refine lv_iload hx hb dX1_pair_44 (lv_at hl 1 rfl) ?_
        refine lv_isub hx hb dX1_pair_46 ?_
        refine x_mmax hx hb (hml.trans hl.1.symm) hown hts q956 q810 q134 q811 (Nat.le_of_ble_eq_true rfl) (Nat.le_of_ble_eq_true rfl) (by first | exact Nat.zero_le _ | (show _ ≤ Z - kc K0; omega)) (by first | exact Nat.zero_le _ | (show _ ≤ Y - ks K0; omega)) dX1_pair_47 ?_
        refine lv_iconst (v := 4) hx hb dX1_pair_50 (by decide) ?_
        refine lv_iload hx hb dX1_pair_51 (lv_at hl 7 rfl) ?_
        refine lv_imul hx hb dX1_pair_53 ?_
        refine m_ishl hx hb dX1_pair_54 ?_
        refine lv_ior hx hb dX1_pair_55 ?_
        refine lv_topi (fun x3_40 ex3_40 => ?_)
        have h := h x3_40 ex3_40
        refine lv_istore_n (lv' := [(3, .int x3_40), (7, .int r_37), (6, .int r_32), (0, .ref (b + 0)), (1, .ref (b + p1)), (2, .ref (b + p2)), (4, .int x4), (5, .int x5)]) hx hb dX1_pair_56 rfl hl (by decide) rfl (fun ls hl => ?_)
        refine lv_iload hx hb dX1_pair_57 (lv_at hl 6 rfl) ?_
        refine lv_iconst (v := 0) hx hb dX1_pair_59 (by decide) ?_
        refine lv_iload hx hb dX1_pair_60 (lv_at hl 2 rfl) ?_
        refine lv_iload hx hb dX1_pair_62 (lv_at hl 1 rfl) ?_
        refine lv_isub hx hb dX1_pair_64 ?_
        refine x_mmax hx hb (hml.trans hl.1.symm) hown hts q956 q810 q134 q811 (Nat.le_of_ble_eq_true rfl) (Nat.le_of_ble_eq_true rfl) (by first | exact Nat.zero_le _ | (show _ ≤ Z - kc K0; omega)) (by first | exact Nat.zero_le _ | (show _ ≤ Y - ks K0; omega)) dX1_pair_65 ?_
        refine lv_iconst (v := 4) hx hb dX1_pair_68 (by decide) ?_
        refine lv_iload hx hb dX1_pair_69 (lv_at hl 7 rfl) ?_
        refine lv_imul hx hb dX1_pair_71 ?_
        refine m_ishl hx hb dX1_pair_72 ?_
        refine lv_ior hx hb dX1_pair_73 ?_
        refine lv_topi (fun x4_41 ex4_41 => ?_)
        have h := h x4_41 ex4_41
        refine lv_istore (lv' := [(4, .int x4_41), (3, .int x3_40), (7, .int r_37), (6, .int r_32), (0, .ref (b + 0)), (1, .ref (b + p1)), (2, .ref (b + p2)), (5, .int x5)]) hx hb dX1_pair_74 hl (by decide) rfl (fun ls hl => ?_)
        obtain ⟨x5_42, ex5_42⟩ : ∃ y : Int32, y = x5 + 1 := ⟨_, rfl⟩
        have h := h x5_42 ex5_42
        refine lv_iinc (v := x5_42) (lv' := [(5, .int x5_42), (4, .int x4_41), (3, .int x3_40), (7, .int r_37), (6, .int r_32), (0, .ref (b + 0)), (1, .ref (b + p1)), (2, .ref (b + p2))]) hx hb dX1_pair_76 hl (k := 7) rfl (by rw [ex5_42]; rfl) (by decide) rfl (fun ls hl => ?_)
        refine lv_goto (tgt := 8) hx hb dX1_pair_79 (by decide) ?_
        obtain ⟨mm, hmm, h⟩ := h
        exact ih8 mm hmm _ _ _ _ _ _  hP hS (lv_sub hl [5, 6, 7, 2, 1, 0] rfl) h
  have hcn : kc K0 + 0 = kc K0 := rfl
  have hsn : ks K0 + 0 = ks K0 := rfl
  have hzz := hZ
  have hyy := hY
  unfold wx1_pair at h
  refine lv_iconst (v := 0) hx hb dX1_pair_0 (by decide) ?_
  refine lv_istore_n (lv' := [(3, .int 0), (0, .ref (b + 0)), (1, .ref (b + p1)), (2, .ref (b + p2))]) hx hb dX1_pair_1 rfl hl (by decide) rfl (fun ls hl => ?_)
  refine lv_iconst (v := 0) hx hb dX1_pair_2 (by decide) ?_
  refine lv_istore (lv' := [(4, .int 0), (3, .int 0), (0, .ref (b + 0)), (1, .ref (b + p1)), (2, .ref (b + p2))]) hx hb dX1_pair_3 hl (by decide) rfl (fun ls hl => ?_)
  refine lv_iconst (v := 0) hx hb dX1_pair_5 (by decide) ?_
  refine lv_istore (lv' := [(5, .int 0), (4, .int 0), (3, .int 0), (0, .ref (b + 0)), (1, .ref (b + p1)), (2, .ref (b + p2))]) hx hb dX1_pair_6 hl (by decide) rfl (fun ls hl => ?_)
  exact L8 _ _ _ _ _ _ _ _ _ _ h hle0 hcn hsn hzz hyy hk_p1 hk_p2 hP hS (lv_sub hl [3, 4, 5, 2, 1, 0] rfl)
theorem cwx_X1_leaves : yX1_leaves.cls = RX1 ∧ yX1_leaves.cls ≠ "java/lang/invoke/MethodHandle" ∧ yX1_leaves.cls ≠ "java/lang/invoke/VarHandle" ∧ (parseMethodDescriptor yX1_leaves.desc).map (fun d => d.parameters.length) = some 3 := by decide +kernel
def wx1_leaves_j46 (p1 : Int32) (p2 : Int32) (p3 : Int32) (Z Y : Nat) (post : Int32 → XT → XK → Prop) (x5 : Int32) (K : XK) (T : XT) : Prop :=
    ((x5 = 0 →
      ((¬ (xi T 8 2) = 0 →
        post 1 T (kset K Z Y)) ∧
       ((xi T 8 2) = 0 →
        post 0 T (kset K Z Y)))) ∧
     (¬ (x5 = 0) →
      post (-x5) T (kset K Z Y)))
def wx1_leaves_j33 (p1 : Int32) (p2 : Int32) (p3 : Int32) (Z Y : Nat) (post : Int32 → XT → XK → Prop)  (K : XK) (T : XT) : Prop :=
    wx1_leaves_j46 p1 p2 p3 Z Y post 3 K T
def wx1_leaves (p1 : Int32) (p2 : Int32) (p3 : Int32) (K0 : XK) (T : XT) (Z Y : Nat) (post : Int32 → XT → XK → Prop) : Prop :=
  ∃ v_3 : Nat, xr T 0 18 = some v_3 ∧
  ∃ j_4 : Nat, j_4 < kl K0 v_3 ∧ p1 = nI j_4 ∧ ∃ v_5 : Nat, xr T v_3 j_4 = some v_5 ∧
  ∃ v_6 : Nat, xr T 0 18 = some v_6 ∧
  ∃ j_7 : Nat, j_7 < kl K0 v_6 ∧ p2 = nI j_7 ∧ ∃ v_8 : Nat, xr T v_6 j_7 = some v_8 ∧
  ∃ Z_12 Y_13 : Nat, kc K0 ≤ Z_12 ∧ Z_12 ≤ Z ∧ ks K0 ≤ Y_13 ∧ Y_13 ≤ Y ∧ wx1_pair v_5 v_8 K0 T Z_12 Y_13 (fun r_9 T_10 K_11 =>
  ((r_9 = none →
    wx1_leaves_j33 p1 p2 p3 Z Y post  K_11 T_10) ∧
   (∀ v_14 : Nat, r_9 = some v_14 →
    (((xi T_10 v_14 2) ≤ 60 →
      wx1_divides v_14 p3 K_11 T_10 (fun r_15 T_16 =>
      wx1_leaves_j46 p1 p2 p3 Z Y post r_15 K_11 T_16)) ∧
     (¬ ((xi T_10 v_14 2) ≤ 60) →
      wx1_leaves_j33 p1 p2 p3 Z Y post  K_11 T_10)))))
set_option maxHeartbeats 4000000 in
theorem mx1_leaves (l : Launch) (G : XG) (b : Nat) (hole : Nat → Prop) (p1 : Int32) (p2 : Int32) (p3 : Int32) (K0 : XK) (T : XT) (Z Y : Nat) (hZ : kc K0 ≤ Z) (hY : ks K0 ≤ Y)  (post : Int32 → XT → XK → Prop) (h : wx1_leaves p1 p2 p3 K0 T Z Y post) : Met l yX1_leaves (ws_ yX1_leaves cX1_leaves 6 (some .int)) ({ frames := 9, cells := (Z - kc K0), slots := (Y - ks K0), locals := 213 } : Room) (xPc G b hole [.ref (b + 0), .int p1, .int p2, .int p3] K0 T) (xQ G b hole K0 (Z - kc K0) (Y - ks K0) (ρ := Int32) eI (fun r T1 K1 => post r T1 K1)) (Z - kc K0) (Y - ks K0) (xA b hole) := by
  refine Met.ofW (cc := cX1_leaves) (maxL := 6) (ret := (some .int)) (by decide) rfl ?_
  intro p e s m args below meth c s₁ B hml hv
  obtain ⟨rfl, hP, hK, hV⟩ := hv
  have hx := B.exec
  have hb := B.bytes
  have hr := B.returns
  have hts := atoms_spec (ws := ws_ yX1_leaves cX1_leaves 6 (some .int)) B.pre
  have hts : ∀ w ∈ lw_all, w.before _ s = true := fun w h => hts w (List.mem_cons_of_mem _ h)
  have hown : s.vm.findClass RX1 = some m.cls := findClass_of_methodNamed B.named
  have hlocks := B.notSynchronized
  have hb0 : b ≤ s.heap.size := by rw [hP.2.2.2]; exact Nat.le_add_right _ _
  have hS : va_S (xA b hole) s.heap s.heap [] := va_S.rf
  have hl := lv_entry ([.ref (b + 0), .int p1, .int p2, .int p3]) (n := 6) (Nat.le_of_ble_eq_true rfl)
  rw [lg_entry_eq]
  generalize (lg_sl ([.ref (b + 0), .int p1, .int p2, .int p3]) ++ List.replicate (6 - (lg_sl ([.ref (b + 0), .int p1, .int p2, .int p3])).length) Slot.unset).toArray = ls at hl ⊢
  have hl : lv_has ls 6 [(0, .ref (b + 0)), (1, .int p1), (2, .int p2), (3, .int p3)] := hl
  have hle0 : kle K0 K0 := kle.rf
  have J46 : ∀ (x5 : Int32) (T : XT) (K : XK) (cn sn : Nat) (H : Heap) (locs : List Loc) (ls : Array Slot), wx1_leaves_j46 p1 p2 p3 Z Y post x5 K T → kle K0 K → kc K0 + cn = kc K → ks K0 + sn = ks K → kc K ≤ Z → ks K ≤ Y → xW G b hole K T H → va_S (xA b hole) s.heap H locs → lv_has ls 6 [(0, .ref (b + 0)), (5, .int x5)] → W p l e (headSpec (ws_ yX1_leaves cX1_leaves 6 (some .int)) ({ frames := 9, cells := (Z - kc K0), slots := (Y - ks K0), locals := 213 } : Room)).room s m ([.ref (b + 0), .int p1, .int p2, .int p3] : List Value).toArray below meth c H locs cn sn (MQ below (xQ G b hole K0 (Z - kc K0) (Y - ks K0) (ρ := Int32) eI (fun r T1 K1 => post r T1 K1)) ([.ref (b + 0), .int p1, .int p2, .int p3] : List Value).toArray s (Z - kc K0) (Y - ks K0) (xA b hole)) (F0 m 46 ls []) := by
    intro x5 T K cn sn H locs ls h hle0 hcn hsn hzz hyy hP hS hl
    unfold wx1_leaves_j46 at h
    refine lv_iload hx hb dX1_leaves_46 (lv_at hl 1 rfl) ?_
    refine lv_if_eq (tgt := 57) hx hb dX1_leaves_48 (by decide) (fun c_2 => ?_) (fun c_2 => ?_)
    · have h := h.1 c_2
      refine lv_aload_n hx hb dX1_leaves_57 rfl (lv_at hl 0 rfl) ?_
      refine x_get (CC := RX1) (TT := TX1) (N := 26) (ci := 0) (v := .ref (b + 6)) hx hb hts in_X1 hown hK hP (xs_0 hP) (by decide) (by decide) rfl (xE_8 (xs_0 hP)) 8 (by decide) q393 rfl rfl dX1_leaves_58 ?_
      refine x_getN (CC := RX3) (TT := TX3) (N := 9) (ci := 2) (v := .ref (b + 8)) hx hb hts in_X3 hown hK hV.1 hP (xs_6 hP) (by decide) (by decide) rfl (xE_10 (xs_6 hP)) 1 (by decide) q183 rfl rfl dX1_leaves_61 ?_
      refine x_getN (CC := RX2) (TT := TX2) (N := 3) (ci := 1) (v := .int (xi T 8 2)) hx hb hts in_X2 hown hK hV.1 hP (xs_8 hP) (by decide) (by decide) rfl (xE_9 (xs_8 hP)) 2 (by decide) q162 rfl rfl dX1_leaves_64 ?_
      refine lv_if_ne (tgt := 74) hx hb dX1_leaves_67 (by decide) (fun c_1 => ?_) (fun c_1 => ?_)
      · have h := h.1 c_1
        refine lv_iconst (v := 1) hx hb dX1_leaves_74 (by decide) ?_
        refine W.widen (k := Z - kc K0) (n := Y - ks K0) (by omega) (by omega) ?_
        exact W.iret (v := 1) hx hb hr (fun t ht hW => ⟨⟨1, T, (kset K Z Y), rfl, h, hle0, (by show Z = _; omega), (by show Y = _; omega), by rw [ht]; exact hP, va_K.moved hW.alike hK⟩, hS.F ht⟩) hS.2.2 dX1_leaves_75
      · have h := h.2 c_1
        refine lv_iconst (v := 0) hx hb dX1_leaves_70 (by decide) ?_
        refine lv_goto (tgt := 75) hx hb dX1_leaves_71 (by decide) ?_
        refine W.widen (k := Z - kc K0) (n := Y - ks K0) (by omega) (by omega) ?_
        exact W.iret (v := 0) hx hb hr (fun t ht hW => ⟨⟨0, T, (kset K Z Y), rfl, h, hle0, (by show Z = _; omega), (by show Y = _; omega), by rw [ht]; exact hP, va_K.moved hW.alike hK⟩, hS.F ht⟩) hS.2.2 dX1_leaves_75
    · have h := h.2 c_2
      refine lv_iload hx hb dX1_leaves_51 (lv_at hl 1 rfl) ?_
      refine lv_ineg hx hb dX1_leaves_53 ?_
      refine lv_goto (tgt := 75) hx hb dX1_leaves_54 (by decide) ?_
      refine W.widen (k := Z - kc K0) (n := Y - ks K0) (by omega) (by omega) ?_
      exact W.iret (v := (-x5)) hx hb hr (fun t ht hW => ⟨⟨(-x5), T, (kset K Z Y), rfl, h, hle0, (by show Z = _; omega), (by show Y = _; omega), by rw [ht]; exact hP, va_K.moved hW.alike hK⟩, hS.F ht⟩) hS.2.2 dX1_leaves_75
  have J33 : ∀  (T : XT) (K : XK) (cn sn : Nat) (H : Heap) (locs : List Loc) (ls : Array Slot), wx1_leaves_j33 p1 p2 p3 Z Y post  K T → kle K0 K → kc K0 + cn = kc K → ks K0 + sn = ks K → kc K ≤ Z → ks K ≤ Y → xW G b hole K T H → va_S (xA b hole) s.heap H locs → lv_has ls 6 [(0, .ref (b + 0))] → W p l e (headSpec (ws_ yX1_leaves cX1_leaves 6 (some .int)) ({ frames := 9, cells := (Z - kc K0), slots := (Y - ks K0), locals := 213 } : Room)).room s m ([.ref (b + 0), .int p1, .int p2, .int p3] : List Value).toArray below meth c H locs cn sn (MQ below (xQ G b hole K0 (Z - kc K0) (Y - ks K0) (ρ := Int32) eI (fun r T1 K1 => post r T1 K1)) ([.ref (b + 0), .int p1, .int p2, .int p3] : List Value).toArray s (Z - kc K0) (Y - ks K0) (xA b hole)) (F0 m 33 ls []) := by
    intro  T K cn sn H locs ls h hle0 hcn hsn hzz hyy hP hS hl
    unfold wx1_leaves_j33 at h
    refine lv_iconst (v := 3) hx hb dX1_leaves_33 (by decide) ?_
    refine lv_goto (tgt := 44) hx hb dX1_leaves_34 (by decide) ?_
    refine lv_istore (lv' := [(5, .int 3), (0, .ref (b + 0))]) hx hb dX1_leaves_44 hl (by decide) rfl (fun ls hl => ?_)
    exact J46 _ _ _ _ _ _ _ _ h hle0 hcn hsn hzz hyy hP hS (lv_sub hl [1, 0] rfl)
  have hcn : kc K0 + 0 = kc K0 := rfl
  have hsn : ks K0 + 0 = ks K0 := rfl
  have hzz := hZ
  have hyy := hY
  unfold wx1_leaves at h
  refine lv_aload_n hx hb dX1_leaves_0 rfl (lv_at hl 0 rfl) ?_
  refine lv_aload_n hx hb dX1_leaves_1 rfl (lv_at hl 0 rfl) ?_
  obtain ⟨v_3, ev_3, h⟩ := h
  refine x_get (CC := RX1) (TT := TX1) (N := 26) (ci := 0) (v := rfv b (xr T 0 18)) hx hb hts in_X1 hown hK hP (xs_0 hP) (by decide) (by decide) rfl (xE_8 (xs_0 hP)) 18 (by decide) q405 rfl rfl dX1_leaves_2 ?_
  refine x_some ev_3 ?_
  have hk_v_3 : kd K0 v_3 = 3 := hP.ty (xs_0 hP) (by decide) ev_3
  refine lv_iload_n hx hb dX1_leaves_5 rfl (lv_at hl 1 rfl) ?_
  obtain ⟨j_4, hj_4, ej_4, v_5, ev_5, h⟩ := h
  refine x_aald3 hx hb hK hP hk_v_3 ej_4 hj_4 dX1_leaves_6 ?_
  refine x_some ev_5 ?_
  have hk_v_5 : kd K0 v_5 = 2 := hP.ty hk_v_3 (by decide) ev_5
  refine lv_aload_n hx hb dX1_leaves_7 rfl (lv_at hl 0 rfl) ?_
  obtain ⟨v_6, ev_6, h⟩ := h
  refine x_get (CC := RX1) (TT := TX1) (N := 26) (ci := 0) (v := rfv b (xr T 0 18)) hx hb hts in_X1 hown hK hP (xs_0 hP) (by decide) (by decide) rfl (xE_8 (xs_0 hP)) 18 (by decide) q405 rfl rfl dX1_leaves_8 ?_
  refine x_some ev_6 ?_
  have hk_v_6 : kd K0 v_6 = 3 := hP.ty (xs_0 hP) (by decide) ev_6
  refine lv_iload_n hx hb dX1_leaves_11 rfl (lv_at hl 2 rfl) ?_
  obtain ⟨j_7, hj_7, ej_7, v_8, ev_8, h⟩ := h
  refine x_aald3 hx hb hK hP hk_v_6 ej_7 hj_7 dX1_leaves_12 ?_
  refine x_some ev_8 ?_
  have hk_v_8 : kd K0 v_8 = 2 := hP.ty hk_v_6 (by decide) ev_8
  obtain ⟨Z_12, Y_13, hz1, hz2, hy1, hy2, h⟩ := h
  refine x_cV (k := 0) (As := [.ref (b + v_5), .ref (b + v_8)]) (rest := []) ⟨hx, hb, hml, hown, hts⟩ (mx1_pair l G b hole v_5 v_8 K0 T Z_12 Y_13 hz1 hy1 hk_v_5 hk_v_8 _ h) (cwV 2 hts (lw_V q952 q954 qs39 q118 q955) rfl rfl rfl cwx_X1_pair ⟨Nat.le_of_ble_eq_true rfl, Nat.le_of_ble_eq_true rfl⟩) (x_recv (CC := RX1) (ci := 0) hK hP (xs_0 hP) (by decide) (by decide) rfl (xE_8 (xs_0 hP))) hK hV hb0 hP hS rfl hl.1 rfl (Nat.le_of_ble_eq_true rfl) dX1_leaves_13 ⟨by first | exact Nat.zero_le _ | (show _ + _ ≤ Z - kc K0; omega), by first | exact Nat.zero_le _ | (show _ + _ ≤ Y - ks K0; omega)⟩ (fun r_9 T1 K1 H locs h hle1 hc1 hs1 hP hS => ?_)
  obtain ⟨h, hk_r_9⟩ := h
  generalize T1 = T_10 at h hP
  generalize K1 = K_11 at h hP hle1 hc1 hs1 hk_r_9
  have hle0 := hle0.tr hle1
  have hcn : kc K0 + (0 + (Z_12 - kc K0)) = kc K_11 := by omega
  have hsn : ks K0 + (0 + (Y_13 - ks K0)) = ks K_11 := by omega
  have hzz : kc K_11 ≤ Z := by omega
  have hyy : ks K_11 ≤ Y := by omega
  refine x_astore (lv' := [(4, rfv b r_9), (0, .ref (b + 0)), (1, .int p1), (2, .int p2), (3, .int p3)]) hx hb dX1_leaves_16 hl (by decide) rfl (fun ls hl => ?_)
  refine x_aload hx hb dX1_leaves_18 (lv_at hl 0 rfl) ?_
  refine x_ifnull (tgt := 33) hx hb dX1_leaves_20 (by decide) (fun c_19 => ?_) (fun v_14 c_19 => ?_)
  · replace h := h.1 c_19
    exact J33 _ _ _ _ _ _ _ h hle0 hcn hsn hzz hyy hP hS (lv_sub hl [1] rfl)
  · replace h := h.2 v_14 c_19
    have hk_v_14 : kd K_11 v_14 = 2 := hk_r_9 _ c_19
    subst c_19
    refine lv_aload hx hb dX1_leaves_23 (lv_at hl 0 rfl) ?_
    refine x_get (CC := RX6) (TT := TX6) (N := 3) (ci := 5) (v := .int (xi T_10 v_14 2)) hx hb hts in_X6 hown hK hP hk_v_14 (by decide) (by decide) rfl (xE_2 hk_v_14) 2 (by decide) q372 rfl rfl dX1_leaves_25 ?_
    refine lv_bipush (v := 60) hx hb dX1_leaves_28 (by decide) ?_
    refine lv_icmp_le (tgt := 37) hx hb dX1_leaves_30 (by decide) (fun c_18 => ?_) (fun c_18 => ?_)
    · have h := h.1 c_18
      refine lv_aload_n hx hb dX1_leaves_37 rfl (lv_at hl 1 rfl) ?_
      refine lv_aload hx hb dX1_leaves_38 (lv_at hl 0 rfl) ?_
      refine lv_iload_n hx hb dX1_leaves_40 rfl (lv_at hl 4 rfl) ?_
      refine x_cV (k := 0) (As := [.ref (b + v_14), .int p3]) (rest := []) ⟨hx, hb, hml, hown, hts⟩ (mx1_divides l G b hole v_14 p3 K_11 T_10 hk_v_14 _ h) (cwV 2 hts (lw_V q892 q894 qs33 q118 q895) rfl rfl rfl cwx_X1_divides ⟨Nat.le_of_ble_eq_true rfl, Nat.le_of_ble_eq_true rfl⟩) (x_recv (CC := RX1) (ci := 0) hK hP (xs_0 hP) (by decide) (by decide) rfl (xE_8 (xs_0 hP))) hK hV hb0 hP hS rfl hl.1 rfl (Nat.le_of_ble_eq_true rfl) dX1_leaves_41 ⟨by first | exact Nat.zero_le _ | (show _ + _ ≤ Z - kc K0; omega), by first | exact Nat.zero_le _ | (show _ + _ ≤ Y - ks K0; omega)⟩ (fun r_15 T1 K1 H locs h hle1 hc1 hs1 hP hS => ?_)
      obtain ⟨h, hKe⟩ := h
      rw [hKe] at hP
      generalize T1 = T_16 at h hP
      refine lv_istore (lv' := [(5, .int r_15), (4, .ref (b + v_14)), (0, .ref (b + 0)), (1, .int p1), (2, .int p2), (3, .int p3)]) hx hb dX1_leaves_44 hl (by decide) rfl (fun ls hl => ?_)
      exact J46 _ _ _ _ _ _ _ _ h hle0 hcn hsn hzz hyy hP hS (lv_sub hl [2, 0] rfl)
    · have h := h.2 c_18
      exact J33 _ _ _ _ _ _ _ h hle0 hcn hsn hzz hyy hP hS (lv_sub hl [1] rfl)
theorem cwx_X1_missing : yX1_missing.cls = RX1 ∧ yX1_missing.cls ≠ "java/lang/invoke/MethodHandle" ∧ yX1_missing.cls ≠ "java/lang/invoke/VarHandle" ∧ (parseMethodDescriptor yX1_missing.desc).map (fun d => d.parameters.length) = some 1 := by decide +kernel
def wx1_missing_j111 (p1 : Int32) (Z Y : Nat) (post : Int32 → XT → XK → Prop) (R36 : Int32 → Int32 → XT → XK → Prop) (x2 : Int32) (x3 : Int32) (K : XK) (T : XT) : Prop :=
        ∀ x3_1 : Int32, x3_1 = x3 + 1 →
        R36 x2 x3_1 T K
def wx1_missing_b36 (p1 : Int32) (Z Y : Nat) (post : Int32 → XT → XK → Prop) (R36 : Int32 → Int32 → XT → XK → Prop)  (x2 : Int32) (x3 : Int32) (K : XK) (T : XT) : Prop :=
      ((64 ≤ x3 →
        post x2 T (kset K Z Y)) ∧
       (¬ (64 ≤ x3) →
        ∀ x4_2 : Int32, x4_2 = (x3 / 8) →
        ∀ x5_3 : Int32, x5_3 = (jrem x3 8) →
        ((x5_3 ≤ x4_2 →
          wx1_missing_j111 p1 Z Y post R36 x2 x3 K T) ∧
         (¬ (x5_3 ≤ x4_2) →
          ((((jshr p1 x4_2) &&& 1) = 0 →
            wx1_missing_j111 p1 Z Y post R36 x2 x3 K T) ∧
           (¬ (((jshr p1 x4_2) &&& 1) = 0) →
            ((¬ ((jshr p1 x5_3) &&& 1) = 0 →
              ∃ Z_7 Y_8 : Nat, kc K ≤ Z_7 ∧ Z_7 ≤ Z ∧ ks K ≤ Y_8 ∧ Y_8 ≤ Y ∧ wx1_leaves x4_2 x5_3 p1 K T Z_7 Y_8 (fun r_4 T_5 K_6 =>
              ((0 ≤ r_4 →
                ∀ x2_9 : Int32, x2_9 = (x2 + r_4) →
                wx1_missing_j111 p1 Z Y post R36 x2_9 x3 K_6 T_5) ∧
               (¬ (0 ≤ r_4) →
                wx1_no (-r_4) K_6 T_5 (fun r_10 T_11 =>
                post r_10 T_11 (kset K_6 Z Y)))))) ∧
             (((jshr p1 x5_3) &&& 1) = 0 →
              wx1_missing_j111 p1 Z Y post R36 x2 x3 K T))))))))
def wx1_missing_l36 (p1 : Int32) (Z Y : Nat) (post : Int32 → XT → XK → Prop)  (x2 : Int32) (x3 : Int32) (K : XK) (T : XT) : Prop := wLoop (fun (R : ((Int32) × (Int32) × (XT) × (XK)) → Prop) (v : (Int32) × (Int32) × (XT) × (XK)) => wx1_missing_b36 p1 Z Y post (fun x2 x3 T K => R (x2, x3, T, K))  v.1 v.2.1 v.2.2.2 v.2.2.1) (x2, x3, T, K)
def wx1_missing (p1 : Int32) (K0 : XK) (T : XT) (Z Y : Nat) (post : Int32 → XT → XK → Prop) : Prop :=
  wx1_isSet p1 K0 T (fun r_18 =>
  wx1_why_2 1 r_18 K0 T (fun r_21 =>
  wx1_isRefused r_21 K0 T (fun r_24 T_25 =>
  ((r_24 = 0 →
    wx1_hasZero p1 K0 T_25 (fun r_27 =>
    ((r_27 = 0 →
      wx1_missing_l36 p1 Z Y post 0 0 K0 T_25) ∧
     (¬ (r_27 = 0) →
      wx1_no 5 K0 T_25 (fun r_30 T_31 =>
      post r_30 T_31 (kset K0 Z Y)))))) ∧
   (¬ (r_24 = 0) →
    post (-1) T_25 (kset K0 Z Y))))))
set_option maxHeartbeats 4000000 in
theorem mx1_missing (l : Launch) (G : XG) (b : Nat) (hole : Nat → Prop) (p1 : Int32) (K0 : XK) (T : XT) (Z Y : Nat) (hZ : kc K0 ≤ Z) (hY : ks K0 ≤ Y)  (post : Int32 → XT → XK → Prop) (h : wx1_missing p1 K0 T Z Y post) : Met l yX1_missing (ws_ yX1_missing cX1_missing 7 (some .int)) ({ frames := 10, cells := (Z - kc K0), slots := (Y - ks K0), locals := 238 } : Room) (xPc G b hole [.ref (b + 0), .int p1] K0 T) (xQ G b hole K0 (Z - kc K0) (Y - ks K0) (ρ := Int32) eI (fun r T1 K1 => post r T1 K1)) (Z - kc K0) (Y - ks K0) (xA b hole) := by
  refine Met.ofW (cc := cX1_missing) (maxL := 7) (ret := (some .int)) (by decide) rfl ?_
  intro p e s m args below meth c s₁ B hml hv
  obtain ⟨rfl, hP, hK, hV⟩ := hv
  have hx := B.exec
  have hb := B.bytes
  have hr := B.returns
  have hts := atoms_spec (ws := ws_ yX1_missing cX1_missing 7 (some .int)) B.pre
  have hts : ∀ w ∈ lw_all, w.before _ s = true := fun w h => hts w (List.mem_cons_of_mem _ h)
  have hown : s.vm.findClass RX1 = some m.cls := findClass_of_methodNamed B.named
  have hlocks := B.notSynchronized
  have hb0 : b ≤ s.heap.size := by rw [hP.2.2.2]; exact Nat.le_add_right _ _
  have hS : va_S (xA b hole) s.heap s.heap [] := va_S.rf
  have hl := lv_entry ([.ref (b + 0), .int p1]) (n := 7) (Nat.le_of_ble_eq_true rfl)
  rw [lg_entry_eq]
  generalize (lg_sl ([.ref (b + 0), .int p1]) ++ List.replicate (7 - (lg_sl ([.ref (b + 0), .int p1])).length) Slot.unset).toArray = ls at hl ⊢
  have hl : lv_has ls 7 [(0, .ref (b + 0)), (1, .int p1)] := hl
  have hle0 : kle K0 K0 := kle.rf
  have L36 : ∀ (x2 : Int32) (x3 : Int32) (T : XT) (K : XK) (cn sn : Nat) (H : Heap) (locs : List Loc) (ls : Array Slot), wx1_missing_l36 p1 Z Y post  x2 x3 K T → kle K0 K → kc K0 + cn = kc K → ks K0 + sn = ks K → kc K ≤ Z → ks K ≤ Y → xW G b hole K T H → va_S (xA b hole) s.heap H locs → lv_has ls 7 [(0, .ref (b + 0)), (1, .int p1), (2, .int x2), (3, .int x3)] → W p l e (headSpec (ws_ yX1_missing cX1_missing 7 (some .int)) ({ frames := 10, cells := (Z - kc K0), slots := (Y - ks K0), locals := 238 } : Room)).room s m ([.ref (b + 0), .int p1] : List Value).toArray below meth c H locs cn sn (MQ below (xQ G b hole K0 (Z - kc K0) (Y - ks K0) (ρ := Int32) eI (fun r T1 K1 => post r T1 K1)) ([.ref (b + 0), .int p1] : List Value).toArray s (Z - kc K0) (Y - ks K0) (xA b hole)) (F0 m 36 ls []) := by
    intro x2 x3 T K cn sn H locs ls h hle0 hcn hsn hzz hyy hP hS hl
    obtain ⟨I36, n36, hI, hstep36⟩ := h
    induction n36 using Nat.strongRecOn generalizing x2 x3 T K cn sn H locs ls with
    | ind n36 ih36 =>
      have h : wx1_missing_b36 p1 Z Y post (fun x2 x3 T K => ∃ mm, mm < n36 ∧ I36 mm (x2, x3, T, K))  x2 x3 K T := hstep36 n36 _ hI
      clear hI
      have J111 : ∀ (x2 : Int32) (x3 : Int32) (T : XT) (K : XK) (cn sn : Nat) (H : Heap) (locs : List Loc) (ls : Array Slot), wx1_missing_j111 p1 Z Y post (fun x2 x3 T K => ∃ mm, mm < n36 ∧ I36 mm (x2, x3, T, K)) x2 x3 K T → kle K0 K → kc K0 + cn = kc K → ks K0 + sn = ks K → kc K ≤ Z → ks K ≤ Y → xW G b hole K T H → va_S (xA b hole) s.heap H locs → lv_has ls 7 [(0, .ref (b + 0)), (1, .int p1), (2, .int x2), (3, .int x3)] → W p l e (headSpec (ws_ yX1_missing cX1_missing 7 (some .int)) ({ frames := 10, cells := (Z - kc K0), slots := (Y - ks K0), locals := 238 } : Room)).room s m ([.ref (b + 0), .int p1] : List Value).toArray below meth c H locs cn sn (MQ below (xQ G b hole K0 (Z - kc K0) (Y - ks K0) (ρ := Int32) eI (fun r T1 K1 => post r T1 K1)) ([.ref (b + 0), .int p1] : List Value).toArray s (Z - kc K0) (Y - ks K0) (xA b hole)) (F0 m 111 ls []) := by
        intro x2 x3 T K cn sn H locs ls h hle0 hcn hsn hzz hyy hP hS hl
        unfold wx1_missing_j111 at h
        obtain ⟨x3_1, ex3_1⟩ : ∃ y : Int32, y = x3 + 1 := ⟨_, rfl⟩
        have h := h x3_1 ex3_1
        refine lv_iinc (v := x3_1) (lv' := [(3, .int x3_1), (0, .ref (b + 0)), (1, .int p1), (2, .int x2)]) hx hb dX1_missing_111 hl (k := 3) rfl (by rw [ex3_1]; rfl) (by decide) rfl (fun ls hl => ?_)
        refine lv_goto (tgt := 36) hx hb dX1_missing_114 (by decide) ?_
        obtain ⟨mm, hmm, h⟩ := h
        exact ih36 mm hmm _ _ _ _ _ _ _ _ _ hle0 hcn hsn hzz hyy hP hS (lv_sub hl [1, 2, 3, 0] rfl) h
      unfold wx1_missing_b36 at h
      refine lv_iload_n hx hb dX1_missing_36 rfl (lv_at hl 3 rfl) ?_
      refine lv_bipush (v := 64) hx hb dX1_missing_37 (by decide) ?_
      refine lv_icmp_ge (tgt := 117) hx hb dX1_missing_39 (by decide) (fun c_17 => ?_) (fun c_17 => ?_)
      · have h := h.1 c_17
        refine lv_iload_n hx hb dX1_missing_117 rfl (lv_at hl 2 rfl) ?_
        refine W.widen (k := Z - kc K0) (n := Y - ks K0) (by omega) (by omega) ?_
        exact W.iret (v := x2) hx hb hr (fun t ht hW => ⟨⟨x2, T, (kset K Z Y), rfl, h, hle0, (by show Z = _; omega), (by show Y = _; omega), by rw [ht]; exact hP, va_K.moved hW.alike hK⟩, hS.F ht⟩) hS.2.2 dX1_missing_118
      · have h := h.2 c_17
        refine lv_iload_n hx hb dX1_missing_42 rfl (lv_at hl 3 rfl) ?_
        refine lv_bipush (v := 8) hx hb dX1_missing_43 (by decide) ?_
        refine lv_idiv hx hb dX1_missing_45 (by decide) ?_
        refine lv_topi (fun x4_2 ex4_2 => ?_)
        have h := h x4_2 ex4_2
        refine lv_istore (lv' := [(4, .int x4_2), (0, .ref (b + 0)), (1, .int p1), (2, .int x2), (3, .int x3)]) hx hb dX1_missing_46 hl (by decide) rfl (fun ls hl => ?_)
        refine lv_iload_n hx hb dX1_missing_48 rfl (lv_at hl 4 rfl) ?_
        refine lv_bipush (v := 8) hx hb dX1_missing_49 (by decide) ?_
        refine m_irem hx hb dX1_missing_51 (by decide) ?_
        refine lv_topi (fun x5_3 ex5_3 => ?_)
        have h := h x5_3 ex5_3
        refine lv_istore (lv' := [(5, .int x5_3), (4, .int x4_2), (0, .ref (b + 0)), (1, .int p1), (2, .int x2), (3, .int x3)]) hx hb dX1_missing_52 hl (by decide) rfl (fun ls hl => ?_)
        refine lv_iload hx hb dX1_missing_54 (lv_at hl 1 rfl) ?_
        refine lv_iload hx hb dX1_missing_56 (lv_at hl 0 rfl) ?_
        refine lv_icmp_ge (tgt := 111) hx hb dX1_missing_58 (by decide) (fun c_16 => ?_) (fun c_16 => ?_)
        · have h := h.1 c_16
          exact J111 _ _ _ _ _ _ _ _ _ h hle0 hcn hsn hzz hyy hP hS (lv_sub hl [2, 3, 4, 5] rfl)
        · have h := h.2 c_16
          refine lv_iload_n hx hb dX1_missing_61 rfl (lv_at hl 3 rfl) ?_
          refine lv_iload hx hb dX1_missing_62 (lv_at hl 1 rfl) ?_
          refine m_ishr hx hb dX1_missing_64 ?_
          refine lv_iconst (v := 1) hx hb dX1_missing_65 (by decide) ?_
          refine lv_iand hx hb dX1_missing_66 ?_
          refine lv_if_eq (tgt := 111) hx hb dX1_missing_67 (by decide) (fun c_15 => ?_) (fun c_15 => ?_)
          · have h := h.1 c_15
            exact J111 _ _ _ _ _ _ _ _ _ h hle0 hcn hsn hzz hyy hP hS (lv_sub hl [2, 3, 4, 5] rfl)
          · have h := h.2 c_15
            refine lv_iload_n hx hb dX1_missing_70 rfl (lv_at hl 3 rfl) ?_
            refine lv_iload hx hb dX1_missing_71 (lv_at hl 0 rfl) ?_
            refine m_ishr hx hb dX1_missing_73 ?_
            refine lv_iconst (v := 1) hx hb dX1_missing_74 (by decide) ?_
            refine lv_iand hx hb dX1_missing_75 ?_
            refine lv_if_ne (tgt := 82) hx hb dX1_missing_76 (by decide) (fun c_14 => ?_) (fun c_14 => ?_)
            · have h := h.1 c_14
              refine lv_aload_n hx hb dX1_missing_82 rfl (lv_at hl 2 rfl) ?_
              refine lv_iload hx hb dX1_missing_83 (lv_at hl 1 rfl) ?_
              refine lv_iload hx hb dX1_missing_85 (lv_at hl 0 rfl) ?_
              refine lv_iload_n hx hb dX1_missing_87 rfl (lv_at hl 3 rfl) ?_
              obtain ⟨Z_7, Y_8, hz1, hz2, hy1, hy2, h⟩ := h
              refine x_cV (k := 0) (As := [.int x4_2, .int x5_3, .int p1]) (rest := []) ⟨hx, hb, hml, hown, hts⟩ (mx1_leaves l G b hole x4_2 x5_3 p1 K T Z_7 Y_8 hz1 hy1  _ h) (cwV 3 hts (lw_V q948 q950 qs38 q118 q951) rfl rfl rfl cwx_X1_leaves ⟨Nat.le_of_ble_eq_true rfl, Nat.le_of_ble_eq_true rfl⟩) (x_recv (CC := RX1) (ci := 0) hK hP (xs_0 hP) (by decide) (by decide) rfl (xE_8 (xs_0 hP))) hK hV hb0 hP hS rfl hl.1 rfl (Nat.le_of_ble_eq_true rfl) dX1_missing_88 ⟨by first | exact Nat.zero_le _ | (show _ + _ ≤ Z - kc K0; omega), by first | exact Nat.zero_le _ | (show _ + _ ≤ Y - ks K0; omega)⟩ (fun r_4 T1 K1 H locs h hle1 hc1 hs1 hP hS => ?_)
              generalize T1 = T_5 at h hP
              generalize K1 = K_6 at h hP hle1 hc1 hs1
              have hle0 := hle0.tr hle1
              have hcn : kc K0 + (cn + (Z_7 - kc K)) = kc K_6 := by omega
              have hsn : ks K0 + (sn + (Y_8 - ks K)) = ks K_6 := by omega
              have hzz : kc K_6 ≤ Z := by omega
              have hyy : ks K_6 ≤ Y := by omega
              refine lv_istore (lv' := [(6, .int r_4), (5, .int x5_3), (4, .int x4_2), (0, .ref (b + 0)), (1, .int p1), (2, .int x2), (3, .int x3)]) hx hb dX1_missing_91 hl (by decide) rfl (fun ls hl => ?_)
              refine lv_iload hx hb dX1_missing_93 (lv_at hl 0 rfl) ?_
              refine lv_if_ge (tgt := 106) hx hb dX1_missing_95 (by decide) (fun c_13 => ?_) (fun c_13 => ?_)
              · have h := h.1 c_13
                refine lv_iload_n hx hb dX1_missing_106 rfl (lv_at hl 5 rfl) ?_
                refine lv_iload hx hb dX1_missing_107 (lv_at hl 0 rfl) ?_
                refine lv_iadd hx hb dX1_missing_109 ?_
                refine lv_topi (fun x2_9 ex2_9 => ?_)
                have h := h x2_9 ex2_9
                refine lv_istore_n (lv' := [(2, .int x2_9), (6, .int r_4), (5, .int x5_3), (4, .int x4_2), (0, .ref (b + 0)), (1, .int p1), (3, .int x3)]) hx hb dX1_missing_110 rfl hl (by decide) rfl (fun ls hl => ?_)
                exact J111 _ _ _ _ _ _ _ _ _ h hle0 hcn hsn hzz hyy hP hS (lv_sub hl [4, 5, 0, 6] rfl)
              · have h := h.2 c_13
                refine lv_aload_n hx hb dX1_missing_98 rfl (lv_at hl 3 rfl) ?_
                refine lv_iload hx hb dX1_missing_99 (lv_at hl 0 rfl) ?_
                refine lv_ineg hx hb dX1_missing_101 ?_
                refine x_cV (k := 0) (As := [.int (-r_4)]) (rest := []) ⟨hx, hb, hml, hown, hts⟩ (mx1_no l G b hole (-r_4) K_6 T_5  _ h) (cwV 1 hts (lw_V q486 q488 qs3 q118 q489) rfl rfl rfl cwx_X1_no ⟨Nat.le_of_ble_eq_true rfl, Nat.le_of_ble_eq_true rfl⟩) (x_recv (CC := RX1) (ci := 0) hK hP (xs_0 hP) (by decide) (by decide) rfl (xE_8 (xs_0 hP))) hK hV hb0 hP hS rfl hl.1 rfl (Nat.le_of_ble_eq_true rfl) dX1_missing_102 ⟨by first | exact Nat.zero_le _ | (show _ + _ ≤ Z - kc K0; omega), by first | exact Nat.zero_le _ | (show _ + _ ≤ Y - ks K0; omega)⟩ (fun r_10 T1 K1 H locs h hle1 hc1 hs1 hP hS => ?_)
                obtain ⟨h, hKe⟩ := h
                rw [hKe] at hP
                generalize T1 = T_11 at h hP
                refine W.widen (k := Z - kc K0) (n := Y - ks K0) (by omega) (by omega) ?_
                exact W.iret (v := r_10) hx hb hr (fun t ht hW => ⟨⟨r_10, T_11, (kset K_6 Z Y), rfl, h, hle0, (by show Z = _; omega), (by show Y = _; omega), by rw [ht]; exact hP, va_K.moved hW.alike hK⟩, hS.F ht⟩) hS.2.2 dX1_missing_105
            · have h := h.2 c_14
              refine lv_goto (tgt := 111) hx hb dX1_missing_79 (by decide) ?_
              exact J111 _ _ _ _ _ _ _ _ _ h hle0 hcn hsn hzz hyy hP hS (lv_sub hl [2, 3, 4, 5] rfl)
  have hcn : kc K0 + 0 = kc K0 := rfl
  have hsn : ks K0 + 0 = ks K0 := rfl
  have hzz := hZ
  have hyy := hY
  unfold wx1_missing at h
  refine lv_aload_n hx hb dX1_missing_0 rfl (lv_at hl 0 rfl) ?_
  refine lv_aload_n hx hb dX1_missing_1 rfl (lv_at hl 0 rfl) ?_
  refine lv_iconst (v := 1) hx hb dX1_missing_2 (by decide) ?_
  refine lv_iload_n hx hb dX1_missing_3 rfl (lv_at hl 1 rfl) ?_
  refine x_cS (As := [.int p1]) (rest := [.int 1, .ref (b + 0), .ref (b + 0)]) ⟨hx, hb, hml, hown, hts⟩ (mx1_isSet l G b hole p1 K0 T  _ h) (va_cwS 1 hts (lw_S q889 q890 q118 q891) rfl rfl rfl cwx_X1_isSet ⟨Nat.le_of_ble_eq_true rfl, Nat.le_of_ble_eq_true rfl⟩) hK hV hb0 hP hS rfl hl.1 rfl (Nat.le_of_ble_eq_true rfl) dX1_missing_4 ⟨by first | exact Nat.zero_le _ | (show _ + _ ≤ Z - kc K0; omega), by first | exact Nat.zero_le _ | (show _ + _ ≤ Y - ks K0; omega)⟩ (fun r_18 T1 K1 H locs h hle1 hc1 hs1 hP hS => ?_)
  obtain ⟨h, hTe, hKe⟩ := h
  rw [hTe, hKe] at hP
  refine x_cV (k := 0) (As := [.int 1, .int r_18]) (rest := [.ref (b + 0)]) ⟨hx, hb, hml, hown, hts⟩ (mx1_why_2 l G b hole 1 r_18 K0 T  _ h) (cwV 2 hts (lw_V q773 q775 qs25 q118 q776) rfl rfl rfl cwx_X1_why_2 ⟨Nat.le_of_ble_eq_true rfl, Nat.le_of_ble_eq_true rfl⟩) (x_recv (CC := RX1) (ci := 0) hK hP (xs_0 hP) (by decide) (by decide) rfl (xE_8 (xs_0 hP))) hK hV hb0 hP hS rfl hl.1 rfl (Nat.le_of_ble_eq_true rfl) dX1_missing_7 ⟨by first | exact Nat.zero_le _ | (show _ + _ ≤ Z - kc K0; omega), by first | exact Nat.zero_le _ | (show _ + _ ≤ Y - ks K0; omega)⟩ (fun r_21 T1 K1 H locs h hle1 hc1 hs1 hP hS => ?_)
  obtain ⟨h, hTe, hKe⟩ := h
  rw [hTe, hKe] at hP
  refine x_cV (k := 0) (As := [.int r_21]) (rest := []) ⟨hx, hb, hml, hown, hts⟩ (mx1_isRefused l G b hole r_21 K0 T  _ h) (cwV 1 hts (lw_V q777 q779 qs26 q118 q780) rfl rfl rfl cwx_X1_isRefused ⟨Nat.le_of_ble_eq_true rfl, Nat.le_of_ble_eq_true rfl⟩) (x_recv (CC := RX1) (ci := 0) hK hP (xs_0 hP) (by decide) (by decide) rfl (xE_8 (xs_0 hP))) hK hV hb0 hP hS rfl hl.1 rfl (Nat.le_of_ble_eq_true rfl) dX1_missing_10 ⟨by first | exact Nat.zero_le _ | (show _ + _ ≤ Z - kc K0; omega), by first | exact Nat.zero_le _ | (show _ + _ ≤ Y - ks K0; omega)⟩ (fun r_24 T1 K1 H locs h hle1 hc1 hs1 hP hS => ?_)
  obtain ⟨h, hKe⟩ := h
  rw [hKe] at hP
  generalize T1 = T_25 at h hP
  refine lv_if_eq (tgt := 18) hx hb dX1_missing_13 (by decide) (fun c_34 => ?_) (fun c_34 => ?_)
  · have h := h.1 c_34
    refine lv_aload_n hx hb dX1_missing_18 rfl (lv_at hl 0 rfl) ?_
    refine lv_iload_n hx hb dX1_missing_19 rfl (lv_at hl 1 rfl) ?_
    refine x_cV (k := 0) (As := [.int p1]) (rest := []) ⟨hx, hb, hml, hown, hts⟩ (mx1_hasZero l G b hole p1 K0 T_25  _ h) (cwV 1 hts (lw_V q896 q898 qs34 q118 q899) rfl rfl rfl cwx_X1_hasZero ⟨Nat.le_of_ble_eq_true rfl, Nat.le_of_ble_eq_true rfl⟩) (x_recv (CC := RX1) (ci := 0) hK hP (xs_0 hP) (by decide) (by decide) rfl (xE_8 (xs_0 hP))) hK hV hb0 hP hS rfl hl.1 rfl (Nat.le_of_ble_eq_true rfl) dX1_missing_20 ⟨by first | exact Nat.zero_le _ | (show _ + _ ≤ Z - kc K0; omega), by first | exact Nat.zero_le _ | (show _ + _ ≤ Y - ks K0; omega)⟩ (fun r_27 T1 K1 H locs h hle1 hc1 hs1 hP hS => ?_)
    obtain ⟨h, hTe, hKe⟩ := h
    rw [hTe, hKe] at hP
    refine lv_if_eq (tgt := 32) hx hb dX1_missing_23 (by decide) (fun c_33 => ?_) (fun c_33 => ?_)
    · have h := h.1 c_33
      refine lv_iconst (v := 0) hx hb dX1_missing_32 (by decide) ?_
      refine lv_istore_n (lv' := [(2, .int 0), (0, .ref (b + 0)), (1, .int p1)]) hx hb dX1_missing_33 rfl hl (by decide) rfl (fun ls hl => ?_)
      refine lv_iconst (v := 0) hx hb dX1_missing_34 (by decide) ?_
      refine lv_istore_n (lv' := [(3, .int 0), (2, .int 0), (0, .ref (b + 0)), (1, .int p1)]) hx hb dX1_missing_35 rfl hl (by decide) rfl (fun ls hl => ?_)
      exact L36 _ _ _ _ _ _ _ _ _ h hle0 hcn hsn hzz hyy hP hS (lv_sub hl [2, 3, 1, 0] rfl)
    · have h := h.2 c_33
      refine lv_aload_n hx hb dX1_missing_26 rfl (lv_at hl 0 rfl) ?_
      refine lv_iconst (v := 5) hx hb dX1_missing_27 (by decide) ?_
      refine x_cV (k := 0) (As := [.int 5]) (rest := []) ⟨hx, hb, hml, hown, hts⟩ (mx1_no l G b hole 5 K0 T_25  _ h) (cwV 1 hts (lw_V q486 q488 qs3 q118 q489) rfl rfl rfl cwx_X1_no ⟨Nat.le_of_ble_eq_true rfl, Nat.le_of_ble_eq_true rfl⟩) (x_recv (CC := RX1) (ci := 0) hK hP (xs_0 hP) (by decide) (by decide) rfl (xE_8 (xs_0 hP))) hK hV hb0 hP hS rfl hl.1 rfl (Nat.le_of_ble_eq_true rfl) dX1_missing_28 ⟨by first | exact Nat.zero_le _ | (show _ + _ ≤ Z - kc K0; omega), by first | exact Nat.zero_le _ | (show _ + _ ≤ Y - ks K0; omega)⟩ (fun r_30 T1 K1 H locs h hle1 hc1 hs1 hP hS => ?_)
      obtain ⟨h, hKe⟩ := h
      rw [hKe] at hP
      generalize T1 = T_31 at h hP
      refine W.widen (k := Z - kc K0) (n := Y - ks K0) (by omega) (by omega) ?_
      exact W.iret (v := r_30) hx hb hr (fun t ht hW => ⟨⟨r_30, T_31, (kset K0 Z Y), rfl, h, hle0, (by show Z = _; omega), (by show Y = _; omega), by rw [ht]; exact hP, va_K.moved hW.alike hK⟩, hS.F ht⟩) hS.2.2 dX1_missing_31
  · have h := h.2 c_34
    refine lv_iconst (v := (-1)) hx hb dX1_missing_16 (by decide) ?_
    refine W.widen (k := Z - kc K0) (n := Y - ks K0) (by omega) (by omega) ?_
    exact W.iret (v := (-1)) hx hb hr (fun t ht hW => ⟨⟨(-1), T_25, (kset K0 Z Y), rfl, h, hle0, (by show Z = _; omega), (by show Y = _; omega), by rw [ht]; exact hP, va_K.moved hW.alike hK⟩, hS.F ht⟩) hS.2.2 dX1_missing_17
theorem cwx_X1_keeps : yX1_keeps.cls = RX1 ∧ yX1_keeps.cls ≠ "java/lang/invoke/MethodHandle" ∧ yX1_keeps.cls ≠ "java/lang/invoke/VarHandle" ∧ (parseMethodDescriptor yX1_keeps.desc).map (fun d => d.parameters.length) = some 0 := by decide +kernel
def wx1_keeps_j61  (Z Y : Nat) (post : XT → XK → Prop)  (K : XK) (T : XT) : Prop :=
    ∃ v_1 : Nat, xr T 0 18 = some v_1 ∧
    kc K + 1 ≤ Z ∧ ks K + (kl K v_1) ≤ Y ∧ ∀ K_2 : XK, K_2 = knew K 3 (kl K v_1) (kl K v_1) → ∀ T_3 : XT, T_3 = xdup (xnil T (kz K)) v_1 (kz K) →
    ∃ j_4 : Nat, j_4 < 8 ∧ (xi T 0 22) = nI j_4 ∧ ∀ T_5 : XT, T_5 = xwr T_3 88 j_4 (some (kz K)) →
    ∃ j_6 : Nat, j_6 < 8 ∧ (xi T_5 0 22) = nI j_6 ∧ ∀ T_7 : XT, T_7 = xwi T_5 89 j_6 (((16 * (xi T_5 0 1)) + (4 * (xi T_5 0 2))) + (xi T_5 0 3)) →
    ∀ T_8 : XT, T_8 = xwi T_7 0 22 ((xi T_7 0 22) + 1) →
    post T_8 (kset K_2 Z Y)
def wx1_keeps_b11  (Z Y : Nat) (post : XT → XK → Prop) (R11 : Int32 → XT → Prop)  (x1 : Int32) (K : XK) (T : XT) : Prop :=
      ((8 ≤ x1 →
        ∀ T_9 : XT, T_9 = xwi T 0 22 ((xi T 0 22) - 1) →
        wx1_keeps_j61  Z Y post  K T_9) ∧
       (¬ (8 ≤ x1) →
        ∃ j_10 : Nat, j_10 < 8 ∧ x1 = nI j_10 ∧ ∃ v_11 : Nat, xr T 88 j_10 = some v_11 ∧
        ∃ j_12 : Nat, j_12 < 8 ∧ (x1 - 1) = nI j_12 ∧ ∀ T_13 : XT, T_13 = xwr T 88 j_12 (some v_11) →
        ∃ j_14 : Nat, j_14 < 8 ∧ x1 = nI j_14 ∧
        ∃ j_15 : Nat, j_15 < 8 ∧ (x1 - 1) = nI j_15 ∧ ∀ T_16 : XT, T_16 = xwi T_13 89 j_15 (xi T_13 89 j_14) →
        ∀ x1_17 : Int32, x1_17 = x1 + 1 →
        R11 x1_17 T_16))
def wx1_keeps_l11  (Z Y : Nat) (post : XT → XK → Prop)  (x1 : Int32) (K : XK) (T : XT) : Prop := wLoop (fun (R : ((Int32) × (XT)) → Prop) (v : (Int32) × (XT)) => wx1_keeps_b11  Z Y post (fun x1 T => R (x1, T))  v.1 K v.2) (x1, T)
def wx1_keeps  (K0 : XK) (T : XT) (Z Y : Nat) (post : XT → XK → Prop) : Prop :=
  ((¬ (xi T 0 22) = 8 →
    wx1_keeps_j61  Z Y post  K0 T) ∧
   ((xi T 0 22) = 8 →
    wx1_keeps_l11  Z Y post 1 K0 T))
set_option maxHeartbeats 4000000 in
theorem mx1_keeps (l : Launch) (G : XG) (b : Nat) (hole : Nat → Prop)  (K0 : XK) (T : XT) (Z Y : Nat) (hZ : kc K0 ≤ Z) (hY : ks K0 ≤ Y)  (post : XT → XK → Prop) (h : wx1_keeps  K0 T Z Y post) : Met l yX1_keeps (ws_ yX1_keeps cX1_keeps 2 none) ({ frames := 1, cells := (Z - kc K0), slots := (Y - ks K0), locals := 60 } : Room) (xPc G b hole [.ref (b + 0)] K0 T) (xQ G b hole K0 (Z - kc K0) (Y - ks K0) (ρ := Unit) eV (fun r T1 K1 => post T1 K1)) (Z - kc K0) (Y - ks K0) (xA b hole) := by
  refine Met.ofW (cc := cX1_keeps) (maxL := 2) (ret := none) (by decide) rfl ?_
  intro p e s m args below meth c s₁ B hml hv
  obtain ⟨rfl, hP, hK, hV⟩ := hv
  have hx := B.exec
  have hb := B.bytes
  have hr := B.returns
  have hts := atoms_spec (ws := ws_ yX1_keeps cX1_keeps 2 none) B.pre
  have hts : ∀ w ∈ lw_all, w.before _ s = true := fun w h => hts w (List.mem_cons_of_mem _ h)
  have hown : s.vm.findClass RX1 = some m.cls := findClass_of_methodNamed B.named
  have hlocks := B.notSynchronized
  have hb0 : b ≤ s.heap.size := by rw [hP.2.2.2]; exact Nat.le_add_right _ _
  have hS : va_S (xA b hole) s.heap s.heap [] := va_S.rf
  have hl := lv_entry ([.ref (b + 0)]) (n := 2) (Nat.le_of_ble_eq_true rfl)
  rw [lg_entry_eq]
  generalize (lg_sl ([.ref (b + 0)]) ++ List.replicate (2 - (lg_sl ([.ref (b + 0)])).length) Slot.unset).toArray = ls at hl ⊢
  have hl : lv_has ls 2 [(0, .ref (b + 0))] := hl
  have hle0 : kle K0 K0 := kle.rf
  have J61 : ∀  (T : XT) (K : XK) (cn sn : Nat) (H : Heap) (locs : List Loc) (ls : Array Slot), wx1_keeps_j61  Z Y post  K T → kle K0 K → kc K0 + cn = kc K → ks K0 + sn = ks K → kc K ≤ Z → ks K ≤ Y → xW G b hole K T H → va_S (xA b hole) s.heap H locs → lv_has ls 2 [(0, .ref (b + 0))] → W p l e (headSpec (ws_ yX1_keeps cX1_keeps 2 none) ({ frames := 1, cells := (Z - kc K0), slots := (Y - ks K0), locals := 60 } : Room)).room s m ([.ref (b + 0)] : List Value).toArray below meth c H locs cn sn (MQ below (xQ G b hole K0 (Z - kc K0) (Y - ks K0) (ρ := Unit) eV (fun r T1 K1 => post T1 K1)) ([.ref (b + 0)] : List Value).toArray s (Z - kc K0) (Y - ks K0) (xA b hole)) (F0 m 61 ls []) := by
    intro  T K cn sn H locs ls h hle0 hcn hsn hzz hyy hP hS hl
    unfold wx1_keeps_j61 at h
    refine lv_aload_n hx hb dX1_keeps_61 rfl (lv_at hl 0 rfl) ?_
    refine x_get (CC := RX1) (TT := TX1) (N := 26) (ci := 0) (v := .ref (b + 88)) hx hb hts in_X1 hown hK hP (xs_0 hP) (by decide) (by decide) rfl (xE_8 (xs_0 hP)) 19 (by decide) q406 rfl rfl dX1_keeps_62 ?_
    refine lv_aload_n hx hb dX1_keeps_65 rfl (lv_at hl 0 rfl) ?_
    refine x_get (CC := RX1) (TT := TX1) (N := 26) (ci := 0) (v := .int (xi T 0 22)) hx hb hts in_X1 hown hK hP (xs_0 hP) (by decide) (by decide) rfl (xE_8 (xs_0 hP)) 22 (by decide) q409 rfl rfl dX1_keeps_66 ?_
    refine lv_aload_n hx hb dX1_keeps_69 rfl (lv_at hl 0 rfl) ?_
    obtain ⟨v_1, ev_1, h⟩ := h
    refine x_get (CC := RX1) (TT := TX1) (N := 26) (ci := 0) (v := rfv b (xr T 0 18)) hx hb hts in_X1 hown hK hP (xs_0 hP) (by decide) (by decide) rfl (xE_8 (xs_0 hP)) 18 (by decide) q405 rfl rfl dX1_keeps_70 ?_
    refine x_some ev_1 ?_
    have hk_v_1 : kd K v_1 = 3 := hP.ty (xs_0 hP) (by decide) ev_1
    obtain ⟨hc1, hs1, h⟩ := h
    obtain ⟨K_2, eK_2⟩ : ∃ z : XK, z = knew K 3 (kl K v_1) (kl K v_1) := ⟨_, rfl⟩
    obtain ⟨T_3, eT_3⟩ : ∃ z : XT, z = xdup (xnil T (kz K)) v_1 (kz K) := ⟨_, rfl⟩
    have h := h K_2 eK_2 T_3 eT_3
    have hle1 : kle K K_2 := by rw [eK_2]; exact kle.new hP.2.2.1 _ _ _
    refine x_clone3 hx hb (hml.trans hl.1.symm) hown hts q1003 q1004 q981 q982 q1005 q1006 hV.1 hK hP hS hk_v_1 (Nat.le_of_ble_eq_true rfl) (Nat.le_of_ble_eq_true rfl) (by show _ + 1 ≤ Z - kc K0; omega) (by show _ + _ ≤ Y - ks K0; omega) dX1_keeps_73 (fun H hP hS => ?_)
    rw [← eK_2, ← eT_3] at hP
    have hk_n2 : kd K_2 (kz K) = 3 := by rw [eK_2]; exact knew_kd
    have hle0 := hle0.tr hle1
    have hcn : kc K0 + (cn + 1) = kc K_2 := by rw [eK_2]; show _ = kc K + 1; omega
    have hsn : ks K0 + (sn + (kl K v_1)) = ks K_2 := by rw [eK_2]; show _ = ks K + (kl K v_1); omega
    have hzz : kc K_2 ≤ Z := by rw [eK_2]; exact hc1
    have hyy : ks K_2 ≤ Y := by rw [eK_2]; exact hs1
    refine x_cast3 hx hb hown hts q354 hK hP hk_n2 dX1_keeps_76 ?_
    obtain ⟨j_4, hj_4, ej_4, h⟩ := h
    obtain ⟨T_5, eT_5⟩ : ∃ z : XT, z = xwr T_3 88 j_4 (some (kz K)) := ⟨_, rfl⟩
    have h := h T_5 eT_5
    refine x_aast14 hx hb hK hV.2.1 hP hS (xs_88 hP) hk_n2 ej_4 (by rw [xl_88 hP]; exact hj_4) dX1_keeps_79 (fun H locs hP hS => ?_)
    rw [← eT_5] at hP
    refine lv_aload_n hx hb dX1_keeps_80 rfl (lv_at hl 0 rfl) ?_
    refine x_get (CC := RX1) (TT := TX1) (N := 26) (ci := 0) (v := .ref (b + 89)) hx hb hts in_X1 hown hK hP (xs_0 hP) (by decide) (by decide) rfl (xE_8 (xs_0 hP)) 20 (by decide) q407 rfl rfl dX1_keeps_81 ?_
    refine lv_aload_n hx hb dX1_keeps_84 rfl (lv_at hl 0 rfl) ?_
    refine x_get (CC := RX1) (TT := TX1) (N := 26) (ci := 0) (v := .int (xi T_5 0 22)) hx hb hts in_X1 hown hK hP (xs_0 hP) (by decide) (by decide) rfl (xE_8 (xs_0 hP)) 22 (by decide) q409 rfl rfl dX1_keeps_85 ?_
    refine lv_bipush (v := 16) hx hb dX1_keeps_88 (by decide) ?_
    refine lv_aload_n hx hb dX1_keeps_90 rfl (lv_at hl 0 rfl) ?_
    refine x_get (CC := RX1) (TT := TX1) (N := 26) (ci := 0) (v := .int (xi T_5 0 1)) hx hb hts in_X1 hown hK hP (xs_0 hP) (by decide) (by decide) rfl (xE_8 (xs_0 hP)) 1 (by decide) q385 rfl rfl dX1_keeps_91 ?_
    refine lv_imul hx hb dX1_keeps_94 ?_
    refine lv_iconst (v := 4) hx hb dX1_keeps_95 (by decide) ?_
    refine lv_aload_n hx hb dX1_keeps_96 rfl (lv_at hl 0 rfl) ?_
    refine x_get (CC := RX1) (TT := TX1) (N := 26) (ci := 0) (v := .int (xi T_5 0 2)) hx hb hts in_X1 hown hK hP (xs_0 hP) (by decide) (by decide) rfl (xE_8 (xs_0 hP)) 2 (by decide) q386 rfl rfl dX1_keeps_97 ?_
    refine lv_imul hx hb dX1_keeps_100 ?_
    refine lv_iadd hx hb dX1_keeps_101 ?_
    refine lv_aload_n hx hb dX1_keeps_102 rfl (lv_at hl 0 rfl) ?_
    refine x_get (CC := RX1) (TT := TX1) (N := 26) (ci := 0) (v := .int (xi T_5 0 3)) hx hb hts in_X1 hown hK hP (xs_0 hP) (by decide) (by decide) rfl (xE_8 (xs_0 hP)) 3 (by decide) q387 rfl rfl dX1_keeps_103 ?_
    refine lv_iadd hx hb dX1_keeps_106 ?_
    obtain ⟨j_6, hj_6, ej_6, h⟩ := h
    obtain ⟨T_7, eT_7⟩ : ∃ z : XT, z = xwi T_5 89 j_6 (((16 * (xi T_5 0 1)) + (4 * (xi T_5 0 2))) + (xi T_5 0 3)) := ⟨_, rfl⟩
    have h := h T_7 eT_7
    refine x_iast hx hb hK hP hS (xs_89 hP) ej_6 (by rw [xl_89 hP]; exact hj_6) dX1_keeps_107 (fun H locs hP hS => ?_)
    rw [← eT_7] at hP
    refine lv_aload_n hx hb dX1_keeps_108 rfl (lv_at hl 0 rfl) ?_
    refine lv_dup hx hb dX1_keeps_109 rfl ?_
    refine x_get (CC := RX1) (TT := TX1) (N := 26) (ci := 0) (v := .int (xi T_7 0 22)) hx hb hts in_X1 hown hK hP (xs_0 hP) (by decide) (by decide) rfl (xE_8 (xs_0 hP)) 22 (by decide) q409 rfl rfl dX1_keeps_110 ?_
    refine lv_iconst (v := 1) hx hb dX1_keeps_113 (by decide) ?_
    refine lv_iadd hx hb dX1_keeps_114 ?_
    obtain ⟨T_8, eT_8⟩ : ∃ z : XT, z = xwi T_7 0 22 ((xi T_7 0 22) + 1) := ⟨_, rfl⟩
    have h := h T_8 eT_8
    refine x_put (CC := RX1) (TT := TX1) (N := 26) (ci := 0) (T1 := T_8) (v := .int ((xi T_7 0 22) + 1)) (ty := .int) (fsf := fun T => fs8 (gem G) b T 0) hx hb hts in_X1 tyX1 tyX1_ok nmX1 hown hK hP hS (xs_0 hP) (by decide) (by decide) rfl (fun _ => xE_8 (xs_0 hP)) rfl 22 (by decide) q409 rfl (Or.inl rfl) rfl rfl rfl (by rw [eT_8]; exact fw8_22 _ b T_7 0 ((xi T_7 0 22) + 1)) (by rw [eT_8]; exact fun q hq => xwi_i hq) (by rw [eT_8]; exact fun _ _ => rfl) (by rw [eT_8]; exact xwi_ty hP (by rw [(xs_0 hP)]; decide)) dX1_keeps_115 (fun H locs hP hS => ?_)
    refine W.widen (k := Z - kc K0) (n := Y - ks K0) (by omega) (by omega) ?_
    exact W.vret hx hb hr (fun t ht hW => ⟨⟨(), T_8, (kset K_2 Z Y), rfl, h, hle0, (by show Z = _; omega), (by show Y = _; omega), by rw [ht]; exact hP, va_K.moved hW.alike hK⟩, hS.F ht⟩) hS.2.2 dX1_keeps_118
  have L11 : ∀ (x1 : Int32) (T : XT) (K : XK) (cn sn : Nat) (H : Heap) (locs : List Loc) (ls : Array Slot), wx1_keeps_l11  Z Y post  x1 K T → kle K0 K → kc K0 + cn = kc K → ks K0 + sn = ks K → kc K ≤ Z → ks K ≤ Y → xW G b hole K T H → va_S (xA b hole) s.heap H locs → lv_has ls 2 [(0, .ref (b + 0)), (1, .int x1)] → W p l e (headSpec (ws_ yX1_keeps cX1_keeps 2 none) ({ frames := 1, cells := (Z - kc K0), slots := (Y - ks K0), locals := 60 } : Room)).room s m ([.ref (b + 0)] : List Value).toArray below meth c H locs cn sn (MQ below (xQ G b hole K0 (Z - kc K0) (Y - ks K0) (ρ := Unit) eV (fun r T1 K1 => post T1 K1)) ([.ref (b + 0)] : List Value).toArray s (Z - kc K0) (Y - ks K0) (xA b hole)) (F0 m 11 ls []) := by
    intro x1 T K cn sn H locs ls h hle0 hcn hsn hzz hyy hP hS hl
    obtain ⟨I11, n11, hI, hstep11⟩ := h
    induction n11 using Nat.strongRecOn generalizing x1 T H locs ls with
    | ind n11 ih11 =>
      have h : wx1_keeps_b11  Z Y post (fun x1 T => ∃ mm, mm < n11 ∧ I11 mm (x1, T))  x1 K T := hstep11 n11 _ hI
      clear hI
      unfold wx1_keeps_b11 at h
      refine lv_iload_n hx hb dX1_keeps_11 rfl (lv_at hl 1 rfl) ?_
      refine lv_bipush (v := 8) hx hb dX1_keeps_12 (by decide) ?_
      refine lv_icmp_ge (tgt := 51) hx hb dX1_keeps_14 (by decide) (fun c_18 => ?_) (fun c_18 => ?_)
      · have h := h.1 c_18
        refine lv_aload_n hx hb dX1_keeps_51 rfl (lv_at hl 0 rfl) ?_
        refine lv_dup hx hb dX1_keeps_52 rfl ?_
        refine x_get (CC := RX1) (TT := TX1) (N := 26) (ci := 0) (v := .int (xi T 0 22)) hx hb hts in_X1 hown hK hP (xs_0 hP) (by decide) (by decide) rfl (xE_8 (xs_0 hP)) 22 (by decide) q409 rfl rfl dX1_keeps_53 ?_
        refine lv_iconst (v := 1) hx hb dX1_keeps_56 (by decide) ?_
        refine lv_isub hx hb dX1_keeps_57 ?_
        obtain ⟨T_9, eT_9⟩ : ∃ z : XT, z = xwi T 0 22 ((xi T 0 22) - 1) := ⟨_, rfl⟩
        have h := h T_9 eT_9
        refine x_put (CC := RX1) (TT := TX1) (N := 26) (ci := 0) (T1 := T_9) (v := .int ((xi T 0 22) - 1)) (ty := .int) (fsf := fun T => fs8 (gem G) b T 0) hx hb hts in_X1 tyX1 tyX1_ok nmX1 hown hK hP hS (xs_0 hP) (by decide) (by decide) rfl (fun _ => xE_8 (xs_0 hP)) rfl 22 (by decide) q409 rfl (Or.inl rfl) rfl rfl rfl (by rw [eT_9]; exact fw8_22 _ b T 0 ((xi T 0 22) - 1)) (by rw [eT_9]; exact fun q hq => xwi_i hq) (by rw [eT_9]; exact fun _ _ => rfl) (by rw [eT_9]; exact xwi_ty hP (by rw [(xs_0 hP)]; decide)) dX1_keeps_58 (fun H locs hP hS => ?_)
        exact J61 _ _ _ _ _ _ _ h hle0 hcn hsn hzz hyy hP hS (lv_sub hl [0] rfl)
      · have h := h.2 c_18
        refine lv_aload_n hx hb dX1_keeps_17 rfl (lv_at hl 0 rfl) ?_
        refine x_get (CC := RX1) (TT := TX1) (N := 26) (ci := 0) (v := .ref (b + 88)) hx hb hts in_X1 hown hK hP (xs_0 hP) (by decide) (by decide) rfl (xE_8 (xs_0 hP)) 19 (by decide) q406 rfl rfl dX1_keeps_18 ?_
        refine lv_iload_n hx hb dX1_keeps_21 rfl (lv_at hl 1 rfl) ?_
        refine lv_iconst (v := 1) hx hb dX1_keeps_22 (by decide) ?_
        refine lv_isub hx hb dX1_keeps_23 ?_
        refine lv_aload_n hx hb dX1_keeps_24 rfl (lv_at hl 0 rfl) ?_
        refine x_get (CC := RX1) (TT := TX1) (N := 26) (ci := 0) (v := .ref (b + 88)) hx hb hts in_X1 hown hK hP (xs_0 hP) (by decide) (by decide) rfl (xE_8 (xs_0 hP)) 19 (by decide) q406 rfl rfl dX1_keeps_25 ?_
        refine lv_iload_n hx hb dX1_keeps_28 rfl (lv_at hl 1 rfl) ?_
        obtain ⟨j_10, hj_10, ej_10, v_11, ev_11, h⟩ := h
        refine x_aald14 hx hb hK hP (xs_88 hP) ej_10 (by rw [xl_88 hP]; exact hj_10) dX1_keeps_29 ?_
        refine x_some ev_11 ?_
        have hk_v_11 : kd K v_11 = 3 := hP.ty (xs_88 hP) (by decide) ev_11
        obtain ⟨j_12, hj_12, ej_12, h⟩ := h
        obtain ⟨T_13, eT_13⟩ : ∃ z : XT, z = xwr T 88 j_12 (some v_11) := ⟨_, rfl⟩
        have h := h T_13 eT_13
        refine x_aast14 hx hb hK hV.2.1 hP hS (xs_88 hP) hk_v_11 ej_12 (by rw [xl_88 hP]; exact hj_12) dX1_keeps_30 (fun H locs hP hS => ?_)
        rw [← eT_13] at hP
        refine lv_aload_n hx hb dX1_keeps_31 rfl (lv_at hl 0 rfl) ?_
        refine x_get (CC := RX1) (TT := TX1) (N := 26) (ci := 0) (v := .ref (b + 89)) hx hb hts in_X1 hown hK hP (xs_0 hP) (by decide) (by decide) rfl (xE_8 (xs_0 hP)) 20 (by decide) q407 rfl rfl dX1_keeps_32 ?_
        refine lv_iload_n hx hb dX1_keeps_35 rfl (lv_at hl 1 rfl) ?_
        refine lv_iconst (v := 1) hx hb dX1_keeps_36 (by decide) ?_
        refine lv_isub hx hb dX1_keeps_37 ?_
        refine lv_aload_n hx hb dX1_keeps_38 rfl (lv_at hl 0 rfl) ?_
        refine x_get (CC := RX1) (TT := TX1) (N := 26) (ci := 0) (v := .ref (b + 89)) hx hb hts in_X1 hown hK hP (xs_0 hP) (by decide) (by decide) rfl (xE_8 (xs_0 hP)) 20 (by decide) q407 rfl rfl dX1_keeps_39 ?_
        refine lv_iload_n hx hb dX1_keeps_42 rfl (lv_at hl 1 rfl) ?_
        obtain ⟨j_14, hj_14, ej_14, h⟩ := h
        refine x_iald hx hb hK hP (xs_89 hP) ej_14 (by rw [xl_89 hP]; exact hj_14) dX1_keeps_43 ?_
        obtain ⟨j_15, hj_15, ej_15, h⟩ := h
        obtain ⟨T_16, eT_16⟩ : ∃ z : XT, z = xwi T_13 89 j_15 (xi T_13 89 j_14) := ⟨_, rfl⟩
        have h := h T_16 eT_16
        refine x_iast hx hb hK hP hS (xs_89 hP) ej_15 (by rw [xl_89 hP]; exact hj_15) dX1_keeps_44 (fun H locs hP hS => ?_)
        rw [← eT_16] at hP
        obtain ⟨x1_17, ex1_17⟩ : ∃ y : Int32, y = x1 + 1 := ⟨_, rfl⟩
        have h := h x1_17 ex1_17
        refine lv_iinc (v := x1_17) (lv' := [(1, .int x1_17), (0, .ref (b + 0))]) hx hb dX1_keeps_45 hl (k := 1) rfl (by rw [ex1_17]; rfl) (by decide) rfl (fun ls hl => ?_)
        refine lv_goto (tgt := 11) hx hb dX1_keeps_48 (by decide) ?_
        obtain ⟨mm, hmm, h⟩ := h
        exact ih11 mm hmm _ _ _ _ _  hP hS (lv_sub hl [1, 0] rfl) h
  have hcn : kc K0 + 0 = kc K0 := rfl
  have hsn : ks K0 + 0 = ks K0 := rfl
  have hzz := hZ
  have hyy := hY
  unfold wx1_keeps at h
  refine lv_aload_n hx hb dX1_keeps_0 rfl (lv_at hl 0 rfl) ?_
  refine x_get (CC := RX1) (TT := TX1) (N := 26) (ci := 0) (v := .int (xi T 0 22)) hx hb hts in_X1 hown hK hP (xs_0 hP) (by decide) (by decide) rfl (xE_8 (xs_0 hP)) 22 (by decide) q409 rfl rfl dX1_keeps_1 ?_
  refine lv_bipush (v := 8) hx hb dX1_keeps_4 (by decide) ?_
  refine lv_icmp_ne (tgt := 61) hx hb dX1_keeps_6 (by decide) (fun c_19 => ?_) (fun c_19 => ?_)
  · have h := h.1 c_19
    exact J61 _ _ _ _ _ _ _ h hle0 hcn hsn hzz hyy hP hS (lv_sub hl [0] rfl)
  · have h := h.2 c_19
    refine lv_iconst (v := 1) hx hb dX1_keeps_9 (by decide) ?_
    refine lv_istore_n (lv' := [(1, .int 1), (0, .ref (b + 0))]) hx hb dX1_keeps_10 rfl hl (by decide) rfl (fun ls hl => ?_)
    exact L11 _ _ _ _ _ _ _ _ h hle0 hcn hsn hzz hyy hP hS (lv_sub hl [1, 0] rfl)
theorem cwx_X1_lays : yX1_lays.cls = RX1 ∧ yX1_lays.cls ≠ "java/lang/invoke/MethodHandle" ∧ yX1_lays.cls ≠ "java/lang/invoke/VarHandle" ∧ (parseMethodDescriptor yX1_lays.desc).map (fun d => d.parameters.length) = some 2 := by decide +kernel
def wx1_lays_j13 (p1 : Option Nat) (p2 : Int32) (Z Y : Nat) (post : Int32 → XT → XK → Prop)  (K : XK) (T : XT) : Prop :=
    wx1_no 3 K T (fun r_1 T_2 =>
    post r_1 T_2 (kset K Z Y))
def wx1_lays (p1 : Option Nat) (p2 : Int32) (K0 : XK) (T : XT) (Z Y : Nat) (post : Int32 → XT → XK → Prop) : Prop :=
  ((p1 = none →
    wx1_lays_j13 p1 p2 Z Y post  K0 T) ∧
   (∀ v_4 : Nat, p1 = some v_4 →
    (((xi T v_4 2) ≤ 60 →
      ∃ Z_8 Y_9 : Nat, kc K0 ≤ Z_8 ∧ Z_8 ≤ Z ∧ ks K0 ≤ Y_9 ∧ Y_9 ≤ Y ∧ wx1_keeps  K0 T Z_8 Y_9 (fun T_6 K_7 =>
      ∃ v_10 : Nat, xr T_6 0 18 = some v_10 ∧
      ∃ j_11 : Nat, j_11 < kl K_7 v_10 ∧ p2 = nI j_11 ∧ ∀ T_12 : XT, T_12 = xwr T_6 v_10 j_11 (some v_4) →
      post (xi T_12 v_4 2) T_12 (kset K_7 Z Y))) ∧
     (¬ ((xi T v_4 2) ≤ 60) →
      wx1_lays_j13 p1 p2 Z Y post  K0 T))))
set_option maxHeartbeats 4000000 in
theorem mx1_lays (l : Launch) (G : XG) (b : Nat) (hole : Nat → Prop) (p1 : Option Nat) (p2 : Int32) (K0 : XK) (T : XT) (Z Y : Nat) (hZ : kc K0 ≤ Z) (hY : ks K0 ≤ Y) (hk_p1 : ∀ v, p1 = some v → kd K0 v = 2) (post : Int32 → XT → XK → Prop) (h : wx1_lays p1 p2 K0 T Z Y post) : Met l yX1_lays (ws_ yX1_lays cX1_lays 3 (some .int)) ({ frames := 2, cells := (Z - kc K0), slots := (Y - ks K0), locals := 81 } : Room) (xPc G b hole [.ref (b + 0), rfv b p1, .int p2] K0 T) (xQ G b hole K0 (Z - kc K0) (Y - ks K0) (ρ := Int32) eI (fun r T1 K1 => post r T1 K1)) (Z - kc K0) (Y - ks K0) (xA b hole) := by
  refine Met.ofW (cc := cX1_lays) (maxL := 3) (ret := (some .int)) (by decide) rfl ?_
  intro p e s m args below meth c s₁ B hml hv
  obtain ⟨rfl, hP, hK, hV⟩ := hv
  have hx := B.exec
  have hb := B.bytes
  have hr := B.returns
  have hts := atoms_spec (ws := ws_ yX1_lays cX1_lays 3 (some .int)) B.pre
  have hts : ∀ w ∈ lw_all, w.before _ s = true := fun w h => hts w (List.mem_cons_of_mem _ h)
  have hown : s.vm.findClass RX1 = some m.cls := findClass_of_methodNamed B.named
  have hlocks := B.notSynchronized
  have hb0 : b ≤ s.heap.size := by rw [hP.2.2.2]; exact Nat.le_add_right _ _
  have hS : va_S (xA b hole) s.heap s.heap [] := va_S.rf
  have hl := lv_entry ([.ref (b + 0), rfv b p1, .int p2]) (n := 3) (by cases p1 <;> exact Nat.le_of_ble_eq_true rfl)
  rw [lg_entry_eq]
  generalize (lg_sl ([.ref (b + 0), rfv b p1, .int p2]) ++ List.replicate (3 - (lg_sl ([.ref (b + 0), rfv b p1, .int p2])).length) Slot.unset).toArray = ls at hl ⊢
  have hl : lv_has ls 3 [(0, .ref (b + 0)), (1, rfv b p1), (2, .int p2)] := by cases p1 <;> exact hl
  have hle0 : kle K0 K0 := kle.rf
  have J13 : ∀  (T : XT) (K : XK) (cn sn : Nat) (H : Heap) (locs : List Loc) (ls : Array Slot), wx1_lays_j13 p1 p2 Z Y post  K T → kle K0 K → kc K0 + cn = kc K → ks K0 + sn = ks K → kc K ≤ Z → ks K ≤ Y → (∀ v, p1 = some v → kd K v = 2) → xW G b hole K T H → va_S (xA b hole) s.heap H locs → lv_has ls 3 [(0, .ref (b + 0))] → W p l e (headSpec (ws_ yX1_lays cX1_lays 3 (some .int)) ({ frames := 2, cells := (Z - kc K0), slots := (Y - ks K0), locals := 81 } : Room)).room s m ([.ref (b + 0), rfv b p1, .int p2] : List Value).toArray below meth c H locs cn sn (MQ below (xQ G b hole K0 (Z - kc K0) (Y - ks K0) (ρ := Int32) eI (fun r T1 K1 => post r T1 K1)) ([.ref (b + 0), rfv b p1, .int p2] : List Value).toArray s (Z - kc K0) (Y - ks K0) (xA b hole)) (F0 m 13 ls []) := by
    intro  T K cn sn H locs ls h hle0 hcn hsn hzz hyy hk_p1 hP hS hl
    unfold wx1_lays_j13 at h
    refine lv_aload_n hx hb dX1_lays_13 rfl (lv_at hl 0 rfl) ?_
    refine lv_iconst (v := 3) hx hb dX1_lays_14 (by decide) ?_
    refine x_cV (k := 0) (As := [.int 3]) (rest := []) ⟨hx, hb, hml, hown, hts⟩ (mx1_no l G b hole 3 K T  _ h) (cwV 1 hts (lw_V q486 q488 qs3 q118 q489) rfl rfl rfl cwx_X1_no ⟨Nat.le_of_ble_eq_true rfl, Nat.le_of_ble_eq_true rfl⟩) (x_recv (CC := RX1) (ci := 0) hK hP (xs_0 hP) (by decide) (by decide) rfl (xE_8 (xs_0 hP))) hK hV hb0 hP hS rfl hl.1 rfl (Nat.le_of_ble_eq_true rfl) dX1_lays_15 ⟨by first | exact Nat.zero_le _ | (show _ + _ ≤ Z - kc K0; omega), by first | exact Nat.zero_le _ | (show _ + _ ≤ Y - ks K0; omega)⟩ (fun r_1 T1 K1 H locs h hle1 hc1 hs1 hP hS => ?_)
    obtain ⟨h, hKe⟩ := h
    rw [hKe] at hP
    generalize T1 = T_2 at h hP
    refine W.widen (k := Z - kc K0) (n := Y - ks K0) (by omega) (by omega) ?_
    exact W.iret (v := r_1) hx hb hr (fun t ht hW => ⟨⟨r_1, T_2, (kset K Z Y), rfl, h, hle0, (by show Z = _; omega), (by show Y = _; omega), by rw [ht]; exact hP, va_K.moved hW.alike hK⟩, hS.F ht⟩) hS.2.2 dX1_lays_18
  have hcn : kc K0 + 0 = kc K0 := rfl
  have hsn : ks K0 + 0 = ks K0 := rfl
  have hzz := hZ
  have hyy := hY
  unfold wx1_lays at h
  refine x_aload_n hx hb dX1_lays_0 rfl (lv_at hl 1 rfl) ?_
  refine x_ifnull (tgt := 13) hx hb dX1_lays_1 (by decide) (fun c_14 => ?_) (fun v_4 c_14 => ?_)
  · replace h := h.1 c_14
    exact J13 _ _ _ _ _ _ _ h hle0 hcn hsn hzz hyy hk_p1 hP hS (lv_sub hl [0] rfl)
  · replace h := h.2 v_4 c_14
    have hk_v_4 : kd K0 v_4 = 2 := hk_p1 _ c_14
    subst c_14
    refine lv_aload_n hx hb dX1_lays_4 rfl (lv_at hl 1 rfl) ?_
    refine x_get (CC := RX6) (TT := TX6) (N := 3) (ci := 5) (v := .int (xi T v_4 2)) hx hb hts in_X6 hown hK hP hk_v_4 (by decide) (by decide) rfl (xE_2 hk_v_4) 2 (by decide) q372 rfl rfl dX1_lays_5 ?_
    refine lv_bipush (v := 60) hx hb dX1_lays_8 (by decide) ?_
    refine lv_icmp_le (tgt := 19) hx hb dX1_lays_10 (by decide) (fun c_13 => ?_) (fun c_13 => ?_)
    · have h := h.1 c_13
      refine lv_aload_n hx hb dX1_lays_19 rfl (lv_at hl 0 rfl) ?_
      obtain ⟨Z_8, Y_9, hz1, hz2, hy1, hy2, h⟩ := h
      refine x_cV (k := 0) (As := []) (rest := []) ⟨hx, hb, hml, hown, hts⟩ (mx1_keeps l G b hole  K0 T Z_8 Y_9 hz1 hy1  _ h) (cwV 0 hts (lw_V q999 q1001 qs44 q118 q1002) rfl rfl rfl cwx_X1_keeps ⟨Nat.le_of_ble_eq_true rfl, Nat.le_of_ble_eq_true rfl⟩) (x_recv (CC := RX1) (ci := 0) hK hP (xs_0 hP) (by decide) (by decide) rfl (xE_8 (xs_0 hP))) hK hV hb0 hP hS rfl hl.1 rfl (Nat.le_of_ble_eq_true rfl) dX1_lays_20 ⟨by first | exact Nat.zero_le _ | (show _ + _ ≤ Z - kc K0; omega), by first | exact Nat.zero_le _ | (show _ + _ ≤ Y - ks K0; omega)⟩ (fun r_5 T1 K1 H locs h hle1 hc1 hs1 hP hS => ?_)
      generalize T1 = T_6 at h hP
      generalize K1 = K_7 at h hP hle1 hc1 hs1
      have hk_v_4 : kd K_7 v_4 = 2 := hle1.kd hk_v_4
      have hle0 := hle0.tr hle1
      have hcn : kc K0 + (0 + (Z_8 - kc K0)) = kc K_7 := by omega
      have hsn : ks K0 + (0 + (Y_9 - ks K0)) = ks K_7 := by omega
      have hzz : kc K_7 ≤ Z := by omega
      have hyy : ks K_7 ≤ Y := by omega
      refine lv_aload_n hx hb dX1_lays_23 rfl (lv_at hl 0 rfl) ?_
      obtain ⟨v_10, ev_10, h⟩ := h
      refine x_get (CC := RX1) (TT := TX1) (N := 26) (ci := 0) (v := rfv b (xr T_6 0 18)) hx hb hts in_X1 hown hK hP (xs_0 hP) (by decide) (by decide) rfl (xE_8 (xs_0 hP)) 18 (by decide) q405 rfl rfl dX1_lays_24 ?_
      refine x_some ev_10 ?_
      have hk_v_10 : kd K_7 v_10 = 3 := hP.ty (xs_0 hP) (by decide) ev_10
      refine lv_iload_n hx hb dX1_lays_27 rfl (lv_at hl 2 rfl) ?_
      refine lv_aload_n hx hb dX1_lays_28 rfl (lv_at hl 1 rfl) ?_
      obtain ⟨j_11, hj_11, ej_11, h⟩ := h
      obtain ⟨T_12, eT_12⟩ : ∃ z : XT, z = xwr T_6 v_10 j_11 (some v_4) := ⟨_, rfl⟩
      have h := h T_12 eT_12
      refine x_aast3 hx hb hK hP hS hk_v_10 hk_v_4 ej_11 hj_11 dX1_lays_29 (fun H locs hP hS => ?_)
      rw [← eT_12] at hP
      refine lv_aload_n hx hb dX1_lays_30 rfl (lv_at hl 1 rfl) ?_
      refine x_get (CC := RX6) (TT := TX6) (N := 3) (ci := 5) (v := .int (xi T_12 v_4 2)) hx hb hts in_X6 hown hK hP hk_v_4 (by decide) (by decide) rfl (xE_2 hk_v_4) 2 (by decide) q372 rfl rfl dX1_lays_31 ?_
      refine W.widen (k := Z - kc K0) (n := Y - ks K0) (by omega) (by omega) ?_
      exact W.iret (v := (xi T_12 v_4 2)) hx hb hr (fun t ht hW => ⟨⟨(xi T_12 v_4 2), T_12, (kset K_7 Z Y), rfl, h, hle0, (by show Z = _; omega), (by show Y = _; omega), by rw [ht]; exact hP, va_K.moved hW.alike hK⟩, hS.F ht⟩) hS.2.2 dX1_lays_34
    · have h := h.2 c_13
      exact J13 _ _ _ _ _ _ _ h hle0 hcn hsn hzz hyy (fun _ e9 => by cases e9; exact hk_v_4) hP hS (lv_sub hl [0] rfl)
