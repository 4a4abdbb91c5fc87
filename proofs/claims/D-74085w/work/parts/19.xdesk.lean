set_option maxRecDepth 100000
theorem cwx_X1_desk : yX1_desk.cls = RX1 ∧ yX1_desk.cls ≠ "java/lang/invoke/MethodHandle" ∧ yX1_desk.cls ≠ "java/lang/invoke/VarHandle" ∧ (parseMethodDescriptor yX1_desk.desc).map (fun d => d.parameters.length) = some 1 := by decide +kernel
def wx1_desk_j153 (p1 : Int32) (Z Y : Nat) (post : Int32 → XT → XK → Prop) (R112 : Int32 → XT → XK → Prop) (x2 : Int32) (K : XK) (T : XT) : Prop :=
        ∀ x2_1 : Int32, x2_1 = x2 + 1 →
        R112 x2_1 T K
def wx1_desk_b112 (p1 : Int32) (Z Y : Nat) (post : Int32 → XT → XK → Prop) (R112 : Int32 → XT → XK → Prop)  (x2 : Int32) (K : XK) (T : XT) : Prop :=
      ((8 ≤ x2 →
        ∀ T_2 : XT, T_2 = xwi T 0 21 1 →
        ∀ T_3 : XT, T_3 = xwi T_2 0 22 0 →
        post (xi T_3 80 13) T_3 (kset K Z Y)) ∧
       (¬ (8 ≤ x2) →
        ∃ v_4 : Nat, xr T 0 18 = some v_4 ∧
        (((xi T 80 13) ≤ x2 →
          kc K + 1 ≤ Z ∧ ks K + 3 ≤ Y ∧ ∀ K_5 : XK, K_5 = knew K 2 0 3 → ∀ T_6 : XT, T_6 = xnil T (kz K) →
          ∃ Z_10 Y_11 : Nat, kc K_5 ≤ Z_10 ∧ Z_10 ≤ Z ∧ ks K_5 ≤ Y_11 ∧ Y_11 ≤ Y ∧ wx6_init (kz K) K_5 T_6 Z_10 Y_11 (fun T_8 K_9 =>
          ∃ j_12 : Nat, j_12 < kl K_9 v_4 ∧ x2 = nI j_12 ∧ ∀ T_13 : XT, T_13 = xwr T_8 v_4 j_12 (some (kz K)) →
          wx1_desk_j153 p1 Z Y post R112 x2 K_9 T_13)) ∧
         (¬ ((xi T 80 13) ≤ x2) →
          ∃ Z_17 Y_18 : Nat, kc K ≤ Z_17 ∧ Z_17 ≤ Z ∧ ks K ≤ Y_18 ∧ Y_18 ≤ Y ∧ wx4_poly x2 K T Z_17 Y_18 (fun r_14 T_15 K_16 =>
          ∃ j_19 : Nat, j_19 < kl K_16 v_4 ∧ x2 = nI j_19 ∧ ∀ T_20 : XT, T_20 = xwr T_15 v_4 j_19 (some r_14) →
          wx1_desk_j153 p1 Z Y post R112 x2 K_16 T_20)))))
def wx1_desk_l112 (p1 : Int32) (Z Y : Nat) (post : Int32 → XT → XK → Prop)  (x2 : Int32) (K : XK) (T : XT) : Prop := wLoop (fun (R : ((Int32) × (XT) × (XK)) → Prop) (v : (Int32) × (XT) × (XK)) => wx1_desk_b112 p1 Z Y post (fun x2 T K => R (x2, T, K))  v.1 v.2.2 v.2.1) (x2, T, K)
def wx1_desk (p1 : Int32) (K0 : XK) (T : XT) (Z Y : Nat) (post : Int32 → XT → XK → Prop) : Prop :=
  wx1_anew  K0 T (fun T_24 =>
  wx1_in p1 0 (xi T_24 0 16) K0 T_24 (fun r_26 =>
  ((¬ r_26 = 0 →
    ∀ T_29 : XT, T_29 = xwi T_24 0 16 0 →
    ∀ T_30 : XT, T_30 = xwi T_29 0 24 0 →
    ∃ Z_34 Y_35 : Nat, kc K0 ≤ Z_34 ∧ Z_34 ≤ Z ∧ ks K0 ≤ Y_35 ∧ Y_35 ≤ Y ∧ wx4_read p1 K0 T_30 Z_34 Y_35 (fun T_32 K_33 =>
    ∀ T_43 : XT, T_43 = xwi T_32 0 0 (xi T_32 80 11) →
    wx1_layInverses  K_33 T_43 (fun T_45 =>
    ∃ j_47 : Nat, j_47 < 3 ∧ 0 = nI j_47 ∧
    ∃ j_48 : Nat, j_48 < 3 ∧ 1 = nI j_48 ∧
    ∃ Z_52 Y_53 : Nat, kc K_33 ≤ Z_52 ∧ Z_52 ≤ Z ∧ ks K_33 ≤ Y_53 ∧ Y_53 ≤ Y ∧ wx1_becomes (xi T_45 80 12) (xi T_45 86 j_47) (xi T_45 86 j_48) K_33 T_45 Z_52 Y_53 (fun T_50 K_51 =>
    wx1_desk_l112 p1 Z Y post 0 K_51 T_50))) (fun T_36 K_37 =>
      ∀ T_38 : XT, T_38 = xwi T_36 0 24 (xi T_36 81 0) →
      ∀ T_39 : XT, T_39 = xwi T_38 0 25 (xi T_38 81 1) →
      wx1_no 4 K_37 T_39 (fun r_40 T_41 =>
      post r_40 T_41 (kset K_37 Z Y)))) ∧
   (r_26 = 0 →
    wx1_no 2 K0 T_24 (fun r_54 T_55 =>
    post r_54 T_55 (kset K0 Z Y))))))
set_option maxHeartbeats 4000000 in
theorem mx1_desk (l : Launch) (G : XG) (b : Nat) (hole : Nat → Prop) (p1 : Int32) (K0 : XK) (T : XT) (Z Y : Nat) (hZ : kc K0 ≤ Z) (hY : ks K0 ≤ Y)  (post : Int32 → XT → XK → Prop) (h : wx1_desk p1 K0 T Z Y post) : Met l yX1_desk (wsW_ yX1_desk cX1_desk 3 (some .int) [(32, 40, 43, 284)]) ({ frames := 10, cells := (Z - kc K0), slots := (Y - ks K0), locals := 3146 } : Room) (xPc G b hole [.ref (b + 0), .int p1] K0 T) (xQ G b hole K0 (Z - kc K0) (Y - ks K0) (ρ := Int32) eI (fun r T1 K1 => post r T1 K1)) (Z - kc K0) (Y - ks K0) (xA b hole) := by
  refine va_MetW (hh := [(32, 40, 43, 284)]) (cc := cX1_desk) (maxL := 3) (ret := (some .int)) (by decide) rfl ?_
  intro p e s m args below meth c s₁ B hml hv
  obtain ⟨rfl, hP, hK, hV⟩ := hv
  have hx := B.exec
  have hb := B.bytes
  have hr := B.returns
  have hts := atoms_spec (ws := wsW_ yX1_desk cX1_desk 3 (some .int) [(32, 40, 43, 284)]) B.pre
  have htab := vx_table (x := yX1_desk) B (hts _ List.mem_cons_self)
  have hts : ∀ w ∈ lw_all, w.before _ s = true := fun w h => hts w (List.mem_cons_of_mem _ h)
  have hown : s.vm.findClass RX1 = some m.cls := findClass_of_methodNamed B.named
  have hlocks := B.notSynchronized
  have hb0 : b ≤ s.heap.size := by rw [hP.2.2.2]; exact Nat.le_add_right _ _
  have hS : va_S (xA b hole) s.heap s.heap [] := va_S.rf
  have hl := lv_entry ([.ref (b + 0), .int p1]) (n := 3) (Nat.le_of_ble_eq_true rfl)
  rw [lg_entry_eq]
  generalize (lg_sl ([.ref (b + 0), .int p1]) ++ List.replicate (3 - (lg_sl ([.ref (b + 0), .int p1])).length) Slot.unset).toArray = ls at hl ⊢
  have hl : lv_has ls 3 [(0, .ref (b + 0)), (1, .int p1)] := hl
  have hle0 : kle K0 K0 := kle.rf
  have L112 : ∀ (x2 : Int32) (T : XT) (K : XK) (cn sn : Nat) (H : Heap) (locs : List Loc) (ls : Array Slot), wx1_desk_l112 p1 Z Y post  x2 K T → kle K0 K → kc K0 + cn = kc K → ks K0 + sn = ks K → kc K ≤ Z → ks K ≤ Y → xW G b hole K T H → va_S (xA b hole) s.heap H locs → lv_has ls 3 [(0, .ref (b + 0)), (2, .int x2)] → W p l e (headSpec (wsW_ yX1_desk cX1_desk 3 (some .int) [(32, 40, 43, 284)]) ({ frames := 10, cells := (Z - kc K0), slots := (Y - ks K0), locals := 3146 } : Room)).room s m ([.ref (b + 0), .int p1] : List Value).toArray below meth c H locs cn sn (MQ below (xQ G b hole K0 (Z - kc K0) (Y - ks K0) (ρ := Int32) eI (fun r T1 K1 => post r T1 K1)) ([.ref (b + 0), .int p1] : List Value).toArray s (Z - kc K0) (Y - ks K0) (xA b hole)) (F0 m 112 ls []) := by
    intro x2 T K cn sn H locs ls h hle0 hcn hsn hzz hyy hP hS hl
    obtain ⟨I112, n112, hI, hstep112⟩ := h
    induction n112 using Nat.strongRecOn generalizing x2 T K cn sn H locs ls with
    | ind n112 ih112 =>
      have h : wx1_desk_b112 p1 Z Y post (fun x2 T K => ∃ mm, mm < n112 ∧ I112 mm (x2, T, K))  x2 K T := hstep112 n112 _ hI
      clear hI
      have J153 : ∀ (x2 : Int32) (T : XT) (K : XK) (cn sn : Nat) (H : Heap) (locs : List Loc) (ls : Array Slot), wx1_desk_j153 p1 Z Y post (fun x2 T K => ∃ mm, mm < n112 ∧ I112 mm (x2, T, K)) x2 K T → kle K0 K → kc K0 + cn = kc K → ks K0 + sn = ks K → kc K ≤ Z → ks K ≤ Y → xW G b hole K T H → va_S (xA b hole) s.heap H locs → lv_has ls 3 [(0, .ref (b + 0)), (2, .int x2)] → W p l e (headSpec (wsW_ yX1_desk cX1_desk 3 (some .int) [(32, 40, 43, 284)]) ({ frames := 10, cells := (Z - kc K0), slots := (Y - ks K0), locals := 3146 } : Room)).room s m ([.ref (b + 0), .int p1] : List Value).toArray below meth c H locs cn sn (MQ below (xQ G b hole K0 (Z - kc K0) (Y - ks K0) (ρ := Int32) eI (fun r T1 K1 => post r T1 K1)) ([.ref (b + 0), .int p1] : List Value).toArray s (Z - kc K0) (Y - ks K0) (xA b hole)) (F0 m 153 ls []) := by
        intro x2 T K cn sn H locs ls h hle0 hcn hsn hzz hyy hP hS hl
        unfold wx1_desk_j153 at h
        obtain ⟨x2_1, ex2_1⟩ : ∃ y : Int32, y = x2 + 1 := ⟨_, rfl⟩
        have h := h x2_1 ex2_1
        refine lv_iinc (v := x2_1) (lv' := [(2, .int x2_1), (0, .ref (b + 0))]) hx hb dX1_desk_153 hl (k := 1) rfl (by rw [ex2_1]; rfl) (by decide) rfl (fun ls hl => ?_)
        refine lv_goto (tgt := 112) hx hb dX1_desk_156 (by decide) ?_
        obtain ⟨mm, hmm, h⟩ := h
        exact ih112 mm hmm _ _ _ _ _ _ _ _ hle0 hcn hsn hzz hyy hP hS (lv_sub hl [1, 0] rfl) h
      unfold wx1_desk_b112 at h
      refine lv_iload_n hx hb dX1_desk_112 rfl (lv_at hl 1 rfl) ?_
      refine lv_bipush (v := 8) hx hb dX1_desk_113 (by decide) ?_
      refine lv_icmp_ge (tgt := 159) hx hb dX1_desk_115 (by decide) (fun c_22 => ?_) (fun c_22 => ?_)
      · have h := h.1 c_22
        refine lv_aload_n hx hb dX1_desk_159 rfl (lv_at hl 0 rfl) ?_
        refine lv_iconst (v := 1) hx hb dX1_desk_160 (by decide) ?_
        obtain ⟨T_2, eT_2⟩ : ∃ z : XT, z = xwi T 0 21 1 := ⟨_, rfl⟩
        have h := h T_2 eT_2
        refine x_put (CC := RX1) (TT := TX1) (N := 26) (ci := 0) (T1 := T_2) (v := .int 1) (ty := .boolean) (fsf := fun T => fs8 (gem G) b T 0) hx hb hts in_X1 tyX1 tyX1_ok nmX1 hown hK hP hS (xs_0 hP) (by decide) (by decide) rfl (fun _ => xE_8 (xs_0 hP)) rfl 21 (by decide) q408 rfl (Or.inl rfl) rfl rfl rfl (by rw [eT_2]; exact fw8_21 _ b T 0 1) (by rw [eT_2]; exact fun q hq => xwi_i hq) (by rw [eT_2]; exact fun _ _ => rfl) (by rw [eT_2]; exact xwi_ty hP (by rw [(xs_0 hP)]; decide)) dX1_desk_161 (fun H locs hP hS => ?_)
        refine lv_aload_n hx hb dX1_desk_164 rfl (lv_at hl 0 rfl) ?_
        refine lv_iconst (v := 0) hx hb dX1_desk_165 (by decide) ?_
        obtain ⟨T_3, eT_3⟩ : ∃ z : XT, z = xwi T_2 0 22 0 := ⟨_, rfl⟩
        have h := h T_3 eT_3
        refine x_put (CC := RX1) (TT := TX1) (N := 26) (ci := 0) (T1 := T_3) (v := .int 0) (ty := .int) (fsf := fun T => fs8 (gem G) b T 0) hx hb hts in_X1 tyX1 tyX1_ok nmX1 hown hK hP hS (xs_0 hP) (by decide) (by decide) rfl (fun _ => xE_8 (xs_0 hP)) rfl 22 (by decide) q409 rfl (Or.inl rfl) rfl rfl rfl (by rw [eT_3]; exact fw8_22 _ b T_2 0 0) (by rw [eT_3]; exact fun q hq => xwi_i hq) (by rw [eT_3]; exact fun _ _ => rfl) (by rw [eT_3]; exact xwi_ty hP (by rw [(xs_0 hP)]; decide)) dX1_desk_166 (fun H locs hP hS => ?_)
        refine lv_aload_n hx hb dX1_desk_169 rfl (lv_at hl 0 rfl) ?_
        refine x_get (CC := RX1) (TT := TX1) (N := 26) (ci := 0) (v := .ref (b + 80)) hx hb hts in_X1 hown hK hP (xs_0 hP) (by decide) (by decide) rfl (xE_8 (xs_0 hP)) 17 (by decide) q403 rfl rfl dX1_desk_170 ?_
        refine x_getN (CC := RX4) (TT := TX4) (N := 17) (ci := 3) (v := .int (xi T_3 80 13)) hx hb hts in_X4 hown hK hV.1 hP (xs_80 hP) (by decide) (by decide) rfl (xE_11 (xs_80 hP)) 13 (by decide) q312 rfl rfl dX1_desk_173 ?_
        refine W.widen (k := Z - kc K0) (n := Y - ks K0) (by omega) (by omega) ?_
        exact W.iret (v := (xi T_3 80 13)) hx hb hr (fun t ht hW => ⟨⟨(xi T_3 80 13), T_3, (kset K Z Y), rfl, h, hle0, (by show Z = _; omega), (by show Y = _; omega), by rw [ht]; exact hP, va_K.moved hW.alike hK⟩, hS.F ht⟩) hS.2.2 dX1_desk_176
      · have h := h.2 c_22
        refine lv_aload_n hx hb dX1_desk_118 rfl (lv_at hl 0 rfl) ?_
        obtain ⟨v_4, ev_4, h⟩ := h
        refine x_get (CC := RX1) (TT := TX1) (N := 26) (ci := 0) (v := rfv b (xr T 0 18)) hx hb hts in_X1 hown hK hP (xs_0 hP) (by decide) (by decide) rfl (xE_8 (xs_0 hP)) 18 (by decide) q405 rfl rfl dX1_desk_119 ?_
        refine x_some ev_4 ?_
        have hk_v_4 : kd K v_4 = 3 := hP.ty (xs_0 hP) (by decide) ev_4
        refine lv_iload_n hx hb dX1_desk_122 rfl (lv_at hl 1 rfl) ?_
        refine lv_iload_n hx hb dX1_desk_123 rfl (lv_at hl 1 rfl) ?_
        refine lv_aload_n hx hb dX1_desk_124 rfl (lv_at hl 0 rfl) ?_
        refine x_get (CC := RX1) (TT := TX1) (N := 26) (ci := 0) (v := .ref (b + 80)) hx hb hts in_X1 hown hK hP (xs_0 hP) (by decide) (by decide) rfl (xE_8 (xs_0 hP)) 17 (by decide) q403 rfl rfl dX1_desk_125 ?_
        refine x_getN (CC := RX4) (TT := TX4) (N := 17) (ci := 3) (v := .int (xi T 80 13)) hx hb hts in_X4 hown hK hV.1 hP (xs_80 hP) (by decide) (by decide) rfl (xE_11 (xs_80 hP)) 13 (by decide) q312 rfl rfl dX1_desk_128 ?_
        refine lv_icmp_ge (tgt := 145) hx hb dX1_desk_131 (by decide) (fun c_21 => ?_) (fun c_21 => ?_)
        · have h := h.1 c_21
          obtain ⟨hc1, hs1, h⟩ := h
          obtain ⟨K_5, eK_5⟩ : ∃ z : XK, z = knew K 2 0 3 := ⟨_, rfl⟩
          obtain ⟨T_6, eT_6⟩ : ∃ z : XT, z = xnil T (kz K) := ⟨_, rfl⟩
          have h := h K_5 eK_5 T_6 eT_6
          have hle1 : kle K K_5 := by rw [eK_5]; exact kle.new hP.2.2.1 _ _ _
          refine x_new (CC := RX6) (TT := TX6) (N := 3) (ci := 5) (kn := 2) (fs := [.null, .null, .int 0]) hx hb hts in_X6 tyX6 tyX6_ok hown q352 q356 q126 hK hP hS rfl (by decide) (by decide) (fun K1 h9 => by rw [xE_2 h9]; simp [fs2, xnil, xi, xr, va_up_self, rfv, va_rf]) (fun j hj => by rcases (show j = 0 ∨ j = 1 ∨ j = 2 by omega) with rfl | rfl | rfl <;> rfl) (by show _ + 1 ≤ Z - kc K0; omega) (by show _ + _ ≤ Y - ks K0; omega) dX1_desk_145 (fun H hP hS => ?_)
          rw [← eK_5, ← eT_6] at hP
          have hk_v_4 : kd K_5 v_4 = 3 := hle1.kd hk_v_4
          have hk_n5 : kd K_5 (kz K) = 2 := by rw [eK_5]; exact knew_kd
          have hle0 := hle0.tr hle1
          have hcn : kc K0 + (cn + 1) = kc K_5 := by rw [eK_5]; show _ = kc K + 1; omega
          have hsn : ks K0 + (sn + 3) = ks K_5 := by rw [eK_5]; show _ = ks K + 3; omega
          have hzz : kc K_5 ≤ Z := by rw [eK_5]; exact hc1
          have hyy : ks K_5 ≤ Y := by rw [eK_5]; exact hs1
          refine lv_dup hx hb dX1_desk_148 rfl ?_
          obtain ⟨Z_10, Y_11, hz1, hz2, hy1, hy2, h⟩ := h
          refine x_cI (k := (kz K)) (As := []) (rest := [.ref (b + (kz K)), .int x2, .ref (b + v_4)]) ⟨hx, hb, hml, hown, hts⟩ (mx6_init l G b hole (kz K) K_5 T_6 Z_10 Y_11 hz1 hy1 hk_n5 _ h) (cwI 0 hts (lw_meth q359) rfl rfl rfl (hts _ q126) (hts _ q357) (hts _ q358) rfl cwx_X6_init ⟨Nat.le_of_ble_eq_true rfl, Nat.le_of_ble_eq_true rfl⟩) hK hV hb0 hP hS rfl hl.1 rfl (Nat.le_of_ble_eq_true rfl) dX1_desk_149 ⟨by first | exact Nat.zero_le _ | (show _ + _ ≤ Z - kc K0; omega), by first | exact Nat.zero_le _ | (show _ + _ ≤ Y - ks K0; omega)⟩ (fun r_7 T1 K1 H locs h hle1 hc1 hs1 hP hS => ?_)
          generalize T1 = T_8 at h hP
          generalize K1 = K_9 at h hP hle1 hc1 hs1
          have hk_n5 : kd K_9 (kz K) = 2 := hle1.kd hk_n5
          have hk_v_4 : kd K_9 v_4 = 3 := hle1.kd hk_v_4
          have hle0 := hle0.tr hle1
          have hcn : kc K0 + ((cn + 1) + (Z_10 - kc K_5)) = kc K_9 := by omega
          have hsn : ks K0 + ((sn + 3) + (Y_11 - ks K_5)) = ks K_9 := by omega
          have hzz : kc K_9 ≤ Z := by omega
          have hyy : ks K_9 ≤ Y := by omega
          obtain ⟨j_12, hj_12, ej_12, h⟩ := h
          obtain ⟨T_13, eT_13⟩ : ∃ z : XT, z = xwr T_8 v_4 j_12 (some (kz K)) := ⟨_, rfl⟩
          have h := h T_13 eT_13
          refine x_aast3 hx hb hK hP hS hk_v_4 hk_n5 ej_12 hj_12 dX1_desk_152 (fun H locs hP hS => ?_)
          rw [← eT_13] at hP
          exact J153 _ _ _ _ _ _ _ _ h hle0 hcn hsn hzz hyy hP hS (lv_sub hl [0, 1] rfl)
        · have h := h.2 c_21
          refine lv_aload_n hx hb dX1_desk_134 rfl (lv_at hl 0 rfl) ?_
          refine x_get (CC := RX1) (TT := TX1) (N := 26) (ci := 0) (v := .ref (b + 80)) hx hb hts in_X1 hown hK hP (xs_0 hP) (by decide) (by decide) rfl (xE_8 (xs_0 hP)) 17 (by decide) q403 rfl rfl dX1_desk_135 ?_
          refine lv_iload_n hx hb dX1_desk_138 rfl (lv_at hl 1 rfl) ?_
          obtain ⟨Z_17, Y_18, hz1, hz2, hy1, hy2, h⟩ := h
          refine x_cVN (host := "TermDesk") (k := 80) (As := [.int x2]) (rest := [.int x2, .ref (b + v_4)]) ⟨hx, hb, hml, hown, hts⟩ (mx4_poly l G b hole x2 K T Z_17 Y_18 hz1 hy1  _ h) ⟨va_cnB 1 hts (lw_meth q736) rfl rfl rfl (hV.1.2.1 _ _ _ _ q733) (hts _ q121) cwx_X4_poly.2 ⟨Nat.le_of_ble_eq_true rfl, Nat.le_of_ble_eq_true rfl⟩, hts _ q735, hts _ qs20⟩ (x_recv (CC := RX4) (ci := 3) hK hP (xs_80 hP) (by decide) (by decide) rfl (xE_11 (xs_80 hP))) hK hV hb0 hP hS rfl hl.1 rfl (Nat.le_of_ble_eq_true rfl) dX1_desk_139 ⟨by first | exact Nat.zero_le _ | (show _ + _ ≤ Z - kc K0; omega), by first | exact Nat.zero_le _ | (show _ + _ ≤ Y - ks K0; omega)⟩ (fun r_14 T1 K1 H locs h hle1 hc1 hs1 hP hS => ?_)
          obtain ⟨h, hk_r_14⟩ := h
          generalize T1 = T_15 at h hP
          generalize K1 = K_16 at h hP hle1 hc1 hs1 hk_r_14
          have hk_v_4 : kd K_16 v_4 = 3 := hle1.kd hk_v_4
          have hle0 := hle0.tr hle1
          have hcn : kc K0 + (cn + (Z_17 - kc K)) = kc K_16 := by omega
          have hsn : ks K0 + (sn + (Y_18 - ks K)) = ks K_16 := by omega
          have hzz : kc K_16 ≤ Z := by omega
          have hyy : ks K_16 ≤ Y := by omega
          refine lv_goto (tgt := 152) hx hb dX1_desk_142 (by decide) ?_
          obtain ⟨j_19, hj_19, ej_19, h⟩ := h
          obtain ⟨T_20, eT_20⟩ : ∃ z : XT, z = xwr T_15 v_4 j_19 (some r_14) := ⟨_, rfl⟩
          have h := h T_20 eT_20
          refine x_aast3 hx hb hK hP hS hk_v_4 hk_r_14 ej_19 hj_19 dX1_desk_152 (fun H locs hP hS => ?_)
          rw [← eT_20] at hP
          exact J153 _ _ _ _ _ _ _ _ h hle0 hcn hsn hzz hyy hP hS (lv_sub hl [0, 1] rfl)
  have hcn : kc K0 + 0 = kc K0 := rfl
  have hsn : ks K0 + 0 = ks K0 := rfl
  have hzz := hZ
  have hyy := hY
  unfold wx1_desk at h
  refine lv_aload_n hx hb dX1_desk_0 rfl (lv_at hl 0 rfl) ?_
  refine x_cV (k := 0) (As := []) (rest := []) ⟨hx, hb, hml, hown, hts⟩ (mx1_anew l G b hole  K0 T  _ h) (cwV 0 hts (lw_V q479 q481 qs2 q118 q482) rfl rfl rfl cwx_X1_anew ⟨Nat.le_of_ble_eq_true rfl, Nat.le_of_ble_eq_true rfl⟩) (x_recv (CC := RX1) (ci := 0) hK hP (xs_0 hP) (by decide) (by decide) rfl (xE_8 (xs_0 hP))) hK hV hb0 hP hS rfl hl.1 rfl (Nat.le_of_ble_eq_true rfl) dX1_desk_1 ⟨by first | exact Nat.zero_le _ | (show _ + _ ≤ Z - kc K0; omega), by first | exact Nat.zero_le _ | (show _ + _ ≤ Y - ks K0; omega)⟩ (fun r_23 T1 K1 H locs h hle1 hc1 hs1 hP hS => ?_)
  obtain ⟨h, hKe⟩ := h
  rw [hKe] at hP
  generalize T1 = T_24 at h hP
  refine lv_iload_n hx hb dX1_desk_4 rfl (lv_at hl 1 rfl) ?_
  refine lv_iconst (v := 0) hx hb dX1_desk_5 (by decide) ?_
  refine lv_aload_n hx hb dX1_desk_6 rfl (lv_at hl 0 rfl) ?_
  refine x_get (CC := RX1) (TT := TX1) (N := 26) (ci := 0) (v := .int (xi T_24 0 16)) hx hb hts in_X1 hown hK hP (xs_0 hP) (by decide) (by decide) rfl (xE_8 (xs_0 hP)) 16 (by decide) q402 rfl rfl dX1_desk_7 ?_
  refine x_cS (As := [.int p1, .int 0, .int (xi T_24 0 16)]) (rest := []) ⟨hx, hb, hml, hown, hts⟩ (mx1_in l G b hole p1 0 (xi T_24 0 16) K0 T_24  _ h) (va_cwS 3 hts (lw_S q483 q484 q118 q485) rfl rfl rfl cwx_X1_in ⟨Nat.le_of_ble_eq_true rfl, Nat.le_of_ble_eq_true rfl⟩) hK hV hb0 hP hS rfl hl.1 rfl (Nat.le_of_ble_eq_true rfl) dX1_desk_10 ⟨by first | exact Nat.zero_le _ | (show _ + _ ≤ Z - kc K0; omega), by first | exact Nat.zero_le _ | (show _ + _ ≤ Y - ks K0; omega)⟩ (fun r_26 T1 K1 H locs h hle1 hc1 hs1 hP hS => ?_)
  obtain ⟨h, hTe, hKe⟩ := h
  rw [hTe, hKe] at hP
  refine lv_if_ne (tgt := 22) hx hb dX1_desk_13 (by decide) (fun c_57 => ?_) (fun c_57 => ?_)
  · have h := h.1 c_57
    refine lv_aload_n hx hb dX1_desk_22 rfl (lv_at hl 0 rfl) ?_
    refine lv_iconst (v := 0) hx hb dX1_desk_23 (by decide) ?_
    obtain ⟨T_29, eT_29⟩ : ∃ z : XT, z = xwi T_24 0 16 0 := ⟨_, rfl⟩
    have h := h T_29 eT_29
    refine x_put (CC := RX1) (TT := TX1) (N := 26) (ci := 0) (T1 := T_29) (v := .int 0) (ty := .int) (fsf := fun T => fs8 (gem G) b T 0) hx hb hts in_X1 tyX1 tyX1_ok nmX1 hown hK hP hS (xs_0 hP) (by decide) (by decide) rfl (fun _ => xE_8 (xs_0 hP)) rfl 16 (by decide) q402 rfl (Or.inl rfl) rfl rfl rfl (by rw [eT_29]; exact fw8_16 _ b T_24 0 0) (by rw [eT_29]; exact fun q hq => xwi_i hq) (by rw [eT_29]; exact fun _ _ => rfl) (by rw [eT_29]; exact xwi_ty hP (by rw [(xs_0 hP)]; decide)) dX1_desk_24 (fun H locs hP hS => ?_)
    refine lv_aload_n hx hb dX1_desk_27 rfl (lv_at hl 0 rfl) ?_
    refine lv_iconst (v := 0) hx hb dX1_desk_28 (by decide) ?_
    obtain ⟨T_30, eT_30⟩ : ∃ z : XT, z = xwi T_29 0 24 0 := ⟨_, rfl⟩
    have h := h T_30 eT_30
    refine x_put (CC := RX1) (TT := TX1) (N := 26) (ci := 0) (T1 := T_30) (v := .int 0) (ty := .int) (fsf := fun T => fs8 (gem G) b T 0) hx hb hts in_X1 tyX1 tyX1_ok nmX1 hown hK hP hS (xs_0 hP) (by decide) (by decide) rfl (fun _ => xE_8 (xs_0 hP)) rfl 24 (by decide) q411 rfl (Or.inl rfl) rfl rfl rfl (by rw [eT_30]; exact fw8_24 _ b T_29 0 0) (by rw [eT_30]; exact fun q hq => xwi_i hq) (by rw [eT_30]; exact fun _ _ => rfl) (by rw [eT_30]; exact xwi_ty hP (by rw [(xs_0 hP)]; decide)) dX1_desk_29 (fun H locs hP hS => ?_)
    refine lv_aload_n hx hb dX1_desk_32 rfl (lv_at hl 0 rfl) ?_
    refine x_get (CC := RX1) (TT := TX1) (N := 26) (ci := 0) (v := .ref (b + 80)) hx hb hts in_X1 hown hK hP (xs_0 hP) (by decide) (by decide) rfl (xE_8 (xs_0 hP)) 17 (by decide) q403 rfl rfl dX1_desk_33 ?_
    refine lv_iload_n hx hb dX1_desk_36 rfl (lv_at hl 1 rfl) ?_
    obtain ⟨Z_34, Y_35, hz1, hz2, hy1, hy2, h⟩ := h
    refine x_cVX (k := 80) (As := [.int p1]) (rest := []) ⟨hx, hb, hml, hown, hts⟩ (mx4_read l G b hole p1 K0 T_30 Z_34 Y_35 hz1 hy1  _ _ h) (cwV 1 hts (lw_V q490 q491 q492 q121 q493) rfl rfl rfl cwx_X4_read ⟨Nat.le_of_ble_eq_true rfl, Nat.le_of_ble_eq_true rfl⟩) (x_recv (CC := RX4) (ci := 3) hK hP (xs_80 hP) (by decide) (by decide) rfl (xE_11 (xs_80 hP))) hK hV hb0 hP hS rfl hl.1 rfl (Nat.le_of_ble_eq_true rfl) dX1_desk_37 ⟨by first | exact Nat.zero_le _ | (show _ + _ ≤ Z - kc K0; omega), by first | exact Nat.zero_le _ | (show _ + _ ≤ Y - ks K0; omega)⟩ (fun r_31 T1 K1 H locs h hle1 hc1 hs1 hP hS => ?_) (fun T1 K1 H locs h hle1 hc1 hs1 hP hS => ?_)
    rotate_left
    · generalize T1 = T_36 at h hP
      generalize K1 = K_37 at h hP hle1 hc1 hs1
      have hle0 := hle0.tr hle1
      have hcn : kc K0 + (0 + (Z_34 - kc K0)) = kc K_37 := by omega
      have hsn : ks K0 + (0 + (Y_35 - ks K0)) = ks K_37 := by omega
      have hzz : kc K_37 ≤ Z := by omega
      have hyy : ks K_37 ≤ Y := by omega
      obtain ⟨ce9, hc91, hc92, hc93⟩ := x_wrong hK hP
      refine vx_catch (name := "TermDesk$Refused") (E := "TermDesk$Refused") hown [] _ [] (htab.trans rfl) (fun z hz => nomatch hz) (by decide) (by decide) (hts _ q478) (va_Nw.use rfl (hV.1.2.2 _ _ q223)) hc91 hc92 hc93 ?_
      refine lv_astore_n (lv' := [(2, .ref (b + 81)), (0, .ref (b + 0)), (1, .int p1)]) hx hb dX1_desk_43 rfl hl (by decide) rfl (fun ls hl => ?_)
      refine lv_aload_n hx hb dX1_desk_44 rfl (lv_at hl 1 rfl) ?_
      refine lv_aload_n hx hb dX1_desk_45 rfl (lv_at hl 0 rfl) ?_
      refine x_get (CC := RX5) (TT := TR5) (N := 2) (ci := 4) (v := .int (xi T_36 81 0)) hx hb hts in_R5 hown hK hP (xs_81 hP) (by decide) (by decide) rfl (xE_12 (xs_81 hP)) 0 (by decide) q274 rfl rfl dX1_desk_46 ?_
      obtain ⟨T_38, eT_38⟩ : ∃ z : XT, z = xwi T_36 0 24 (xi T_36 81 0) := ⟨_, rfl⟩
      have h := h T_38 eT_38
      refine x_put (CC := RX1) (TT := TX1) (N := 26) (ci := 0) (T1 := T_38) (v := .int (xi T_36 81 0)) (ty := .int) (fsf := fun T => fs8 (gem G) b T 0) hx hb hts in_X1 tyX1 tyX1_ok nmX1 hown hK hP hS (xs_0 hP) (by decide) (by decide) rfl (fun _ => xE_8 (xs_0 hP)) rfl 24 (by decide) q411 rfl (Or.inl rfl) rfl rfl rfl (by rw [eT_38]; exact fw8_24 _ b T_36 0 (xi T_36 81 0)) (by rw [eT_38]; exact fun q hq => xwi_i hq) (by rw [eT_38]; exact fun _ _ => rfl) (by rw [eT_38]; exact xwi_ty hP (by rw [(xs_0 hP)]; decide)) dX1_desk_49 (fun H locs hP hS => ?_)
      refine lv_aload_n hx hb dX1_desk_52 rfl (lv_at hl 1 rfl) ?_
      refine lv_aload_n hx hb dX1_desk_53 rfl (lv_at hl 0 rfl) ?_
      refine x_get (CC := RX5) (TT := TR5) (N := 2) (ci := 4) (v := .int (xi T_38 81 1)) hx hb hts in_R5 hown hK hP (xs_81 hP) (by decide) (by decide) rfl (xE_12 (xs_81 hP)) 1 (by decide) q276 rfl rfl dX1_desk_54 ?_
      obtain ⟨T_39, eT_39⟩ : ∃ z : XT, z = xwi T_38 0 25 (xi T_38 81 1) := ⟨_, rfl⟩
      have h := h T_39 eT_39
      refine x_put (CC := RX1) (TT := TX1) (N := 26) (ci := 0) (T1 := T_39) (v := .int (xi T_38 81 1)) (ty := .int) (fsf := fun T => fs8 (gem G) b T 0) hx hb hts in_X1 tyX1 tyX1_ok nmX1 hown hK hP hS (xs_0 hP) (by decide) (by decide) rfl (fun _ => xE_8 (xs_0 hP)) rfl 25 (by decide) q412 rfl (Or.inl rfl) rfl rfl rfl (by rw [eT_39]; exact fw8_25 _ b T_38 0 (xi T_38 81 1)) (by rw [eT_39]; exact fun q hq => xwi_i hq) (by rw [eT_39]; exact fun _ _ => rfl) (by rw [eT_39]; exact xwi_ty hP (by rw [(xs_0 hP)]; decide)) dX1_desk_57 (fun H locs hP hS => ?_)
      refine lv_aload_n hx hb dX1_desk_60 rfl (lv_at hl 1 rfl) ?_
      refine lv_iconst (v := 4) hx hb dX1_desk_61 (by decide) ?_
      refine x_cV (k := 0) (As := [.int 4]) (rest := []) ⟨hx, hb, hml, hown, hts⟩ (mx1_no l G b hole 4 K_37 T_39  _ h) (cwV 1 hts (lw_V q486 q488 qs3 q118 q489) rfl rfl rfl cwx_X1_no ⟨Nat.le_of_ble_eq_true rfl, Nat.le_of_ble_eq_true rfl⟩) (x_recv (CC := RX1) (ci := 0) hK hP (xs_0 hP) (by decide) (by decide) rfl (xE_8 (xs_0 hP))) hK hV hb0 hP hS rfl hl.1 rfl (Nat.le_of_ble_eq_true rfl) dX1_desk_62 ⟨by first | exact Nat.zero_le _ | (show _ + _ ≤ Z - kc K0; omega), by first | exact Nat.zero_le _ | (show _ + _ ≤ Y - ks K0; omega)⟩ (fun r_40 T1 K1 H locs h hle1 hc1 hs1 hP hS => ?_)
      obtain ⟨h, hKe⟩ := h
      rw [hKe] at hP
      generalize T1 = T_41 at h hP
      refine W.widen (k := Z - kc K0) (n := Y - ks K0) (by omega) (by omega) ?_
      exact W.iret (v := r_40) hx hb hr (fun t ht hW => ⟨⟨r_40, T_41, (kset K_37 Z Y), rfl, h, hle0, (by show Z = _; omega), (by show Y = _; omega), by rw [ht]; exact hP, va_K.moved hW.alike hK⟩, hS.F ht⟩) hS.2.2 dX1_desk_65
    generalize T1 = T_32 at h hP
    generalize K1 = K_33 at h hP hle1 hc1 hs1
    have hle0 := hle0.tr hle1
    have hcn : kc K0 + (0 + (Z_34 - kc K0)) = kc K_33 := by omega
    have hsn : ks K0 + (0 + (Y_35 - ks K0)) = ks K_33 := by omega
    have hzz : kc K_33 ≤ Z := by omega
    have hyy : ks K_33 ≤ Y := by omega
    refine lv_goto (tgt := 66) hx hb dX1_desk_40 (by decide) ?_
    refine lv_aload_n hx hb dX1_desk_66 rfl (lv_at hl 0 rfl) ?_
    refine lv_aload_n hx hb dX1_desk_67 rfl (lv_at hl 0 rfl) ?_
    refine x_get (CC := RX1) (TT := TX1) (N := 26) (ci := 0) (v := .ref (b + 80)) hx hb hts in_X1 hown hK hP (xs_0 hP) (by decide) (by decide) rfl (xE_8 (xs_0 hP)) 17 (by decide) q403 rfl rfl dX1_desk_68 ?_
    refine x_getN (CC := RX4) (TT := TX4) (N := 17) (ci := 3) (v := .int (xi T_32 80 11)) hx hb hts in_X4 hown hK hV.1 hP (xs_80 hP) (by decide) (by decide) rfl (xE_11 (xs_80 hP)) 11 (by decide) q308 rfl rfl dX1_desk_71 ?_
    obtain ⟨T_43, eT_43⟩ : ∃ z : XT, z = xwi T_32 0 0 (xi T_32 80 11) := ⟨_, rfl⟩
    have h := h T_43 eT_43
    refine x_put (CC := RX1) (TT := TX1) (N := 26) (ci := 0) (T1 := T_43) (v := .int (xi T_32 80 11)) (ty := .int) (fsf := fun T => fs8 (gem G) b T 0) hx hb hts in_X1 tyX1 tyX1_ok nmX1 hown hK hP hS (xs_0 hP) (by decide) (by decide) rfl (fun _ => xE_8 (xs_0 hP)) rfl 0 (by decide) q384 rfl (Or.inl rfl) rfl rfl rfl (by rw [eT_43]; exact fw8_0 _ b T_32 0 (xi T_32 80 11)) (by rw [eT_43]; exact fun q hq => xwi_i hq) (by rw [eT_43]; exact fun _ _ => rfl) (by rw [eT_43]; exact xwi_ty hP (by rw [(xs_0 hP)]; decide)) dX1_desk_74 (fun H locs hP hS => ?_)
    refine lv_aload_n hx hb dX1_desk_77 rfl (lv_at hl 0 rfl) ?_
    refine x_cV (k := 0) (As := []) (rest := []) ⟨hx, hb, hml, hown, hts⟩ (mx1_layInverses l G b hole  K_33 T_43  _ h) (cwV 0 hts (lw_V q707 q709 qs18 q118 q710) rfl rfl rfl cwx_X1_layInverses ⟨Nat.le_of_ble_eq_true rfl, Nat.le_of_ble_eq_true rfl⟩) (x_recv (CC := RX1) (ci := 0) hK hP (xs_0 hP) (by decide) (by decide) rfl (xE_8 (xs_0 hP))) hK hV hb0 hP hS rfl hl.1 rfl (Nat.le_of_ble_eq_true rfl) dX1_desk_78 ⟨by first | exact Nat.zero_le _ | (show _ + _ ≤ Z - kc K0; omega), by first | exact Nat.zero_le _ | (show _ + _ ≤ Y - ks K0; omega)⟩ (fun r_44 T1 K1 H locs h hle1 hc1 hs1 hP hS => ?_)
    obtain ⟨h, hKe⟩ := h
    rw [hKe] at hP
    generalize T1 = T_45 at h hP
    refine lv_aload_n hx hb dX1_desk_81 rfl (lv_at hl 0 rfl) ?_
    refine lv_aload_n hx hb dX1_desk_82 rfl (lv_at hl 0 rfl) ?_
    refine x_get (CC := RX1) (TT := TX1) (N := 26) (ci := 0) (v := .ref (b + 80)) hx hb hts in_X1 hown hK hP (xs_0 hP) (by decide) (by decide) rfl (xE_8 (xs_0 hP)) 17 (by decide) q403 rfl rfl dX1_desk_83 ?_
    refine x_getN (CC := RX4) (TT := TX4) (N := 17) (ci := 3) (v := .int (xi T_45 80 12)) hx hb hts in_X4 hown hK hV.1 hP (xs_80 hP) (by decide) (by decide) rfl (xE_11 (xs_80 hP)) 12 (by decide) q310 rfl rfl dX1_desk_86 ?_
    refine lv_aload_n hx hb dX1_desk_89 rfl (lv_at hl 0 rfl) ?_
    refine x_get (CC := RX1) (TT := TX1) (N := 26) (ci := 0) (v := .ref (b + 80)) hx hb hts in_X1 hown hK hP (xs_0 hP) (by decide) (by decide) rfl (xE_8 (xs_0 hP)) 17 (by decide) q403 rfl rfl dX1_desk_90 ?_
    refine x_getN (CC := RX4) (TT := TX4) (N := 17) (ci := 3) (v := .ref (b + 86)) hx hb hts in_X4 hown hK hV.1 hP (xs_80 hP) (by decide) (by decide) rfl (xE_11 (xs_80 hP)) 5 (by decide) q301 rfl rfl dX1_desk_93 ?_
    refine lv_iconst (v := 0) hx hb dX1_desk_96 (by decide) ?_
    obtain ⟨j_47, hj_47, ej_47, h⟩ := h
    refine x_iald hx hb hK hP (xs_86 hP) ej_47 (by rw [xl_86 hP]; exact hj_47) dX1_desk_97 ?_
    refine lv_aload_n hx hb dX1_desk_98 rfl (lv_at hl 0 rfl) ?_
    refine x_get (CC := RX1) (TT := TX1) (N := 26) (ci := 0) (v := .ref (b + 80)) hx hb hts in_X1 hown hK hP (xs_0 hP) (by decide) (by decide) rfl (xE_8 (xs_0 hP)) 17 (by decide) q403 rfl rfl dX1_desk_99 ?_
    refine x_getN (CC := RX4) (TT := TX4) (N := 17) (ci := 3) (v := .ref (b + 86)) hx hb hts in_X4 hown hK hV.1 hP (xs_80 hP) (by decide) (by decide) rfl (xE_11 (xs_80 hP)) 5 (by decide) q301 rfl rfl dX1_desk_102 ?_
    refine lv_iconst (v := 1) hx hb dX1_desk_105 (by decide) ?_
    obtain ⟨j_48, hj_48, ej_48, h⟩ := h
    refine x_iald hx hb hK hP (xs_86 hP) ej_48 (by rw [xl_86 hP]; exact hj_48) dX1_desk_106 ?_
    obtain ⟨Z_52, Y_53, hz1, hz2, hy1, hy2, h⟩ := h
    refine x_cV (k := 0) (As := [.int (xi T_45 80 12), .int (xi T_45 86 j_47), .int (xi T_45 86 j_48)]) (rest := []) ⟨hx, hb, hml, hown, hts⟩ (mx1_becomes l G b hole (xi T_45 80 12) (xi T_45 86 j_47) (xi T_45 86 j_48) K_33 T_45 Z_52 Y_53 hz1 hy1  _ h) (cwV 3 hts (lw_V q711 q713 qs19 q118 q714) rfl rfl rfl cwx_X1_becomes ⟨Nat.le_of_ble_eq_true rfl, Nat.le_of_ble_eq_true rfl⟩) (x_recv (CC := RX1) (ci := 0) hK hP (xs_0 hP) (by decide) (by decide) rfl (xE_8 (xs_0 hP))) hK hV hb0 hP hS rfl hl.1 rfl (Nat.le_of_ble_eq_true rfl) dX1_desk_107 ⟨by first | exact Nat.zero_le _ | (show _ + _ ≤ Z - kc K0; omega), by first | exact Nat.zero_le _ | (show _ + _ ≤ Y - ks K0; omega)⟩ (fun r_49 T1 K1 H locs h hle1 hc1 hs1 hP hS => ?_)
    generalize T1 = T_50 at h hP
    generalize K1 = K_51 at h hP hle1 hc1 hs1
    have hle0 := hle0.tr hle1
    have hcn : kc K0 + ((0 + (Z_34 - kc K0)) + (Z_52 - kc K_33)) = kc K_51 := by omega
    have hsn : ks K0 + ((0 + (Y_35 - ks K0)) + (Y_53 - ks K_33)) = ks K_51 := by omega
    have hzz : kc K_51 ≤ Z := by omega
    have hyy : ks K_51 ≤ Y := by omega
    refine lv_iconst (v := 0) hx hb dX1_desk_110 (by decide) ?_
    refine lv_istore_n (lv' := [(2, .int 0), (0, .ref (b + 0)), (1, .int p1)]) hx hb dX1_desk_111 rfl hl (by decide) rfl (fun ls hl => ?_)
    exact L112 _ _ _ _ _ _ _ _ h hle0 hcn hsn hzz hyy hP hS (lv_sub hl [1, 0] rfl)
  · have h := h.2 c_57
    refine lv_aload_n hx hb dX1_desk_16 rfl (lv_at hl 0 rfl) ?_
    refine lv_iconst (v := 2) hx hb dX1_desk_17 (by decide) ?_
    refine x_cV (k := 0) (As := [.int 2]) (rest := []) ⟨hx, hb, hml, hown, hts⟩ (mx1_no l G b hole 2 K0 T_24  _ h) (cwV 1 hts (lw_V q486 q488 qs3 q118 q489) rfl rfl rfl cwx_X1_no ⟨Nat.le_of_ble_eq_true rfl, Nat.le_of_ble_eq_true rfl⟩) (x_recv (CC := RX1) (ci := 0) hK hP (xs_0 hP) (by decide) (by decide) rfl (xE_8 (xs_0 hP))) hK hV hb0 hP hS rfl hl.1 rfl (Nat.le_of_ble_eq_true rfl) dX1_desk_18 ⟨by first | exact Nat.zero_le _ | (show _ + _ ≤ Z - kc K0; omega), by first | exact Nat.zero_le _ | (show _ + _ ≤ Y - ks K0; omega)⟩ (fun r_54 T1 K1 H locs h hle1 hc1 hs1 hP hS => ?_)
    obtain ⟨h, hKe⟩ := h
    rw [hKe] at hP
    generalize T1 = T_55 at h hP
    refine W.widen (k := Z - kc K0) (n := Y - ks K0) (by omega) (by omega) ?_
    exact W.iret (v := r_54) hx hb hr (fun t ht hW => ⟨⟨r_54, T_55, (kset K0 Z Y), rfl, h, hle0, (by show Z = _; omega), (by show Y = _; omega), by rw [ht]; exact hP, va_K.moved hW.alike hK⟩, hS.F ht⟩) hS.2.2 dX1_desk_21
