set_option maxRecDepth 100000
theorem cwx_X5_at : yX5_at.cls = RX5 ∧ yX5_at.cls ≠ "java/lang/invoke/MethodHandle" ∧ yX5_at.cls ≠ "java/lang/invoke/VarHandle" ∧ (parseMethodDescriptor yX5_at.desc).map (fun d => d.parameters.length) = some 2 := by decide +kernel
def wx5_at (p1 : Int32) (p2 : Int32) (K : XK) (T : XT) (post : Nat → XT → Prop) : Prop :=
  ∀ T_1 : XT, T_1 = xwi T 81 0 p1 →
  ∀ T_2 : XT, T_2 = xwi T_1 81 1 p2 →
  post 81 T_2
set_option maxHeartbeats 4000000 in
theorem mx5_at (l : Launch) (G : XG) (b : Nat) (hole : Nat → Prop) (p1 : Int32) (p2 : Int32) (K : XK) (T : XT)  (post : Nat → XT → Prop) (h : wx5_at p1 p2 K T post) : Met l yX5_at (ws_ yX5_at cX5_at 3 (some (.object "TermDesk$Refused"))) ({ frames := 0, cells := 0, slots := 0, locals := 0 } : Room) (xPc G b hole [.ref (b + 81), .int p1, .int p2] K T) (xQ G b hole K 0 0 (ρ := Nat) (eR b) (fun r T1 K1 => post r T1 ∧ kd K1 r = 12 ∧ K1 = K)) 0 0 (xA b hole) := by
  refine Met.ofW (cc := cX5_at) (maxL := 3) (ret := (some (.object "TermDesk$Refused"))) (by decide) rfl ?_
  intro p e s m args below meth c s₁ B hml hv
  obtain ⟨rfl, hP, hK, hV⟩ := hv
  have hx := B.exec
  have hb := B.bytes
  have hr := B.returns
  have hts := atoms_spec (ws := ws_ yX5_at cX5_at 3 (some (.object "TermDesk$Refused"))) B.pre
  have hts : ∀ w ∈ lw_all, w.before _ s = true := fun w h => hts w (List.mem_cons_of_mem _ h)
  have hown : s.vm.findClass RX5 = some m.cls := findClass_of_methodNamed B.named
  have hlocks := B.notSynchronized
  have hb0 : b ≤ s.heap.size := by rw [hP.2.2.2]; exact Nat.le_add_right _ _
  have hS : va_S (xA b hole) s.heap s.heap [] := va_S.rf
  have hl := lv_entry ([.ref (b + 81), .int p1, .int p2]) (n := 3) (Nat.le_of_ble_eq_true rfl)
  rw [lg_entry_eq]
  generalize (lg_sl ([.ref (b + 81), .int p1, .int p2]) ++ List.replicate (3 - (lg_sl ([.ref (b + 81), .int p1, .int p2])).length) Slot.unset).toArray = ls at hl ⊢
  have hl : lv_has ls 3 [(0, .ref (b + 81)), (1, .int p1), (2, .int p2)] := hl
  unfold wx5_at at h
  refine lv_aload_n hx hb dX5_at_0 rfl (lv_at hl 0 rfl) ?_
  refine lv_iload_n hx hb dX5_at_1 rfl (lv_at hl 1 rfl) ?_
  obtain ⟨T_1, eT_1⟩ : ∃ z : XT, z = xwi T 81 0 p1 := ⟨_, rfl⟩
  have h := h T_1 eT_1
  refine x_put (CC := RX5) (TT := TR5) (N := 2) (ci := 4) (T1 := T_1) (v := .int p1) (ty := .int) (fsf := fun T => fs12 (gem G) b T 81) hx hb hts in_R5 (fun _ => .int) tyR5_ok nmR5 hown hK hP hS (xs_81 hP) (by decide) (by decide) rfl (fun _ => xE_12 (xs_81 hP)) rfl 0 (by decide) q273 rfl (Or.inl rfl) rfl rfl rfl (by rw [eT_1]; exact fw12_0 _ b T 81 p1) (by rw [eT_1]; exact fun q hq => xwi_i hq) (by rw [eT_1]; exact fun _ _ => rfl) (by rw [eT_1]; exact xwi_ty hP (by rw [(xs_81 hP)]; decide)) dX5_at_2 (fun H locs hP hS => ?_)
  refine lv_aload_n hx hb dX5_at_5 rfl (lv_at hl 0 rfl) ?_
  refine lv_iload_n hx hb dX5_at_6 rfl (lv_at hl 2 rfl) ?_
  obtain ⟨T_2, eT_2⟩ : ∃ z : XT, z = xwi T_1 81 1 p2 := ⟨_, rfl⟩
  have h := h T_2 eT_2
  refine x_put (CC := RX5) (TT := TR5) (N := 2) (ci := 4) (T1 := T_2) (v := .int p2) (ty := .int) (fsf := fun T => fs12 (gem G) b T 81) hx hb hts in_R5 (fun _ => .int) tyR5_ok nmR5 hown hK hP hS (xs_81 hP) (by decide) (by decide) rfl (fun _ => xE_12 (xs_81 hP)) rfl 1 (by decide) q275 rfl (Or.inl rfl) rfl rfl rfl (by rw [eT_2]; exact fw12_1 _ b T_1 81 p2) (by rw [eT_2]; exact fun q hq => xwi_i hq) (by rw [eT_2]; exact fun _ _ => rfl) (by rw [eT_2]; exact xwi_ty hP (by rw [(xs_81 hP)]; decide)) dX5_at_7 (fun H locs hP hS => ?_)
  refine lv_aload_n hx hb dX5_at_10 rfl (lv_at hl 0 rfl) ?_
  exact W.aret (v := .ref (b + 81)) hx hb hr (Or.inl ⟨_, rfl⟩) (Or.inr ⟨_, rfl⟩) (fun t ht hW => ⟨⟨81, T_2, K, rfl, ⟨h, (xs_81 hP), rfl⟩, kle.rf, rfl, rfl, by rw [ht]; exact hP, va_K.moved hW.alike hK⟩, hS.F ht⟩) hS.2.2 dX5_at_11
theorem cwx_X4_fail : yX4_fail.cls = RX4 ∧ yX4_fail.cls ≠ "java/lang/invoke/MethodHandle" ∧ yX4_fail.cls ≠ "java/lang/invoke/VarHandle" ∧ (parseMethodDescriptor yX4_fail.desc).map (fun d => d.parameters.length) = some 1 := by decide +kernel
def wx4_fail (p1 : Int32) (K : XK) (T : XT) (post : Nat → XT → Prop) : Prop :=
  wx5_at p1 (xi T 80 9) K T (fun r_1 T_2 =>
  post r_1 T_2)
set_option maxHeartbeats 4000000 in
theorem mx4_fail (l : Launch) (G : XG) (b : Nat) (hole : Nat → Prop) (p1 : Int32) (K : XK) (T : XT)  (post : Nat → XT → Prop) (h : wx4_fail p1 K T post) : Met l yX4_fail (ws_ yX4_fail cX4_fail 2 (some (.object "TermDesk$Refused"))) ({ frames := 1, cells := 0, slots := 0, locals := 22 } : Room) (xPc G b hole [.ref (b + 80), .int p1] K T) (xQ G b hole K 0 0 (ρ := Nat) (eR b) (fun r T1 K1 => post r T1 ∧ kd K1 r = 12 ∧ K1 = K)) 0 0 (xA b hole) := by
  refine Met.ofW (cc := cX4_fail) (maxL := 2) (ret := (some (.object "TermDesk$Refused"))) (by decide) rfl ?_
  intro p e s m args below meth c s₁ B hml hv
  obtain ⟨rfl, hP, hK, hV⟩ := hv
  have hx := B.exec
  have hb := B.bytes
  have hr := B.returns
  have hts := atoms_spec (ws := ws_ yX4_fail cX4_fail 2 (some (.object "TermDesk$Refused"))) B.pre
  have hts : ∀ w ∈ lw_all, w.before _ s = true := fun w h => hts w (List.mem_cons_of_mem _ h)
  have hown : s.vm.findClass RX4 = some m.cls := findClass_of_methodNamed B.named
  have hlocks := B.notSynchronized
  have hb0 : b ≤ s.heap.size := by rw [hP.2.2.2]; exact Nat.le_add_right _ _
  have hS : va_S (xA b hole) s.heap s.heap [] := va_S.rf
  have hl := lv_entry ([.ref (b + 80), .int p1]) (n := 2) (Nat.le_of_ble_eq_true rfl)
  rw [lg_entry_eq]
  generalize (lg_sl ([.ref (b + 80), .int p1]) ++ List.replicate (2 - (lg_sl ([.ref (b + 80), .int p1])).length) Slot.unset).toArray = ls at hl ⊢
  have hl : lv_has ls 2 [(0, .ref (b + 80)), (1, .int p1)] := hl
  unfold wx4_fail at h
  refine lv_aload_n hx hb dX4_fail_0 rfl (lv_at hl 0 rfl) ?_
  refine x_get (CC := RX4) (TT := TX4) (N := 17) (ci := 3) (v := .ref (b + 81)) hx hb hts in_X4 hown hK hP (xs_80 hP) (by decide) (by decide) rfl (xE_11 (xs_80 hP)) 0 (by decide) q295 rfl rfl dX4_fail_1 ?_
  refine lv_iload_n hx hb dX4_fail_4 rfl (lv_at hl 1 rfl) ?_
  refine lv_aload_n hx hb dX4_fail_5 rfl (lv_at hl 0 rfl) ?_
  refine x_get (CC := RX4) (TT := TX4) (N := 17) (ci := 3) (v := .int (xi T 80 9)) hx hb hts in_X4 hown hK hP (xs_80 hP) (by decide) (by decide) rfl (xE_11 (xs_80 hP)) 9 (by decide) q305 rfl rfl dX4_fail_6 ?_
  refine x_cV (k := 81) (As := [.int p1, .int (xi T 80 9)]) (rest := []) ⟨hx, hb, hml, hown, hts⟩ (mx5_at l G b hole p1 (xi T 80 9) K T  _ h) (cwV 2 hts (lw_V q602 q603 q604 q125 q605) rfl rfl rfl cwx_X5_at ⟨Nat.le_of_ble_eq_true rfl, Nat.le_of_ble_eq_true rfl⟩) (x_recv (CC := RX5) (ci := 4) hK hP (xs_81 hP) (by decide) (by decide) rfl (xE_12 (xs_81 hP))) hK hV hb0 hP hS rfl hl.1 rfl (Nat.le_of_ble_eq_true rfl) dX4_fail_9 ⟨by first | exact Nat.zero_le _ | (show _ + _ ≤ Z - kc K0; omega), by first | exact Nat.zero_le _ | (show _ + _ ≤ Y - ks K0; omega)⟩ (fun r_1 T1 K1 H locs h hle1 hc1 hs1 hP hS => ?_)
  obtain ⟨h, hk_r_1, hKe⟩ := h
  rw [hKe] at hP
  generalize T1 = T_2 at h hP
  rw [hKe] at hk_r_1
  exact W.aret (v := .ref (b + r_1)) hx hb hr (Or.inl ⟨_, rfl⟩) (Or.inr ⟨_, rfl⟩) (fun t ht hW => ⟨⟨r_1, T_2, K, rfl, ⟨h, hk_r_1, rfl⟩, kle.rf, rfl, rfl, by rw [ht]; exact hP, va_K.moved hW.alike hK⟩, hS.F ht⟩) hS.2.2 dX4_fail_12
theorem cwx_X4_poly : yX4_poly.cls = RX4 ∧ yX4_poly.cls ≠ "java/lang/invoke/MethodHandle" ∧ yX4_poly.cls ≠ "java/lang/invoke/VarHandle" ∧ (parseMethodDescriptor yX4_poly.desc).map (fun d => d.parameters.length) = some 1 := by decide +kernel
def wx4_poly_b13 (p1 : Int32) (Z Y : Nat) (post : Nat → XT → XK → Prop) (R13 : Int32 → XT → Prop) (x2 : Nat) (x3 : Int32) (K : XK) (T : XT) : Prop :=
      ∃ j_1 : Nat, j_1 < 6 ∧ p1 = nI j_1 ∧
      ((((12 * p1) + (xi T 85 j_1)) ≤ x3 →
        ∃ Z_5 Y_6 : Nat, kc K ≤ Z_5 ∧ Z_5 ≤ Z ∧ ks K ≤ Y_6 ∧ Y_6 ≤ Y ∧ wx1_sorted x2 K T Z_5 Y_6 (fun r_2 T_3 K_4 =>
        post r_2 T_3 (kset K_4 Z Y))) ∧
       (¬ (((12 * p1) + (xi T 85 j_1)) ≤ x3) →
        ∃ j_7 : Nat, j_7 < 72 ∧ x3 = nI j_7 ∧
        ∃ j_8 : Nat, j_8 < 72 ∧ x3 = nI j_8 ∧
        ∃ j_9 : Nat, j_9 < kl K x2 ∧ (xi T 83 j_8) = nI j_9 ∧
        ∃ j_10 : Nat, j_10 < 72 ∧ x3 = nI j_10 ∧
        wx1_reduced ((xi T x2 j_9) + (xi T 84 j_10)) K T (fun r_11 =>
        ∃ j_14 : Nat, j_14 < kl K x2 ∧ (xi T 83 j_7) = nI j_14 ∧ ∀ T_15 : XT, T_15 = xwi T x2 j_14 r_11 →
        ∀ x3_16 : Int32, x3_16 = x3 + 1 →
        R13 x3_16 T_15)))
def wx4_poly_l13 (p1 : Int32) (Z Y : Nat) (post : Nat → XT → XK → Prop) (x2 : Nat) (x3 : Int32) (K : XK) (T : XT) : Prop := wLoop (fun (R : ((Int32) × (XT)) → Prop) (v : (Int32) × (XT)) => wx4_poly_b13 p1 Z Y post (fun x3 T => R (x3, T)) x2 v.1 K v.2) (x3, T)
def wx4_poly (p1 : Int32) (K0 : XK) (T : XT) (Z Y : Nat) (post : Nat → XT → XK → Prop) : Prop :=
  wx1_blank  K0 T (fun r_18 T_19 =>
  ∀ x3_21 : Int32, x3_21 = (12 * p1) →
  wx4_poly_l13 p1 Z Y post r_18 x3_21 K0 T_19)
set_option maxHeartbeats 4000000 in
theorem mx4_poly (l : Launch) (G : XG) (b : Nat) (hole : Nat → Prop) (p1 : Int32) (K0 : XK) (T : XT) (Z Y : Nat) (hZ : kc K0 ≤ Z) (hY : ks K0 ≤ Y)  (post : Nat → XT → XK → Prop) (h : wx4_poly p1 K0 T Z Y post) : Met l yX4_poly (ws_ yX4_poly cX4_poly 4 (some (.object "TermDesk$Poly"))) ({ frames := 5, cells := (Z - kc K0), slots := (Y - ks K0), locals := 115 } : Room) (xPc G b hole [.ref (b + 80), .int p1] K0 T) (xQ G b hole K0 (Z - kc K0) (Y - ks K0) (ρ := Nat) (eR b) (fun r T1 K1 => post r T1 K1 ∧ kd K1 r = 2)) (Z - kc K0) (Y - ks K0) (xA b hole) := by
  refine Met.ofW (cc := cX4_poly) (maxL := 4) (ret := (some (.object "TermDesk$Poly"))) (by decide) rfl ?_
  intro p e s m args below meth c s₁ B hml hv
  obtain ⟨rfl, hP, hK, hV⟩ := hv
  have hx := B.exec
  have hb := B.bytes
  have hr := B.returns
  have hts := atoms_spec (ws := ws_ yX4_poly cX4_poly 4 (some (.object "TermDesk$Poly"))) B.pre
  have hts : ∀ w ∈ lw_all, w.before _ s = true := fun w h => hts w (List.mem_cons_of_mem _ h)
  have hown : s.vm.findClass RX4 = some m.cls := findClass_of_methodNamed B.named
  have hlocks := B.notSynchronized
  have hb0 : b ≤ s.heap.size := by rw [hP.2.2.2]; exact Nat.le_add_right _ _
  have hS : va_S (xA b hole) s.heap s.heap [] := va_S.rf
  have hl := lv_entry ([.ref (b + 80), .int p1]) (n := 4) (Nat.le_of_ble_eq_true rfl)
  rw [lg_entry_eq]
  generalize (lg_sl ([.ref (b + 80), .int p1]) ++ List.replicate (4 - (lg_sl ([.ref (b + 80), .int p1])).length) Slot.unset).toArray = ls at hl ⊢
  have hl : lv_has ls 4 [(0, .ref (b + 80)), (1, .int p1)] := hl
  have hle0 : kle K0 K0 := kle.rf
  have L13 : ∀ (x2 : Nat) (x3 : Int32) (T : XT) (K : XK) (cn sn : Nat) (H : Heap) (locs : List Loc) (ls : Array Slot), wx4_poly_l13 p1 Z Y post x2 x3 K T → kle K0 K → kc K0 + cn = kc K → ks K0 + sn = ks K → kc K ≤ Z → ks K ≤ Y → (kd K x2 = 1) → xW G b hole K T H → va_S (xA b hole) s.heap H locs → lv_has ls 4 [(0, .ref (b + 80)), (1, .int p1), (2, .ref (b + x2)), (3, .int x3)] → W p l e (headSpec (ws_ yX4_poly cX4_poly 4 (some (.object "TermDesk$Poly"))) ({ frames := 5, cells := (Z - kc K0), slots := (Y - ks K0), locals := 115 } : Room)).room s m ([.ref (b + 80), .int p1] : List Value).toArray below meth c H locs cn sn (MQ below (xQ G b hole K0 (Z - kc K0) (Y - ks K0) (ρ := Nat) (eR b) (fun r T1 K1 => post r T1 K1 ∧ kd K1 r = 2)) ([.ref (b + 80), .int p1] : List Value).toArray s (Z - kc K0) (Y - ks K0) (xA b hole)) (F0 m 13 ls []) := by
    intro x2 x3 T K cn sn H locs ls h hle0 hcn hsn hzz hyy hk_x2 hP hS hl
    obtain ⟨I13, n13, hI, hstep13⟩ := h
    induction n13 using Nat.strongRecOn generalizing x3 T H locs ls with
    | ind n13 ih13 =>
      have h : wx4_poly_b13 p1 Z Y post (fun x3 T => ∃ mm, mm < n13 ∧ I13 mm (x3, T)) x2 x3 K T := hstep13 n13 _ hI
      clear hI
      unfold wx4_poly_b13 at h
      refine lv_iload_n hx hb dX4_poly_13 rfl (lv_at hl 3 rfl) ?_
      refine lv_bipush (v := 12) hx hb dX4_poly_14 (by decide) ?_
      refine lv_iload_n hx hb dX4_poly_16 rfl (lv_at hl 1 rfl) ?_
      refine lv_imul hx hb dX4_poly_17 ?_
      refine lv_aload_n hx hb dX4_poly_18 rfl (lv_at hl 0 rfl) ?_
      refine x_get (CC := RX4) (TT := TX4) (N := 17) (ci := 3) (v := .ref (b + 85)) hx hb hts in_X4 hown hK hP (xs_80 hP) (by decide) (by decide) rfl (xE_11 (xs_80 hP)) 4 (by decide) q299 rfl rfl dX4_poly_19 ?_
      refine lv_iload_n hx hb dX4_poly_22 rfl (lv_at hl 1 rfl) ?_
      obtain ⟨j_1, hj_1, ej_1, h⟩ := h
      refine x_iald hx hb hK hP (xs_85 hP) ej_1 (by rw [xl_85 hP]; exact hj_1) dX4_poly_23 ?_
      refine lv_iadd hx hb dX4_poly_24 ?_
      refine lv_icmp_ge (tgt := 64) hx hb dX4_poly_25 (by decide) (fun c_17 => ?_) (fun c_17 => ?_)
      · have h := h.1 c_17
        refine lv_aload_n hx hb dX4_poly_64 rfl (lv_at hl 0 rfl) ?_
        refine x_get (CC := RX4) (TT := TX4) (N := 17) (ci := 3) (v := .ref (b + 0)) hx hb hts in_X4 hown hK hP (xs_80 hP) (by decide) (by decide) rfl (xE_11 (xs_80 hP)) 16 (by decide) q315 rfl rfl dX4_poly_65 ?_
        refine lv_aload_n hx hb dX4_poly_68 rfl (lv_at hl 2 rfl) ?_
        obtain ⟨Z_5, Y_6, hz1, hz2, hy1, hy2, h⟩ := h
        refine x_cVN (host := "TermDesk") (k := 0) (As := [.ref (b + x2)]) (rest := []) ⟨hx, hb, hml, hown, hts⟩ (mx1_sorted l G b hole x2 K T Z_5 Y_6 hz1 hy1 hk_x2 _ h) ⟨va_cnB 1 hts (lw_meth q751) rfl rfl rfl (hV.1.2.1 _ _ _ _ q748) (hts _ q118) cwx_X1_sorted.2 ⟨Nat.le_of_ble_eq_true rfl, Nat.le_of_ble_eq_true rfl⟩, hts _ q750, hts _ qs23⟩ (x_recv (CC := RX1) (ci := 0) hK hP (xs_0 hP) (by decide) (by decide) rfl (xE_8 (xs_0 hP))) hK hV hb0 hP hS rfl hl.1 rfl (Nat.le_of_ble_eq_true rfl) dX4_poly_69 ⟨by first | exact Nat.zero_le _ | (show _ + _ ≤ Z - kc K0; omega), by first | exact Nat.zero_le _ | (show _ + _ ≤ Y - ks K0; omega)⟩ (fun r_2 T1 K1 H locs h hle1 hc1 hs1 hP hS => ?_)
        obtain ⟨h, hk_r_2⟩ := h
        generalize T1 = T_3 at h hP
        generalize K1 = K_4 at h hP hle1 hc1 hs1 hk_r_2
        have hk_x2 : kd K_4 x2 = 1 := hle1.kd hk_x2
        have hle0 := hle0.tr hle1
        have hcn : kc K0 + (cn + (Z_5 - kc K)) = kc K_4 := by omega
        have hsn : ks K0 + (sn + (Y_6 - ks K)) = ks K_4 := by omega
        have hzz : kc K_4 ≤ Z := by omega
        have hyy : ks K_4 ≤ Y := by omega
        refine W.widen (k := Z - kc K0) (n := Y - ks K0) (by omega) (by omega) ?_
        exact W.aret (v := .ref (b + r_2)) hx hb hr (Or.inl ⟨_, rfl⟩) (Or.inr ⟨_, rfl⟩) (fun t ht hW => ⟨⟨r_2, T_3, (kset K_4 Z Y), rfl, ⟨h, hk_r_2⟩, hle0, (by show Z = _; omega), (by show Y = _; omega), by rw [ht]; exact hP, va_K.moved hW.alike hK⟩, hS.F ht⟩) hS.2.2 dX4_poly_72
      · have h := h.2 c_17
        refine lv_aload_n hx hb dX4_poly_28 rfl (lv_at hl 2 rfl) ?_
        refine lv_aload_n hx hb dX4_poly_29 rfl (lv_at hl 0 rfl) ?_
        refine x_get (CC := RX4) (TT := TX4) (N := 17) (ci := 3) (v := .ref (b + 83)) hx hb hts in_X4 hown hK hP (xs_80 hP) (by decide) (by decide) rfl (xE_11 (xs_80 hP)) 2 (by decide) q297 rfl rfl dX4_poly_30 ?_
        refine lv_iload_n hx hb dX4_poly_33 rfl (lv_at hl 3 rfl) ?_
        obtain ⟨j_7, hj_7, ej_7, h⟩ := h
        refine x_iald hx hb hK hP (xs_83 hP) ej_7 (by rw [xl_83 hP]; exact hj_7) dX4_poly_34 ?_
        refine lv_aload_n hx hb dX4_poly_35 rfl (lv_at hl 0 rfl) ?_
        refine x_get (CC := RX4) (TT := TX4) (N := 17) (ci := 3) (v := .ref (b + 0)) hx hb hts in_X4 hown hK hP (xs_80 hP) (by decide) (by decide) rfl (xE_11 (xs_80 hP)) 16 (by decide) q315 rfl rfl dX4_poly_36 ?_
        refine lv_aload_n hx hb dX4_poly_39 rfl (lv_at hl 2 rfl) ?_
        refine lv_aload_n hx hb dX4_poly_40 rfl (lv_at hl 0 rfl) ?_
        refine x_get (CC := RX4) (TT := TX4) (N := 17) (ci := 3) (v := .ref (b + 83)) hx hb hts in_X4 hown hK hP (xs_80 hP) (by decide) (by decide) rfl (xE_11 (xs_80 hP)) 2 (by decide) q297 rfl rfl dX4_poly_41 ?_
        refine lv_iload_n hx hb dX4_poly_44 rfl (lv_at hl 3 rfl) ?_
        obtain ⟨j_8, hj_8, ej_8, h⟩ := h
        refine x_iald hx hb hK hP (xs_83 hP) ej_8 (by rw [xl_83 hP]; exact hj_8) dX4_poly_45 ?_
        obtain ⟨j_9, hj_9, ej_9, h⟩ := h
        refine x_iald hx hb hK hP hk_x2 ej_9 hj_9 dX4_poly_46 ?_
        refine lv_aload_n hx hb dX4_poly_47 rfl (lv_at hl 0 rfl) ?_
        refine x_get (CC := RX4) (TT := TX4) (N := 17) (ci := 3) (v := .ref (b + 84)) hx hb hts in_X4 hown hK hP (xs_80 hP) (by decide) (by decide) rfl (xE_11 (xs_80 hP)) 3 (by decide) q298 rfl rfl dX4_poly_48 ?_
        refine lv_iload_n hx hb dX4_poly_51 rfl (lv_at hl 3 rfl) ?_
        obtain ⟨j_10, hj_10, ej_10, h⟩ := h
        refine x_iald hx hb hK hP (xs_84 hP) ej_10 (by rw [xl_84 hP]; exact hj_10) dX4_poly_52 ?_
        refine lv_iadd hx hb dX4_poly_53 ?_
        refine x_cVN (host := "TermDesk") (k := 0) (As := [.int ((xi T x2 j_9) + (xi T 84 j_10))]) (rest := [.int (xi T 83 j_7), .ref (b + x2)]) ⟨hx, hb, hml, hown, hts⟩ (mx1_reduced l G b hole ((xi T x2 j_9) + (xi T 84 j_10)) K T  _ h) ⟨va_cnB 1 hts (lw_meth q747) rfl rfl rfl (hV.1.2.1 _ _ _ _ q744) (hts _ q118) cwx_X1_reduced.2 ⟨Nat.le_of_ble_eq_true rfl, Nat.le_of_ble_eq_true rfl⟩, hts _ q746, hts _ qs22⟩ (x_recv (CC := RX1) (ci := 0) hK hP (xs_0 hP) (by decide) (by decide) rfl (xE_8 (xs_0 hP))) hK hV hb0 hP hS rfl hl.1 rfl (Nat.le_of_ble_eq_true rfl) dX4_poly_54 ⟨by first | exact Nat.zero_le _ | (show _ + _ ≤ Z - kc K0; omega), by first | exact Nat.zero_le _ | (show _ + _ ≤ Y - ks K0; omega)⟩ (fun r_11 T1 K1 H locs h hle1 hc1 hs1 hP hS => ?_)
        obtain ⟨h, hTe, hKe⟩ := h
        rw [hTe, hKe] at hP
        obtain ⟨j_14, hj_14, ej_14, h⟩ := h
        obtain ⟨T_15, eT_15⟩ : ∃ z : XT, z = xwi T x2 j_14 r_11 := ⟨_, rfl⟩
        have h := h T_15 eT_15
        refine x_iast hx hb hK hP hS hk_x2 ej_14 hj_14 dX4_poly_57 (fun H locs hP hS => ?_)
        rw [← eT_15] at hP
        obtain ⟨x3_16, ex3_16⟩ : ∃ y : Int32, y = x3 + 1 := ⟨_, rfl⟩
        have h := h x3_16 ex3_16
        refine lv_iinc (v := x3_16) (lv' := [(3, .int x3_16), (0, .ref (b + 80)), (1, .int p1), (2, .ref (b + x2))]) hx hb dX4_poly_58 hl (k := 3) rfl (by rw [ex3_16]; rfl) (by decide) rfl (fun ls hl => ?_)
        refine lv_goto (tgt := 13) hx hb dX4_poly_61 (by decide) ?_
        obtain ⟨mm, hmm, h⟩ := h
        exact ih13 mm hmm _ _ _ _ _  hP hS (lv_sub hl [1, 2, 3, 0] rfl) h
  have hcn : kc K0 + 0 = kc K0 := rfl
  have hsn : ks K0 + 0 = ks K0 := rfl
  have hzz := hZ
  have hyy := hY
  unfold wx4_poly at h
  refine lv_aload_n hx hb dX4_poly_0 rfl (lv_at hl 0 rfl) ?_
  refine x_get (CC := RX4) (TT := TX4) (N := 17) (ci := 3) (v := .ref (b + 0)) hx hb hts in_X4 hown hK hP (xs_80 hP) (by decide) (by decide) rfl (xE_11 (xs_80 hP)) 16 (by decide) q315 rfl rfl dX4_poly_1 ?_
  refine x_cVN (host := "TermDesk") (k := 0) (As := []) (rest := []) ⟨hx, hb, hml, hown, hts⟩ (mx1_blank l G b hole  K0 T  _ h) ⟨va_cnB 0 hts (lw_meth q740) rfl rfl rfl (hV.1.2.1 _ _ _ _ q737) (hts _ q118) cwx_X1_blank.2 ⟨Nat.le_of_ble_eq_true rfl, Nat.le_of_ble_eq_true rfl⟩, hts _ q739, hts _ qs21⟩ (x_recv (CC := RX1) (ci := 0) hK hP (xs_0 hP) (by decide) (by decide) rfl (xE_8 (xs_0 hP))) hK hV hb0 hP hS rfl hl.1 rfl (Nat.le_of_ble_eq_true rfl) dX4_poly_4 ⟨by first | exact Nat.zero_le _ | (show _ + _ ≤ Z - kc K0; omega), by first | exact Nat.zero_le _ | (show _ + _ ≤ Y - ks K0; omega)⟩ (fun r_18 T1 K1 H locs h hle1 hc1 hs1 hP hS => ?_)
  obtain ⟨h, hk_r_18, hKe⟩ := h
  rw [hKe] at hP
  generalize T1 = T_19 at h hP
  rw [hKe] at hk_r_18
  refine lv_astore_n (lv' := [(2, .ref (b + r_18)), (0, .ref (b + 80)), (1, .int p1)]) hx hb dX4_poly_7 rfl hl (by decide) rfl (fun ls hl => ?_)
  refine lv_bipush (v := 12) hx hb dX4_poly_8 (by decide) ?_
  refine lv_iload_n hx hb dX4_poly_10 rfl (lv_at hl 2 rfl) ?_
  refine lv_imul hx hb dX4_poly_11 ?_
  refine lv_topi (fun x3_21 ex3_21 => ?_)
  have h := h x3_21 ex3_21
  refine lv_istore_n (lv' := [(3, .int x3_21), (2, .ref (b + r_18)), (0, .ref (b + 80)), (1, .int p1)]) hx hb dX4_poly_12 rfl hl (by decide) rfl (fun ls hl => ?_)
  exact L13 _ _ _ _ _ _ _ _ _ h hle0 hcn hsn hzz hyy hk_r_18 hP hS (lv_sub hl [2, 3, 1, 0] rfl)
