set_option maxRecDepth 100000
theorem cwx_X1_bytes : yX1_bytes.cls = RX1 ∧ yX1_bytes.cls ≠ "java/lang/invoke/MethodHandle" ∧ yX1_bytes.cls ≠ "java/lang/invoke/VarHandle" ∧ (parseMethodDescriptor yX1_bytes.desc).map (fun d => d.parameters.length) = some 1 := by decide +kernel
def wx1_bytes_b3 (p1 : Int32) (post : XT → Prop) (R3 : Int32 → XT → Prop)  (x2 : Int32) (K : XK) (T : XT) : Prop :=
      ((x2 < 0 →
        post T) ∧
       (¬ (x2 < 0) →
        ∃ j_1 : Nat, j_1 < 700 ∧ (xi T 0 16) = nI j_1 ∧ ∀ T_2 : XT, T_2 = xwi T 79 j_1 (((jshr p1 x2).toInt8.toInt32).toInt8.toInt32) →
        ∀ T_3 : XT, T_3 = xwi T_2 0 16 ((xi T_2 0 16) + 1) →
        ∀ x2_4 : Int32, x2_4 = x2 + (-8) →
        R3 x2_4 T_3))
def wx1_bytes_l3 (p1 : Int32) (post : XT → Prop)  (x2 : Int32) (K : XK) (T : XT) : Prop := wLoop (fun (R : ((Int32) × (XT)) → Prop) (v : (Int32) × (XT)) => wx1_bytes_b3 p1 post (fun x2 T => R (x2, T))  v.1 K v.2) (x2, T)
def wx1_bytes (p1 : Int32) (K : XK) (T : XT) (post : XT → Prop) : Prop :=
  wx1_bytes_l3 p1 post 24 K T
set_option maxHeartbeats 4000000 in
theorem mx1_bytes (l : Launch) (G : XG) (b : Nat) (hole : Nat → Prop) (p1 : Int32) (K : XK) (T : XT)  (post : XT → Prop) (h : wx1_bytes p1 K T post) : Met l yX1_bytes (ws_ yX1_bytes cX1_bytes 3 none) ({ frames := 0, cells := 0, slots := 0, locals := 0 } : Room) (xPc G b hole [.ref (b + 0), .int p1] K T) (xQ G b hole K 0 0 (ρ := Unit) eV (fun r T1 K1 => post T1 ∧ K1 = K)) 0 0 (xA b hole) := by
  refine Met.ofW (cc := cX1_bytes) (maxL := 3) (ret := none) (by decide) rfl ?_
  intro p e s m args below meth c s₁ B hml hv
  obtain ⟨rfl, hP, hK, hV⟩ := hv
  have hx := B.exec
  have hb := B.bytes
  have hr := B.returns
  have hts := atoms_spec (ws := ws_ yX1_bytes cX1_bytes 3 none) B.pre
  have hts : ∀ w ∈ lw_all, w.before _ s = true := fun w h => hts w (List.mem_cons_of_mem _ h)
  have hown : s.vm.findClass RX1 = some m.cls := findClass_of_methodNamed B.named
  have hlocks := B.notSynchronized
  have hb0 : b ≤ s.heap.size := by rw [hP.2.2.2]; exact Nat.le_add_right _ _
  have hS : va_S (xA b hole) s.heap s.heap [] := va_S.rf
  have hl := lv_entry ([.ref (b + 0), .int p1]) (n := 3) (Nat.le_of_ble_eq_true rfl)
  rw [lg_entry_eq]
  generalize (lg_sl ([.ref (b + 0), .int p1]) ++ List.replicate (3 - (lg_sl ([.ref (b + 0), .int p1])).length) Slot.unset).toArray = ls at hl ⊢
  have hl : lv_has ls 3 [(0, .ref (b + 0)), (1, .int p1)] := hl
  have L3 : ∀ (x2 : Int32) (T : XT) (H : Heap) (locs : List Loc) (ls : Array Slot), wx1_bytes_l3 p1 post  x2 K T → xW G b hole K T H → va_S (xA b hole) s.heap H locs → lv_has ls 3 [(0, .ref (b + 0)), (1, .int p1), (2, .int x2)] → W p l e (headSpec (ws_ yX1_bytes cX1_bytes 3 none) ({ frames := 0, cells := 0, slots := 0, locals := 0 } : Room)).room s m ([.ref (b + 0), .int p1] : List Value).toArray below meth c H locs 0 0 (MQ below (xQ G b hole K 0 0 (ρ := Unit) eV (fun r T1 K1 => post T1 ∧ K1 = K)) ([.ref (b + 0), .int p1] : List Value).toArray s 0 0 (xA b hole)) (F0 m 3 ls []) := by
    intro x2 T H locs ls h hP hS hl
    obtain ⟨I3, n3, hI, hstep3⟩ := h
    induction n3 using Nat.strongRecOn generalizing x2 T H locs ls with
    | ind n3 ih3 =>
      have h : wx1_bytes_b3 p1 post (fun x2 T => ∃ mm, mm < n3 ∧ I3 mm (x2, T))  x2 K T := hstep3 n3 _ hI
      clear hI
      unfold wx1_bytes_b3 at h
      refine lv_iload_n hx hb dX1_bytes_3 rfl (lv_at hl 2 rfl) ?_
      refine lv_if_lt (tgt := 36) hx hb dX1_bytes_4 (by decide) (fun c_5 => ?_) (fun c_5 => ?_)
      · have h := h.1 c_5
        exact W.vret hx hb hr (fun t ht hW => ⟨⟨(), T, K, rfl, ⟨h, rfl⟩, kle.rf, rfl, rfl, by rw [ht]; exact hP, va_K.moved hW.alike hK⟩, hS.F ht⟩) hS.2.2 dX1_bytes_36
      · have h := h.2 c_5
        refine lv_aload_n hx hb dX1_bytes_7 rfl (lv_at hl 0 rfl) ?_
        refine x_get (CC := RX1) (TT := TX1) (N := 26) (ci := 0) (v := .ref (b + 79)) hx hb hts in_X1 hown hK hP (xs_0 hP) (by decide) (by decide) rfl (xE_8 (xs_0 hP)) 15 (by decide) q401 rfl rfl dX1_bytes_8 ?_
        refine lv_aload_n hx hb dX1_bytes_11 rfl (lv_at hl 0 rfl) ?_
        refine x_get (CC := RX1) (TT := TX1) (N := 26) (ci := 0) (v := .int (xi T 0 16)) hx hb hts in_X1 hown hK hP (xs_0 hP) (by decide) (by decide) rfl (xE_8 (xs_0 hP)) 16 (by decide) q402 rfl rfl dX1_bytes_12 ?_
        refine lv_iload_n hx hb dX1_bytes_15 rfl (lv_at hl 1 rfl) ?_
        refine lv_iload_n hx hb dX1_bytes_16 rfl (lv_at hl 2 rfl) ?_
        refine m_ishr hx hb dX1_bytes_17 ?_
        refine lv_i2b hx hb dX1_bytes_18 rfl ?_
        obtain ⟨j_1, hj_1, ej_1, h⟩ := h
        obtain ⟨T_2, eT_2⟩ : ∃ z : XT, z = xwi T 79 j_1 (((jshr p1 x2).toInt8.toInt32).toInt8.toInt32) := ⟨_, rfl⟩
        have h := h T_2 eT_2
        refine x_bast hx hb hK hP hS (xs_79 hP) ej_1 (by rw [xl_79 hP]; exact hj_1) dX1_bytes_19 (fun H locs hP hS => ?_)
        rw [← eT_2] at hP
        refine lv_aload_n hx hb dX1_bytes_20 rfl (lv_at hl 0 rfl) ?_
        refine lv_dup hx hb dX1_bytes_21 rfl ?_
        refine x_get (CC := RX1) (TT := TX1) (N := 26) (ci := 0) (v := .int (xi T_2 0 16)) hx hb hts in_X1 hown hK hP (xs_0 hP) (by decide) (by decide) rfl (xE_8 (xs_0 hP)) 16 (by decide) q402 rfl rfl dX1_bytes_22 ?_
        refine lv_iconst (v := 1) hx hb dX1_bytes_25 (by decide) ?_
        refine lv_iadd hx hb dX1_bytes_26 ?_
        obtain ⟨T_3, eT_3⟩ : ∃ z : XT, z = xwi T_2 0 16 ((xi T_2 0 16) + 1) := ⟨_, rfl⟩
        have h := h T_3 eT_3
        refine x_put (CC := RX1) (TT := TX1) (N := 26) (ci := 0) (T1 := T_3) (v := .int ((xi T_2 0 16) + 1)) (ty := .int) (fsf := fun T => fs8 (gem G) b T 0) hx hb hts in_X1 tyX1 tyX1_ok nmX1 hown hK hP hS (xs_0 hP) (by decide) (by decide) rfl (fun _ => xE_8 (xs_0 hP)) rfl 16 (by decide) q402 rfl (Or.inl rfl) rfl rfl rfl (by rw [eT_3]; exact fw8_16 _ b T_2 0 ((xi T_2 0 16) + 1)) (by rw [eT_3]; exact fun q hq => xwi_i hq) (by rw [eT_3]; exact fun _ _ => rfl) (by rw [eT_3]; exact xwi_ty hP (by rw [(xs_0 hP)]; decide)) dX1_bytes_27 (fun H locs hP hS => ?_)
        obtain ⟨x2_4, ex2_4⟩ : ∃ y : Int32, y = x2 + (-8) := ⟨_, rfl⟩
        have h := h x2_4 ex2_4
        refine lv_iinc (v := x2_4) (lv' := [(2, .int x2_4), (0, .ref (b + 0)), (1, .int p1)]) hx hb dX1_bytes_30 hl (k := 2) rfl (by rw [ex2_4]; rfl) (by decide) rfl (fun ls hl => ?_)
        refine lv_goto (tgt := 3) hx hb dX1_bytes_33 (by decide) ?_
        obtain ⟨mm, hmm, h⟩ := h
        exact ih3 mm hmm _ _ _ _ _  hP hS (lv_sub hl [1, 2, 0] rfl) h
  unfold wx1_bytes at h
  refine lv_bipush (v := 24) hx hb dX1_bytes_0 (by decide) ?_
  refine lv_istore_n (lv' := [(2, .int 24), (0, .ref (b + 0)), (1, .int p1)]) hx hb dX1_bytes_2 rfl hl (by decide) rfl (fun ls hl => ?_)
  exact L3 _ _ _ _ _ h  hP hS (lv_sub hl [1, 2, 0] rfl)
theorem cwx_X1_feed : yX1_feed.cls = RX1 ∧ yX1_feed.cls ≠ "java/lang/invoke/MethodHandle" ∧ yX1_feed.cls ≠ "java/lang/invoke/VarHandle" ∧ (parseMethodDescriptor yX1_feed.desc).map (fun d => d.parameters.length) = some 5 := by decide +kernel
def wx1_feed (p1 : Int32) (p2 : Int32) (p3 : Int32) (p4 : Int32) (p5 : Int32) (K : XK) (T : XT) (post : Int32 → XT → Prop) : Prop :=
  ((((xi T 0 16) + 20) ≤ 700 →
    wx1_bytes p1 K T (fun T_2 =>
    wx1_bytes p2 K T_2 (fun T_5 =>
    wx1_bytes p3 K T_5 (fun T_8 =>
    wx1_bytes p4 K T_8 (fun T_11 =>
    wx1_bytes p5 K T_11 (fun T_14 =>
    post (xi T_14 0 16) T_14)))))) ∧
   (¬ (((xi T 0 16) + 20) ≤ 700) →
    post (-1) T))
set_option maxHeartbeats 4000000 in
theorem mx1_feed (l : Launch) (G : XG) (b : Nat) (hole : Nat → Prop) (p1 : Int32) (p2 : Int32) (p3 : Int32) (p4 : Int32) (p5 : Int32) (K : XK) (T : XT)  (post : Int32 → XT → Prop) (h : wx1_feed p1 p2 p3 p4 p5 K T post) : Met l yX1_feed (ws_ yX1_feed cX1_feed 6 (some .int)) ({ frames := 1, cells := 0, slots := 0, locals := 22 } : Room) (xPc G b hole [.ref (b + 0), .int p1, .int p2, .int p3, .int p4, .int p5] K T) (xQ G b hole K 0 0 (ρ := Int32) eI (fun r T1 K1 => post r T1 ∧ K1 = K)) 0 0 (xA b hole) := by
  refine Met.ofW (cc := cX1_feed) (maxL := 6) (ret := (some .int)) (by decide) rfl ?_
  intro p e s m args below meth c s₁ B hml hv
  obtain ⟨rfl, hP, hK, hV⟩ := hv
  have hx := B.exec
  have hb := B.bytes
  have hr := B.returns
  have hts := atoms_spec (ws := ws_ yX1_feed cX1_feed 6 (some .int)) B.pre
  have hts : ∀ w ∈ lw_all, w.before _ s = true := fun w h => hts w (List.mem_cons_of_mem _ h)
  have hown : s.vm.findClass RX1 = some m.cls := findClass_of_methodNamed B.named
  have hlocks := B.notSynchronized
  have hb0 : b ≤ s.heap.size := by rw [hP.2.2.2]; exact Nat.le_add_right _ _
  have hS : va_S (xA b hole) s.heap s.heap [] := va_S.rf
  have hl := lv_entry ([.ref (b + 0), .int p1, .int p2, .int p3, .int p4, .int p5]) (n := 6) (Nat.le_of_ble_eq_true rfl)
  rw [lg_entry_eq]
  generalize (lg_sl ([.ref (b + 0), .int p1, .int p2, .int p3, .int p4, .int p5]) ++ List.replicate (6 - (lg_sl ([.ref (b + 0), .int p1, .int p2, .int p3, .int p4, .int p5])).length) Slot.unset).toArray = ls at hl ⊢
  have hl : lv_has ls 6 [(0, .ref (b + 0)), (1, .int p1), (2, .int p2), (3, .int p3), (4, .int p4), (5, .int p5)] := hl
  unfold wx1_feed at h
  refine lv_aload_n hx hb dX1_feed_0 rfl (lv_at hl 0 rfl) ?_
  refine x_get (CC := RX1) (TT := TX1) (N := 26) (ci := 0) (v := .int (xi T 0 16)) hx hb hts in_X1 hown hK hP (xs_0 hP) (by decide) (by decide) rfl (xE_8 (xs_0 hP)) 16 (by decide) q402 rfl rfl dX1_feed_1 ?_
  refine lv_bipush (v := 20) hx hb dX1_feed_4 (by decide) ?_
  refine lv_iadd hx hb dX1_feed_6 ?_
  refine lv_sipush (v := 700) hx hb dX1_feed_7 (by decide) ?_
  refine lv_icmp_le (tgt := 15) hx hb dX1_feed_10 (by decide) (fun c_16 => ?_) (fun c_16 => ?_)
  · have h := h.1 c_16
    refine lv_aload_n hx hb dX1_feed_15 rfl (lv_at hl 0 rfl) ?_
    refine lv_iload_n hx hb dX1_feed_16 rfl (lv_at hl 1 rfl) ?_
    refine x_cV (k := 0) (As := [.int p1]) (rest := []) ⟨hx, hb, hml, hown, hts⟩ (mx1_bytes l G b hole p1 K T  _ h) (cwV 1 hts (lw_V q470 q472 qs1 q118 q473) rfl rfl rfl cwx_X1_bytes ⟨Nat.le_of_ble_eq_true rfl, Nat.le_of_ble_eq_true rfl⟩) (x_recv (CC := RX1) (ci := 0) hK hP (xs_0 hP) (by decide) (by decide) rfl (xE_8 (xs_0 hP))) hK hV hb0 hP hS rfl hl.1 rfl (Nat.le_of_ble_eq_true rfl) dX1_feed_17 ⟨by first | exact Nat.zero_le _ | (show _ + _ ≤ Z - kc K0; omega), by first | exact Nat.zero_le _ | (show _ + _ ≤ Y - ks K0; omega)⟩ (fun r_1 T1 K1 H locs h hle1 hc1 hs1 hP hS => ?_)
    obtain ⟨h, hKe⟩ := h
    rw [hKe] at hP
    generalize T1 = T_2 at h hP
    refine lv_aload_n hx hb dX1_feed_20 rfl (lv_at hl 0 rfl) ?_
    refine lv_iload_n hx hb dX1_feed_21 rfl (lv_at hl 2 rfl) ?_
    refine x_cV (k := 0) (As := [.int p2]) (rest := []) ⟨hx, hb, hml, hown, hts⟩ (mx1_bytes l G b hole p2 K T_2  _ h) (cwV 1 hts (lw_V q470 q472 qs1 q118 q473) rfl rfl rfl cwx_X1_bytes ⟨Nat.le_of_ble_eq_true rfl, Nat.le_of_ble_eq_true rfl⟩) (x_recv (CC := RX1) (ci := 0) hK hP (xs_0 hP) (by decide) (by decide) rfl (xE_8 (xs_0 hP))) hK hV hb0 hP hS rfl hl.1 rfl (Nat.le_of_ble_eq_true rfl) dX1_feed_22 ⟨by first | exact Nat.zero_le _ | (show _ + _ ≤ Z - kc K0; omega), by first | exact Nat.zero_le _ | (show _ + _ ≤ Y - ks K0; omega)⟩ (fun r_4 T1 K1 H locs h hle1 hc1 hs1 hP hS => ?_)
    obtain ⟨h, hKe⟩ := h
    rw [hKe] at hP
    generalize T1 = T_5 at h hP
    refine lv_aload_n hx hb dX1_feed_25 rfl (lv_at hl 0 rfl) ?_
    refine lv_iload_n hx hb dX1_feed_26 rfl (lv_at hl 3 rfl) ?_
    refine x_cV (k := 0) (As := [.int p3]) (rest := []) ⟨hx, hb, hml, hown, hts⟩ (mx1_bytes l G b hole p3 K T_5  _ h) (cwV 1 hts (lw_V q470 q472 qs1 q118 q473) rfl rfl rfl cwx_X1_bytes ⟨Nat.le_of_ble_eq_true rfl, Nat.le_of_ble_eq_true rfl⟩) (x_recv (CC := RX1) (ci := 0) hK hP (xs_0 hP) (by decide) (by decide) rfl (xE_8 (xs_0 hP))) hK hV hb0 hP hS rfl hl.1 rfl (Nat.le_of_ble_eq_true rfl) dX1_feed_27 ⟨by first | exact Nat.zero_le _ | (show _ + _ ≤ Z - kc K0; omega), by first | exact Nat.zero_le _ | (show _ + _ ≤ Y - ks K0; omega)⟩ (fun r_7 T1 K1 H locs h hle1 hc1 hs1 hP hS => ?_)
    obtain ⟨h, hKe⟩ := h
    rw [hKe] at hP
    generalize T1 = T_8 at h hP
    refine lv_aload_n hx hb dX1_feed_30 rfl (lv_at hl 0 rfl) ?_
    refine lv_iload hx hb dX1_feed_31 (lv_at hl 4 rfl) ?_
    refine x_cV (k := 0) (As := [.int p4]) (rest := []) ⟨hx, hb, hml, hown, hts⟩ (mx1_bytes l G b hole p4 K T_8  _ h) (cwV 1 hts (lw_V q470 q472 qs1 q118 q473) rfl rfl rfl cwx_X1_bytes ⟨Nat.le_of_ble_eq_true rfl, Nat.le_of_ble_eq_true rfl⟩) (x_recv (CC := RX1) (ci := 0) hK hP (xs_0 hP) (by decide) (by decide) rfl (xE_8 (xs_0 hP))) hK hV hb0 hP hS rfl hl.1 rfl (Nat.le_of_ble_eq_true rfl) dX1_feed_33 ⟨by first | exact Nat.zero_le _ | (show _ + _ ≤ Z - kc K0; omega), by first | exact Nat.zero_le _ | (show _ + _ ≤ Y - ks K0; omega)⟩ (fun r_10 T1 K1 H locs h hle1 hc1 hs1 hP hS => ?_)
    obtain ⟨h, hKe⟩ := h
    rw [hKe] at hP
    generalize T1 = T_11 at h hP
    refine lv_aload_n hx hb dX1_feed_36 rfl (lv_at hl 0 rfl) ?_
    refine lv_iload hx hb dX1_feed_37 (lv_at hl 5 rfl) ?_
    refine x_cV (k := 0) (As := [.int p5]) (rest := []) ⟨hx, hb, hml, hown, hts⟩ (mx1_bytes l G b hole p5 K T_11  _ h) (cwV 1 hts (lw_V q470 q472 qs1 q118 q473) rfl rfl rfl cwx_X1_bytes ⟨Nat.le_of_ble_eq_true rfl, Nat.le_of_ble_eq_true rfl⟩) (x_recv (CC := RX1) (ci := 0) hK hP (xs_0 hP) (by decide) (by decide) rfl (xE_8 (xs_0 hP))) hK hV hb0 hP hS rfl hl.1 rfl (Nat.le_of_ble_eq_true rfl) dX1_feed_39 ⟨by first | exact Nat.zero_le _ | (show _ + _ ≤ Z - kc K0; omega), by first | exact Nat.zero_le _ | (show _ + _ ≤ Y - ks K0; omega)⟩ (fun r_13 T1 K1 H locs h hle1 hc1 hs1 hP hS => ?_)
    obtain ⟨h, hKe⟩ := h
    rw [hKe] at hP
    generalize T1 = T_14 at h hP
    refine lv_aload_n hx hb dX1_feed_42 rfl (lv_at hl 0 rfl) ?_
    refine x_get (CC := RX1) (TT := TX1) (N := 26) (ci := 0) (v := .int (xi T_14 0 16)) hx hb hts in_X1 hown hK hP (xs_0 hP) (by decide) (by decide) rfl (xE_8 (xs_0 hP)) 16 (by decide) q402 rfl rfl dX1_feed_43 ?_
    exact W.iret (v := (xi T_14 0 16)) hx hb hr (fun t ht hW => ⟨⟨(xi T_14 0 16), T_14, K, rfl, ⟨h, rfl⟩, kle.rf, rfl, rfl, by rw [ht]; exact hP, va_K.moved hW.alike hK⟩, hS.F ht⟩) hS.2.2 dX1_feed_46
  · have h := h.2 c_16
    refine lv_iconst (v := (-1)) hx hb dX1_feed_13 (by decide) ?_
    exact W.iret (v := (-1)) hx hb hr (fun t ht hW => ⟨⟨(-1), T, K, rfl, ⟨h, rfl⟩, kle.rf, rfl, rfl, by rw [ht]; exact hP, va_K.moved hW.alike hK⟩, hS.F ht⟩) hS.2.2 dX1_feed_14
theorem cwx_X1_anew : yX1_anew.cls = RX1 ∧ yX1_anew.cls ≠ "java/lang/invoke/MethodHandle" ∧ yX1_anew.cls ≠ "java/lang/invoke/VarHandle" ∧ (parseMethodDescriptor yX1_anew.desc).map (fun d => d.parameters.length) = some 0 := by decide +kernel
def wx1_anew  (K : XK) (T : XT) (post : XT → Prop) : Prop :=
  ∀ T_1 : XT, T_1 = xwi T 0 23 0 →
  ∀ T_2 : XT, T_2 = xwi T_1 0 25 (-1) →
  post T_2
set_option maxHeartbeats 4000000 in
theorem mx1_anew (l : Launch) (G : XG) (b : Nat) (hole : Nat → Prop)  (K : XK) (T : XT)  (post : XT → Prop) (h : wx1_anew  K T post) : Met l yX1_anew (ws_ yX1_anew cX1_anew 1 none) ({ frames := 0, cells := 0, slots := 0, locals := 0 } : Room) (xPc G b hole [.ref (b + 0)] K T) (xQ G b hole K 0 0 (ρ := Unit) eV (fun r T1 K1 => post T1 ∧ K1 = K)) 0 0 (xA b hole) := by
  refine Met.ofW (cc := cX1_anew) (maxL := 1) (ret := none) (by decide) rfl ?_
  intro p e s m args below meth c s₁ B hml hv
  obtain ⟨rfl, hP, hK, hV⟩ := hv
  have hx := B.exec
  have hb := B.bytes
  have hr := B.returns
  have hts := atoms_spec (ws := ws_ yX1_anew cX1_anew 1 none) B.pre
  have hts : ∀ w ∈ lw_all, w.before _ s = true := fun w h => hts w (List.mem_cons_of_mem _ h)
  have hown : s.vm.findClass RX1 = some m.cls := findClass_of_methodNamed B.named
  have hlocks := B.notSynchronized
  have hb0 : b ≤ s.heap.size := by rw [hP.2.2.2]; exact Nat.le_add_right _ _
  have hS : va_S (xA b hole) s.heap s.heap [] := va_S.rf
  have hl := lv_entry ([.ref (b + 0)]) (n := 1) (Nat.le_of_ble_eq_true rfl)
  rw [lg_entry_eq]
  generalize (lg_sl ([.ref (b + 0)]) ++ List.replicate (1 - (lg_sl ([.ref (b + 0)])).length) Slot.unset).toArray = ls at hl ⊢
  have hl : lv_has ls 1 [(0, .ref (b + 0))] := hl
  unfold wx1_anew at h
  refine lv_aload_n hx hb dX1_anew_0 rfl (lv_at hl 0 rfl) ?_
  refine lv_iconst (v := 0) hx hb dX1_anew_1 (by decide) ?_
  obtain ⟨T_1, eT_1⟩ : ∃ z : XT, z = xwi T 0 23 0 := ⟨_, rfl⟩
  have h := h T_1 eT_1
  refine x_put (CC := RX1) (TT := TX1) (N := 26) (ci := 0) (T1 := T_1) (v := .int 0) (ty := .int) (fsf := fun T => fs8 (gem G) b T 0) hx hb hts in_X1 tyX1 tyX1_ok nmX1 hown hK hP hS (xs_0 hP) (by decide) (by decide) rfl (fun _ => xE_8 (xs_0 hP)) rfl 23 (by decide) q410 rfl (Or.inl rfl) rfl rfl rfl (by rw [eT_1]; exact fw8_23 _ b T 0 0) (by rw [eT_1]; exact fun q hq => xwi_i hq) (by rw [eT_1]; exact fun _ _ => rfl) (by rw [eT_1]; exact xwi_ty hP (by rw [(xs_0 hP)]; decide)) dX1_anew_2 (fun H locs hP hS => ?_)
  refine lv_aload_n hx hb dX1_anew_5 rfl (lv_at hl 0 rfl) ?_
  refine lv_iconst (v := (-1)) hx hb dX1_anew_6 (by decide) ?_
  obtain ⟨T_2, eT_2⟩ : ∃ z : XT, z = xwi T_1 0 25 (-1) := ⟨_, rfl⟩
  have h := h T_2 eT_2
  refine x_put (CC := RX1) (TT := TX1) (N := 26) (ci := 0) (T1 := T_2) (v := .int (-1)) (ty := .int) (fsf := fun T => fs8 (gem G) b T 0) hx hb hts in_X1 tyX1 tyX1_ok nmX1 hown hK hP hS (xs_0 hP) (by decide) (by decide) rfl (fun _ => xE_8 (xs_0 hP)) rfl 25 (by decide) q412 rfl (Or.inl rfl) rfl rfl rfl (by rw [eT_2]; exact fw8_25 _ b T_1 0 (-1)) (by rw [eT_2]; exact fun q hq => xwi_i hq) (by rw [eT_2]; exact fun _ _ => rfl) (by rw [eT_2]; exact xwi_ty hP (by rw [(xs_0 hP)]; decide)) dX1_anew_7 (fun H locs hP hS => ?_)
  exact W.vret hx hb hr (fun t ht hW => ⟨⟨(), T_2, K, rfl, ⟨h, rfl⟩, kle.rf, rfl, rfl, by rw [ht]; exact hP, va_K.moved hW.alike hK⟩, hS.F ht⟩) hS.2.2 dX1_anew_10
theorem cwx_X1_in : yX1_in.cls ≠ "java/lang/invoke/MethodHandle" ∧ yX1_in.cls ≠ "java/lang/invoke/VarHandle" ∧ (parseMethodDescriptor yX1_in.desc).map (fun d => d.parameters.length) = some 3 := by decide +kernel
def wx1_in (p1 : Int32) (p2 : Int32) (p3 : Int32) (K : XK) (T : XT) (post : Int32 → Prop) : Prop :=
  ((p1 < p2 →
    post 0) ∧
   (¬ (p1 < p2) →
    ((p3 < p1 →
      post 0) ∧
     (¬ (p3 < p1) →
      post 1))))
set_option maxHeartbeats 4000000 in
theorem mx1_in (l : Launch) (G : XG) (b : Nat) (hole : Nat → Prop) (p1 : Int32) (p2 : Int32) (p3 : Int32) (K : XK) (T : XT)  (post : Int32 → Prop) (h : wx1_in p1 p2 p3 K T post) : Met l yX1_in (ws_ yX1_in cX1_in 3 (some .boolean)) ({ frames := 0, cells := 0, slots := 0, locals := 0 } : Room) (xPc G b hole [.int p1, .int p2, .int p3] K T) (xQ G b hole K 0 0 (ρ := Int32) eI (fun r T1 K1 => post r ∧ T1 = T ∧ K1 = K)) 0 0 (xA b hole) := by
  refine Met.ofW (cc := cX1_in) (maxL := 3) (ret := (some .boolean)) (by decide) rfl ?_
  intro p e s m args below meth c s₁ B hml hv
  obtain ⟨rfl, hP, hK, hV⟩ := hv
  have hx := B.exec
  have hb := B.bytes
  have hr := B.returns
  have hts := atoms_spec (ws := ws_ yX1_in cX1_in 3 (some .boolean)) B.pre
  have hts : ∀ w ∈ lw_all, w.before _ s = true := fun w h => hts w (List.mem_cons_of_mem _ h)
  have hown : s.vm.findClass RX1 = some m.cls := findClass_of_methodNamed B.named
  have hlocks := B.notSynchronized
  have hb0 : b ≤ s.heap.size := by rw [hP.2.2.2]; exact Nat.le_add_right _ _
  have hS : va_S (xA b hole) s.heap s.heap [] := va_S.rf
  have hl := lv_entry ([.int p1, .int p2, .int p3]) (n := 3) (Nat.le_of_ble_eq_true rfl)
  rw [lg_entry_eq]
  generalize (lg_sl ([.int p1, .int p2, .int p3]) ++ List.replicate (3 - (lg_sl ([.int p1, .int p2, .int p3])).length) Slot.unset).toArray = ls at hl ⊢
  have hl : lv_has ls 3 [(0, .int p1), (1, .int p2), (2, .int p3)] := hl
  unfold wx1_in at h
  refine lv_iload_n hx hb dX1_in_0 rfl (lv_at hl 0 rfl) ?_
  refine lv_iload_n hx hb dX1_in_1 rfl (lv_at hl 1 rfl) ?_
  refine lv_icmp_lt (tgt := 14) hx hb dX1_in_2 (by decide) (fun c_2 => ?_) (fun c_2 => ?_)
  · have h := h.1 c_2
    refine lv_iconst (v := 0) hx hb dX1_in_14 (by decide) ?_
    exact W.zret (v := 0) hx hb hr rfl (fun t ht hW => ⟨⟨0, T, K, rfl, ⟨h, rfl, rfl⟩, kle.rf, rfl, rfl, by rw [ht]; exact hP, va_K.moved hW.alike hK⟩, hS.F ht⟩) hS.2.2 dX1_in_15
  · have h := h.2 c_2
    refine lv_iload_n hx hb dX1_in_5 rfl (lv_at hl 0 rfl) ?_
    refine lv_iload_n hx hb dX1_in_6 rfl (lv_at hl 2 rfl) ?_
    refine lv_icmp_gt (tgt := 14) hx hb dX1_in_7 (by decide) (fun c_1 => ?_) (fun c_1 => ?_)
    · have h := h.1 c_1
      refine lv_iconst (v := 0) hx hb dX1_in_14 (by decide) ?_
      exact W.zret (v := 0) hx hb hr rfl (fun t ht hW => ⟨⟨0, T, K, rfl, ⟨h, rfl, rfl⟩, kle.rf, rfl, rfl, by rw [ht]; exact hP, va_K.moved hW.alike hK⟩, hS.F ht⟩) hS.2.2 dX1_in_15
    · have h := h.2 c_1
      refine lv_iconst (v := 1) hx hb dX1_in_10 (by decide) ?_
      refine lv_goto (tgt := 15) hx hb dX1_in_11 (by decide) ?_
      exact W.zret (v := 1) hx hb hr rfl (fun t ht hW => ⟨⟨1, T, K, rfl, ⟨h, rfl, rfl⟩, kle.rf, rfl, rfl, by rw [ht]; exact hP, va_K.moved hW.alike hK⟩, hS.F ht⟩) hS.2.2 dX1_in_15
theorem cwx_X1_no : yX1_no.cls = RX1 ∧ yX1_no.cls ≠ "java/lang/invoke/MethodHandle" ∧ yX1_no.cls ≠ "java/lang/invoke/VarHandle" ∧ (parseMethodDescriptor yX1_no.desc).map (fun d => d.parameters.length) = some 1 := by decide +kernel
def wx1_no (p1 : Int32) (K : XK) (T : XT) (post : Int32 → XT → Prop) : Prop :=
  ∀ T_1 : XT, T_1 = xwi T 0 23 p1 →
  post (-1) T_1
set_option maxHeartbeats 4000000 in
theorem mx1_no (l : Launch) (G : XG) (b : Nat) (hole : Nat → Prop) (p1 : Int32) (K : XK) (T : XT)  (post : Int32 → XT → Prop) (h : wx1_no p1 K T post) : Met l yX1_no (ws_ yX1_no cX1_no 2 (some .int)) ({ frames := 0, cells := 0, slots := 0, locals := 0 } : Room) (xPc G b hole [.ref (b + 0), .int p1] K T) (xQ G b hole K 0 0 (ρ := Int32) eI (fun r T1 K1 => post r T1 ∧ K1 = K)) 0 0 (xA b hole) := by
  refine Met.ofW (cc := cX1_no) (maxL := 2) (ret := (some .int)) (by decide) rfl ?_
  intro p e s m args below meth c s₁ B hml hv
  obtain ⟨rfl, hP, hK, hV⟩ := hv
  have hx := B.exec
  have hb := B.bytes
  have hr := B.returns
  have hts := atoms_spec (ws := ws_ yX1_no cX1_no 2 (some .int)) B.pre
  have hts : ∀ w ∈ lw_all, w.before _ s = true := fun w h => hts w (List.mem_cons_of_mem _ h)
  have hown : s.vm.findClass RX1 = some m.cls := findClass_of_methodNamed B.named
  have hlocks := B.notSynchronized
  have hb0 : b ≤ s.heap.size := by rw [hP.2.2.2]; exact Nat.le_add_right _ _
  have hS : va_S (xA b hole) s.heap s.heap [] := va_S.rf
  have hl := lv_entry ([.ref (b + 0), .int p1]) (n := 2) (Nat.le_of_ble_eq_true rfl)
  rw [lg_entry_eq]
  generalize (lg_sl ([.ref (b + 0), .int p1]) ++ List.replicate (2 - (lg_sl ([.ref (b + 0), .int p1])).length) Slot.unset).toArray = ls at hl ⊢
  have hl : lv_has ls 2 [(0, .ref (b + 0)), (1, .int p1)] := hl
  unfold wx1_no at h
  refine lv_aload_n hx hb dX1_no_0 rfl (lv_at hl 0 rfl) ?_
  refine lv_iload_n hx hb dX1_no_1 rfl (lv_at hl 1 rfl) ?_
  obtain ⟨T_1, eT_1⟩ : ∃ z : XT, z = xwi T 0 23 p1 := ⟨_, rfl⟩
  have h := h T_1 eT_1
  refine x_put (CC := RX1) (TT := TX1) (N := 26) (ci := 0) (T1 := T_1) (v := .int p1) (ty := .int) (fsf := fun T => fs8 (gem G) b T 0) hx hb hts in_X1 tyX1 tyX1_ok nmX1 hown hK hP hS (xs_0 hP) (by decide) (by decide) rfl (fun _ => xE_8 (xs_0 hP)) rfl 23 (by decide) q410 rfl (Or.inl rfl) rfl rfl rfl (by rw [eT_1]; exact fw8_23 _ b T 0 p1) (by rw [eT_1]; exact fun q hq => xwi_i hq) (by rw [eT_1]; exact fun _ _ => rfl) (by rw [eT_1]; exact xwi_ty hP (by rw [(xs_0 hP)]; decide)) dX1_no_2 (fun H locs hP hS => ?_)
  refine lv_iconst (v := (-1)) hx hb dX1_no_5 (by decide) ?_
  exact W.iret (v := (-1)) hx hb hr (fun t ht hW => ⟨⟨(-1), T_1, K, rfl, ⟨h, rfl⟩, kle.rf, rfl, rfl, by rw [ht]; exact hP, va_K.moved hW.alike hK⟩, hS.F ht⟩) hS.2.2 dX1_no_6
theorem cwx_X1_layInverses : yX1_layInverses.cls = RX1 ∧ yX1_layInverses.cls ≠ "java/lang/invoke/MethodHandle" ∧ yX1_layInverses.cls ≠ "java/lang/invoke/VarHandle" ∧ (parseMethodDescriptor yX1_layInverses.desc).map (fun d => d.parameters.length) = some 0 := by decide +kernel
def wx1_layInverses_j39  (post : XT → Prop) (R2 : Int32 → XT → Prop) (R12 : Int32 → XT → Prop) (x1 : Int32) (x2 : Int32) (K : XK) (T : XT) : Prop :=
            ∀ x2_1 : Int32, x2_1 = x2 + 1 →
            R12 x2_1 T
def wx1_layInverses_b12  (post : XT → Prop) (R2 : Int32 → XT → Prop) (R12 : Int32 → XT → Prop) (x1 : Int32) (x2 : Int32) (K : XK) (T : XT) : Prop :=
          (((xi T 0 0) ≤ x2 →
            ∀ x1_2 : Int32, x1_2 = x1 + 1 →
            R2 x1_2 T) ∧
           (¬ ((xi T 0 0) ≤ x2) →
            ¬ (xi T 0 0) = 0 ∧
            ((¬ (jrem (x1 * x2) (xi T 0 0)) = 1 →
              wx1_layInverses_j39  post R2 R12 x1 x2 K T) ∧
             ((jrem (x1 * x2) (xi T 0 0)) = 1 →
              ∃ j_3 : Nat, j_3 < 98 ∧ x1 = nI j_3 ∧ ∀ T_4 : XT, T_4 = xwi T 1 j_3 x2 →
              wx1_layInverses_j39  post R2 R12 x1 x2 K T_4))))
def wx1_layInverses_l12  (post : XT → Prop) (R2 : Int32 → XT → Prop) (x1 : Int32) (x2 : Int32) (K : XK) (T : XT) : Prop := wLoop (fun (R : ((Int32) × (XT)) → Prop) (v : (Int32) × (XT)) => wx1_layInverses_b12  post R2 (fun x2 T => R (x2, T)) x1 v.1 K v.2) (x2, T)
def wx1_layInverses_b2  (post : XT → Prop) (R2 : Int32 → XT → Prop)  (x1 : Int32) (K : XK) (T : XT) : Prop :=
      (((xi T 0 0) ≤ x1 →
        post T) ∧
       (¬ ((xi T 0 0) ≤ x1) →
        wx1_layInverses_l12  post R2 x1 1 K T))
def wx1_layInverses_l2  (post : XT → Prop)  (x1 : Int32) (K : XK) (T : XT) : Prop := wLoop (fun (R : ((Int32) × (XT)) → Prop) (v : (Int32) × (XT)) => wx1_layInverses_b2  post (fun x1 T => R (x1, T))  v.1 K v.2) (x1, T)
def wx1_layInverses  (K : XK) (T : XT) (post : XT → Prop) : Prop :=
  wx1_layInverses_l2  post 1 K T
set_option maxHeartbeats 4000000 in
theorem mx1_layInverses (l : Launch) (G : XG) (b : Nat) (hole : Nat → Prop)  (K : XK) (T : XT)  (post : XT → Prop) (h : wx1_layInverses  K T post) : Met l yX1_layInverses (ws_ yX1_layInverses cX1_layInverses 3 none) ({ frames := 0, cells := 0, slots := 0, locals := 0 } : Room) (xPc G b hole [.ref (b + 0)] K T) (xQ G b hole K 0 0 (ρ := Unit) eV (fun r T1 K1 => post T1 ∧ K1 = K)) 0 0 (xA b hole) := by
  refine Met.ofW (cc := cX1_layInverses) (maxL := 3) (ret := none) (by decide) rfl ?_
  intro p e s m args below meth c s₁ B hml hv
  obtain ⟨rfl, hP, hK, hV⟩ := hv
  have hx := B.exec
  have hb := B.bytes
  have hr := B.returns
  have hts := atoms_spec (ws := ws_ yX1_layInverses cX1_layInverses 3 none) B.pre
  have hts : ∀ w ∈ lw_all, w.before _ s = true := fun w h => hts w (List.mem_cons_of_mem _ h)
  have hown : s.vm.findClass RX1 = some m.cls := findClass_of_methodNamed B.named
  have hlocks := B.notSynchronized
  have hb0 : b ≤ s.heap.size := by rw [hP.2.2.2]; exact Nat.le_add_right _ _
  have hS : va_S (xA b hole) s.heap s.heap [] := va_S.rf
  have hl := lv_entry ([.ref (b + 0)]) (n := 3) (Nat.le_of_ble_eq_true rfl)
  rw [lg_entry_eq]
  generalize (lg_sl ([.ref (b + 0)]) ++ List.replicate (3 - (lg_sl ([.ref (b + 0)])).length) Slot.unset).toArray = ls at hl ⊢
  have hl : lv_has ls 3 [(0, .ref (b + 0))] := hl
  have L2 : ∀ (x1 : Int32) (T : XT) (H : Heap) (locs : List Loc) (ls : Array Slot), wx1_layInverses_l2  post  x1 K T → xW G b hole K T H → va_S (xA b hole) s.heap H locs → lv_has ls 3 [(0, .ref (b + 0)), (1, .int x1)] → W p l e (headSpec (ws_ yX1_layInverses cX1_layInverses 3 none) ({ frames := 0, cells := 0, slots := 0, locals := 0 } : Room)).room s m ([.ref (b + 0)] : List Value).toArray below meth c H locs 0 0 (MQ below (xQ G b hole K 0 0 (ρ := Unit) eV (fun r T1 K1 => post T1 ∧ K1 = K)) ([.ref (b + 0)] : List Value).toArray s 0 0 (xA b hole)) (F0 m 2 ls []) := by
    intro x1 T H locs ls h hP hS hl
    obtain ⟨I2, n2, hI, hstep2⟩ := h
    induction n2 using Nat.strongRecOn generalizing x1 T H locs ls with
    | ind n2 ih2 =>
      have h : wx1_layInverses_b2  post (fun x1 T => ∃ mm, mm < n2 ∧ I2 mm (x1, T))  x1 K T := hstep2 n2 _ hI
      clear hI
      have L12 : ∀ (x1 : Int32) (x2 : Int32) (T : XT) (H : Heap) (locs : List Loc) (ls : Array Slot), wx1_layInverses_l12  post (fun x1 T => ∃ mm, mm < n2 ∧ I2 mm (x1, T)) x1 x2 K T → xW G b hole K T H → va_S (xA b hole) s.heap H locs → lv_has ls 3 [(0, .ref (b + 0)), (1, .int x1), (2, .int x2)] → W p l e (headSpec (ws_ yX1_layInverses cX1_layInverses 3 none) ({ frames := 0, cells := 0, slots := 0, locals := 0 } : Room)).room s m ([.ref (b + 0)] : List Value).toArray below meth c H locs 0 0 (MQ below (xQ G b hole K 0 0 (ρ := Unit) eV (fun r T1 K1 => post T1 ∧ K1 = K)) ([.ref (b + 0)] : List Value).toArray s 0 0 (xA b hole)) (F0 m 12 ls []) := by
        intro x1 x2 T H locs ls h hP hS hl
        obtain ⟨I12, n12, hI, hstep12⟩ := h
        induction n12 using Nat.strongRecOn generalizing x2 T H locs ls with
        | ind n12 ih12 =>
          have h : wx1_layInverses_b12  post (fun x1 T => ∃ mm, mm < n2 ∧ I2 mm (x1, T)) (fun x2 T => ∃ mm, mm < n12 ∧ I12 mm (x2, T)) x1 x2 K T := hstep12 n12 _ hI
          clear hI
          have J39 : ∀ (x2 : Int32) (T : XT) (H : Heap) (locs : List Loc) (ls : Array Slot), wx1_layInverses_j39  post (fun x1 T => ∃ mm, mm < n2 ∧ I2 mm (x1, T)) (fun x2 T => ∃ mm, mm < n12 ∧ I12 mm (x2, T)) x1 x2 K T → xW G b hole K T H → va_S (xA b hole) s.heap H locs → lv_has ls 3 [(0, .ref (b + 0)), (1, .int x1), (2, .int x2)] → W p l e (headSpec (ws_ yX1_layInverses cX1_layInverses 3 none) ({ frames := 0, cells := 0, slots := 0, locals := 0 } : Room)).room s m ([.ref (b + 0)] : List Value).toArray below meth c H locs 0 0 (MQ below (xQ G b hole K 0 0 (ρ := Unit) eV (fun r T1 K1 => post T1 ∧ K1 = K)) ([.ref (b + 0)] : List Value).toArray s 0 0 (xA b hole)) (F0 m 39 ls []) := by
            intro x2 T H locs ls h hP hS hl
            unfold wx1_layInverses_j39 at h
            obtain ⟨x2_1, ex2_1⟩ : ∃ y : Int32, y = x2 + 1 := ⟨_, rfl⟩
            have h := h x2_1 ex2_1
            refine lv_iinc (v := x2_1) (lv' := [(2, .int x2_1), (0, .ref (b + 0)), (1, .int x1)]) hx hb dX1_layInverses_39 hl (k := 2) rfl (by rw [ex2_1]; rfl) (by decide) rfl (fun ls hl => ?_)
            refine lv_goto (tgt := 12) hx hb dX1_layInverses_42 (by decide) ?_
            obtain ⟨mm, hmm, h⟩ := h
            exact ih12 mm hmm _ _ _ _ _  hP hS (lv_sub hl [1, 2, 0] rfl) h
          unfold wx1_layInverses_b12 at h
          refine lv_iload_n hx hb dX1_layInverses_12 rfl (lv_at hl 2 rfl) ?_
          refine lv_aload_n hx hb dX1_layInverses_13 rfl (lv_at hl 0 rfl) ?_
          refine x_get (CC := RX1) (TT := TX1) (N := 26) (ci := 0) (v := .int (xi T 0 0)) hx hb hts in_X1 hown hK hP (xs_0 hP) (by decide) (by decide) rfl (xE_8 (xs_0 hP)) 0 (by decide) q384 rfl rfl dX1_layInverses_14 ?_
          refine lv_icmp_ge (tgt := 45) hx hb dX1_layInverses_17 (by decide) (fun c_6 => ?_) (fun c_6 => ?_)
          · have h := h.1 c_6
            obtain ⟨x1_2, ex1_2⟩ : ∃ y : Int32, y = x1 + 1 := ⟨_, rfl⟩
            have h := h x1_2 ex1_2
            refine lv_iinc (v := x1_2) (lv' := [(1, .int x1_2), (0, .ref (b + 0)), (2, .int x2)]) hx hb dX1_layInverses_45 hl (k := 1) rfl (by rw [ex1_2]; rfl) (by decide) rfl (fun ls hl => ?_)
            refine lv_goto (tgt := 2) hx hb dX1_layInverses_48 (by decide) ?_
            obtain ⟨mm, hmm, h⟩ := h
            exact ih2 mm hmm _ _ _ _ _  hP hS (lv_sub hl [1, 0] rfl) h
          · have h := h.2 c_6
            refine lv_iload_n hx hb dX1_layInverses_20 rfl (lv_at hl 1 rfl) ?_
            refine lv_iload_n hx hb dX1_layInverses_21 rfl (lv_at hl 2 rfl) ?_
            refine lv_imul hx hb dX1_layInverses_22 ?_
            refine lv_aload_n hx hb dX1_layInverses_23 rfl (lv_at hl 0 rfl) ?_
            refine x_get (CC := RX1) (TT := TX1) (N := 26) (ci := 0) (v := .int (xi T 0 0)) hx hb hts in_X1 hown hK hP (xs_0 hP) (by decide) (by decide) rfl (xE_8 (xs_0 hP)) 0 (by decide) q384 rfl rfl dX1_layInverses_24 ?_
            obtain ⟨hne, h⟩ := h
            refine m_irem hx hb dX1_layInverses_27 hne ?_
            refine lv_iconst (v := 1) hx hb dX1_layInverses_28 (by decide) ?_
            refine lv_icmp_ne (tgt := 39) hx hb dX1_layInverses_29 (by decide) (fun c_5 => ?_) (fun c_5 => ?_)
            · have h := h.1 c_5
              exact J39 _ _ _ _ _ h  hP hS (lv_sub hl [0, 1, 2] rfl)
            · have h := h.2 c_5
              refine lv_aload_n hx hb dX1_layInverses_32 rfl (lv_at hl 0 rfl) ?_
              refine x_get (CC := RX1) (TT := TX1) (N := 26) (ci := 0) (v := .ref (b + 1)) hx hb hts in_X1 hown hK hP (xs_0 hP) (by decide) (by decide) rfl (xE_8 (xs_0 hP)) 5 (by decide) q390 rfl rfl dX1_layInverses_33 ?_
              refine lv_iload_n hx hb dX1_layInverses_36 rfl (lv_at hl 1 rfl) ?_
              refine lv_iload_n hx hb dX1_layInverses_37 rfl (lv_at hl 2 rfl) ?_
              obtain ⟨j_3, hj_3, ej_3, h⟩ := h
              obtain ⟨T_4, eT_4⟩ : ∃ z : XT, z = xwi T 1 j_3 x2 := ⟨_, rfl⟩
              have h := h T_4 eT_4
              refine x_iast hx hb hK hP hS (xs_1 hP) ej_3 (by rw [xl_1 hP]; exact hj_3) dX1_layInverses_38 (fun H locs hP hS => ?_)
              rw [← eT_4] at hP
              exact J39 _ _ _ _ _ h  hP hS (lv_sub hl [0, 1, 2] rfl)
      unfold wx1_layInverses_b2 at h
      refine lv_iload_n hx hb dX1_layInverses_2 rfl (lv_at hl 1 rfl) ?_
      refine lv_aload_n hx hb dX1_layInverses_3 rfl (lv_at hl 0 rfl) ?_
      refine x_get (CC := RX1) (TT := TX1) (N := 26) (ci := 0) (v := .int (xi T 0 0)) hx hb hts in_X1 hown hK hP (xs_0 hP) (by decide) (by decide) rfl (xE_8 (xs_0 hP)) 0 (by decide) q384 rfl rfl dX1_layInverses_4 ?_
      refine lv_icmp_ge (tgt := 51) hx hb dX1_layInverses_7 (by decide) (fun c_7 => ?_) (fun c_7 => ?_)
      · have h := h.1 c_7
        exact W.vret hx hb hr (fun t ht hW => ⟨⟨(), T, K, rfl, ⟨h, rfl⟩, kle.rf, rfl, rfl, by rw [ht]; exact hP, va_K.moved hW.alike hK⟩, hS.F ht⟩) hS.2.2 dX1_layInverses_51
      · have h := h.2 c_7
        refine lv_iconst (v := 1) hx hb dX1_layInverses_10 (by decide) ?_
        refine lv_istore_n (lv' := [(2, .int 1), (0, .ref (b + 0)), (1, .int x1)]) hx hb dX1_layInverses_11 rfl hl (by decide) rfl (fun ls hl => ?_)
        exact L12 _ _ _ _ _ _ h  hP hS (lv_sub hl [1, 2, 0] rfl)
  unfold wx1_layInverses at h
  refine lv_iconst (v := 1) hx hb dX1_layInverses_0 (by decide) ?_
  refine lv_istore_n (lv' := [(1, .int 1), (0, .ref (b + 0))]) hx hb dX1_layInverses_1 rfl hl (by decide) rfl (fun ls hl => ?_)
  exact L2 _ _ _ _ _ h  hP hS (lv_sub hl [1, 0] rfl)
theorem cwx_X1_orderOf : yX1_orderOf.cls ≠ "java/lang/invoke/MethodHandle" ∧ yX1_orderOf.cls ≠ "java/lang/invoke/VarHandle" ∧ (parseMethodDescriptor yX1_orderOf.desc).map (fun d => d.parameters.length) = some 3 := by decide +kernel
def wx1_orderOf (p1 : Int32) (p2 : Int32) (p3 : Int32) (K0 : XK) (T : XT) (Z Y : Nat) (post : Nat → XT → XK → Prop) : Prop :=
  ∀ x3_1 : Int32, x3_1 = ((3 - p2) - p3) →
  ((¬ p1 = 0 →
    ((¬ p1 = 1 →
      kc K0 + 1 ≤ Z ∧ ks K0 + 3 ≤ Y ∧ ∀ K_2 : XK, K_2 = knew K0 16 2 3 → ∀ T_3 : XT, T_3 = xlm T (kz K0) x3_1 p3 p2 →
      post (kz K0) T_3 (kset K_2 Z Y)) ∧
     (p1 = 1 →
      kc K0 + 1 ≤ Z ∧ ks K0 + 3 ≤ Y ∧ ∀ K_4 : XK, K_4 = knew K0 16 1 3 → ∀ T_5 : XT, T_5 = xlm T (kz K0) p2 p3 x3_1 →
      post (kz K0) T_5 (kset K_4 Z Y)))) ∧
   (p1 = 0 →
    kc K0 + 1 ≤ Z ∧ ks K0 + 3 ≤ Y ∧ ∀ K_7 : XK, K_7 = knew K0 16 0 3 → ∀ T_8 : XT, T_8 = xlm T (kz K0) p2 p3 x3_1 →
    post (kz K0) T_8 (kset K_7 Z Y)))
set_option maxHeartbeats 4000000 in
theorem mx1_orderOf (l : Launch) (G : XG) (b : Nat) (hole : Nat → Prop) (p1 : Int32) (p2 : Int32) (p3 : Int32) (K0 : XK) (T : XT) (Z Y : Nat) (hZ : kc K0 ≤ Z) (hY : ks K0 ≤ Y)  (post : Nat → XT → XK → Prop) (h : wx1_orderOf p1 p2 p3 K0 T Z Y post) : Met l yX1_orderOf (ws_ yX1_orderOf cX1_orderOf 4 (some (.object "TermDesk$Order"))) ({ frames := 1, cells := (Z - kc K0), slots := (Y - ks K0), locals := 3100 } : Room) (xPc G b hole [.int p1, .int p2, .int p3] K0 T) (xQ G b hole K0 (Z - kc K0) (Y - ks K0) (ρ := Nat) (eR b) (fun r T1 K1 => post r T1 K1 ∧ kd K1 r = 16)) (Z - kc K0) (Y - ks K0) (xA b hole) := by
  refine Met.ofW (cc := cX1_orderOf) (maxL := 4) (ret := (some (.object "TermDesk$Order"))) (by decide) rfl ?_
  intro p e s m args below meth c s₁ B hml hv
  obtain ⟨rfl, hP, hK, hV⟩ := hv
  have hx := B.exec
  have hb := B.bytes
  have hr := B.returns
  have hts := atoms_spec (ws := ws_ yX1_orderOf cX1_orderOf 4 (some (.object "TermDesk$Order"))) B.pre
  have hts : ∀ w ∈ lw_all, w.before _ s = true := fun w h => hts w (List.mem_cons_of_mem _ h)
  have hown : s.vm.findClass RX1 = some m.cls := findClass_of_methodNamed B.named
  have hlocks := B.notSynchronized
  have hb0 : b ≤ s.heap.size := by rw [hP.2.2.2]; exact Nat.le_add_right _ _
  have hS : va_S (xA b hole) s.heap s.heap [] := va_S.rf
  have hl := lv_entry ([.int p1, .int p2, .int p3]) (n := 4) (Nat.le_of_ble_eq_true rfl)
  rw [lg_entry_eq]
  generalize (lg_sl ([.int p1, .int p2, .int p3]) ++ List.replicate (4 - (lg_sl ([.int p1, .int p2, .int p3])).length) Slot.unset).toArray = ls at hl ⊢
  have hl : lv_has ls 4 [(0, .int p1), (1, .int p2), (2, .int p3)] := hl
  have hle0 : kle K0 K0 := kle.rf
  have hcn : kc K0 + 0 = kc K0 := rfl
  have hsn : ks K0 + 0 = ks K0 := rfl
  have hzz := hZ
  have hyy := hY
  unfold wx1_orderOf at h
  refine lv_iconst (v := 3) hx hb dX1_orderOf_0 (by decide) ?_
  refine lv_iload_n hx hb dX1_orderOf_1 rfl (lv_at hl 1 rfl) ?_
  refine lv_isub hx hb dX1_orderOf_2 ?_
  refine lv_iload_n hx hb dX1_orderOf_3 rfl (lv_at hl 2 rfl) ?_
  refine lv_isub hx hb dX1_orderOf_4 ?_
  refine lv_topi (fun x3_1 ex3_1 => ?_)
  have h := h x3_1 ex3_1
  refine lv_istore_n (lv' := [(3, .int x3_1), (0, .int p1), (1, .int p2), (2, .int p3)]) hx hb dX1_orderOf_5 rfl hl (by decide) rfl (fun ls hl => ?_)
  refine lv_iload_n hx hb dX1_orderOf_6 rfl (lv_at hl 1 rfl) ?_
  refine lv_if_ne (tgt := 19) hx hb dX1_orderOf_7 (by decide) (fun c_9 => ?_) (fun c_9 => ?_)
  · have h := h.1 c_9
    refine lv_iload_n hx hb dX1_orderOf_19 rfl (lv_at hl 1 rfl) ?_
    refine lv_iconst (v := 1) hx hb dX1_orderOf_20 (by decide) ?_
    refine lv_icmp_ne (tgt := 33) hx hb dX1_orderOf_21 (by decide) (fun c_6 => ?_) (fun c_6 => ?_)
    · have h := h.1 c_6
      refine lv_iload_n hx hb dX1_orderOf_33 rfl (lv_at hl 0 rfl) ?_
      refine lv_iload_n hx hb dX1_orderOf_34 rfl (lv_at hl 3 rfl) ?_
      refine lv_iload_n hx hb dX1_orderOf_35 rfl (lv_at hl 2 rfl) ?_
      obtain ⟨hc1, hs1, h⟩ := h
      obtain ⟨K_2, eK_2⟩ : ∃ z : XK, z = knew K0 16 2 3 := ⟨_, rfl⟩
      obtain ⟨T_3, eT_3⟩ : ∃ z : XT, z = xlm T (kz K0) x3_1 p3 p2 := ⟨_, rfl⟩
      have h := h K_2 eK_2 T_3 eT_3
      have hle1 : kle K0 K_2 := by rw [eK_2]; exact kle.new hP.2.2.1 _ _ _
      refine x_indy (k := 2) hx hb (hml.trans hl.1.symm) B.named hV hP hS (by decide) rfl (Nat.le_of_ble_eq_true rfl) (by show _ + 1 ≤ Z - kc K0; omega) (by show _ + _ ≤ Y - ks K0; omega) dX1_orderOf_36 (fun H hP hS => ?_)
      rw [← eK_2, ← eT_3] at hP
      have hk_n2 : kd K_2 (kz K0) = 16 := by rw [eK_2]; exact knew_kd
      have hle0 := hle0.tr hle1
      have hcn : kc K0 + (0 + 1) = kc K_2 := by rw [eK_2]; show _ = kc K0 + 1; omega
      have hsn : ks K0 + (0 + 3) = ks K_2 := by rw [eK_2]; show _ = ks K0 + 3; omega
      have hzz : kc K_2 ≤ Z := by rw [eK_2]; exact hc1
      have hyy : ks K_2 ≤ Y := by rw [eK_2]; exact hs1
      refine W.widen (k := Z - kc K0) (n := Y - ks K0) (by omega) (by omega) ?_
      exact W.aret (v := .ref (b + (kz K0))) hx hb hr (Or.inl ⟨_, rfl⟩) (Or.inr ⟨_, rfl⟩) (fun t ht hW => ⟨⟨(kz K0), T_3, (kset K_2 Z Y), rfl, ⟨h, hk_n2⟩, hle0, (by show Z = _; omega), (by show Y = _; omega), by rw [ht]; exact hP, va_K.moved hW.alike hK⟩, hS.F ht⟩) hS.2.2 dX1_orderOf_41
    · have h := h.2 c_6
      refine lv_iload_n hx hb dX1_orderOf_24 rfl (lv_at hl 2 rfl) ?_
      refine lv_iload_n hx hb dX1_orderOf_25 rfl (lv_at hl 3 rfl) ?_
      refine lv_iload_n hx hb dX1_orderOf_26 rfl (lv_at hl 0 rfl) ?_
      obtain ⟨hc1, hs1, h⟩ := h
      obtain ⟨K_4, eK_4⟩ : ∃ z : XK, z = knew K0 16 1 3 := ⟨_, rfl⟩
      obtain ⟨T_5, eT_5⟩ : ∃ z : XT, z = xlm T (kz K0) p2 p3 x3_1 := ⟨_, rfl⟩
      have h := h K_4 eK_4 T_5 eT_5
      have hle1 : kle K0 K_4 := by rw [eK_4]; exact kle.new hP.2.2.1 _ _ _
      refine x_indy (k := 1) hx hb (hml.trans hl.1.symm) B.named hV hP hS (by decide) rfl (Nat.le_of_ble_eq_true rfl) (by show _ + 1 ≤ Z - kc K0; omega) (by show _ + _ ≤ Y - ks K0; omega) dX1_orderOf_27 (fun H hP hS => ?_)
      rw [← eK_4, ← eT_5] at hP
      have hk_n4 : kd K_4 (kz K0) = 16 := by rw [eK_4]; exact knew_kd
      have hle0 := hle0.tr hle1
      have hcn : kc K0 + (0 + 1) = kc K_4 := by rw [eK_4]; show _ = kc K0 + 1; omega
      have hsn : ks K0 + (0 + 3) = ks K_4 := by rw [eK_4]; show _ = ks K0 + 3; omega
      have hzz : kc K_4 ≤ Z := by rw [eK_4]; exact hc1
      have hyy : ks K_4 ≤ Y := by rw [eK_4]; exact hs1
      refine W.widen (k := Z - kc K0) (n := Y - ks K0) (by omega) (by omega) ?_
      exact W.aret (v := .ref (b + (kz K0))) hx hb hr (Or.inl ⟨_, rfl⟩) (Or.inr ⟨_, rfl⟩) (fun t ht hW => ⟨⟨(kz K0), T_5, (kset K_4 Z Y), rfl, ⟨h, hk_n4⟩, hle0, (by show Z = _; omega), (by show Y = _; omega), by rw [ht]; exact hP, va_K.moved hW.alike hK⟩, hS.F ht⟩) hS.2.2 dX1_orderOf_32
  · have h := h.2 c_9
    refine lv_iload_n hx hb dX1_orderOf_10 rfl (lv_at hl 2 rfl) ?_
    refine lv_iload_n hx hb dX1_orderOf_11 rfl (lv_at hl 3 rfl) ?_
    refine lv_iload_n hx hb dX1_orderOf_12 rfl (lv_at hl 0 rfl) ?_
    obtain ⟨hc1, hs1, h⟩ := h
    obtain ⟨K_7, eK_7⟩ : ∃ z : XK, z = knew K0 16 0 3 := ⟨_, rfl⟩
    obtain ⟨T_8, eT_8⟩ : ∃ z : XT, z = xlm T (kz K0) p2 p3 x3_1 := ⟨_, rfl⟩
    have h := h K_7 eK_7 T_8 eT_8
    have hle1 : kle K0 K_7 := by rw [eK_7]; exact kle.new hP.2.2.1 _ _ _
    refine x_indy (k := 0) hx hb (hml.trans hl.1.symm) B.named hV hP hS (by decide) rfl (Nat.le_of_ble_eq_true rfl) (by show _ + 1 ≤ Z - kc K0; omega) (by show _ + _ ≤ Y - ks K0; omega) dX1_orderOf_13 (fun H hP hS => ?_)
    rw [← eK_7, ← eT_8] at hP
    have hk_n7 : kd K_7 (kz K0) = 16 := by rw [eK_7]; exact knew_kd
    have hle0 := hle0.tr hle1
    have hcn : kc K0 + (0 + 1) = kc K_7 := by rw [eK_7]; show _ = kc K0 + 1; omega
    have hsn : ks K0 + (0 + 3) = ks K_7 := by rw [eK_7]; show _ = ks K0 + 3; omega
    have hzz : kc K_7 ≤ Z := by rw [eK_7]; exact hc1
    have hyy : ks K_7 ≤ Y := by rw [eK_7]; exact hs1
    refine W.widen (k := Z - kc K0) (n := Y - ks K0) (by omega) (by omega) ?_
    exact W.aret (v := .ref (b + (kz K0))) hx hb hr (Or.inl ⟨_, rfl⟩) (Or.inr ⟨_, rfl⟩) (fun t ht hW => ⟨⟨(kz K0), T_8, (kset K_7 Z Y), rfl, ⟨h, hk_n7⟩, hle0, (by show Z = _; omega), (by show Y = _; omega), by rw [ht]; exact hP, va_K.moved hW.alike hK⟩, hS.F ht⟩) hS.2.2 dX1_orderOf_18
theorem cwx_X1_becomes : yX1_becomes.cls = RX1 ∧ yX1_becomes.cls ≠ "java/lang/invoke/MethodHandle" ∧ yX1_becomes.cls ≠ "java/lang/invoke/VarHandle" ∧ (parseMethodDescriptor yX1_becomes.desc).map (fun d => d.parameters.length) = some 3 := by decide +kernel
def wx1_becomes (p1 : Int32) (p2 : Int32) (p3 : Int32) (K0 : XK) (T : XT) (Z Y : Nat) (post : XT → XK → Prop) : Prop :=
  ∀ T_1 : XT, T_1 = xwi T 0 1 p1 →
  ∀ T_2 : XT, T_2 = xwi T_1 0 2 p2 →
  ∀ T_3 : XT, T_3 = xwi T_2 0 3 p3 →
  ∃ Z_7 Y_8 : Nat, kc K0 ≤ Z_7 ∧ Z_7 ≤ Z ∧ ks K0 ≤ Y_8 ∧ Y_8 ≤ Y ∧ wx1_orderOf (xi T_3 0 1) (xi T_3 0 2) (xi T_3 0 3) K0 T_3 Z_7 Y_8 (fun r_4 T_5 K_6 =>
  ∀ T_9 : XT, T_9 = xwr T_5 0 4 (some r_4) →
  post T_9 (kset K_6 Z Y))
set_option maxHeartbeats 4000000 in
theorem mx1_becomes (l : Launch) (G : XG) (b : Nat) (hole : Nat → Prop) (p1 : Int32) (p2 : Int32) (p3 : Int32) (K0 : XK) (T : XT) (Z Y : Nat) (hZ : kc K0 ≤ Z) (hY : ks K0 ≤ Y)  (post : XT → XK → Prop) (h : wx1_becomes p1 p2 p3 K0 T Z Y post) : Met l yX1_becomes (ws_ yX1_becomes cX1_becomes 4 none) ({ frames := 2, cells := (Z - kc K0), slots := (Y - ks K0), locals := 3123 } : Room) (xPc G b hole [.ref (b + 0), .int p1, .int p2, .int p3] K0 T) (xQ G b hole K0 (Z - kc K0) (Y - ks K0) (ρ := Unit) eV (fun r T1 K1 => post T1 K1)) (Z - kc K0) (Y - ks K0) (xA b hole) := by
  refine Met.ofW (cc := cX1_becomes) (maxL := 4) (ret := none) (by decide) rfl ?_
  intro p e s m args below meth c s₁ B hml hv
  obtain ⟨rfl, hP, hK, hV⟩ := hv
  have hx := B.exec
  have hb := B.bytes
  have hr := B.returns
  have hts := atoms_spec (ws := ws_ yX1_becomes cX1_becomes 4 none) B.pre
  have hts : ∀ w ∈ lw_all, w.before _ s = true := fun w h => hts w (List.mem_cons_of_mem _ h)
  have hown : s.vm.findClass RX1 = some m.cls := findClass_of_methodNamed B.named
  have hlocks := B.notSynchronized
  have hb0 : b ≤ s.heap.size := by rw [hP.2.2.2]; exact Nat.le_add_right _ _
  have hS : va_S (xA b hole) s.heap s.heap [] := va_S.rf
  have hl := lv_entry ([.ref (b + 0), .int p1, .int p2, .int p3]) (n := 4) (Nat.le_of_ble_eq_true rfl)
  rw [lg_entry_eq]
  generalize (lg_sl ([.ref (b + 0), .int p1, .int p2, .int p3]) ++ List.replicate (4 - (lg_sl ([.ref (b + 0), .int p1, .int p2, .int p3])).length) Slot.unset).toArray = ls at hl ⊢
  have hl : lv_has ls 4 [(0, .ref (b + 0)), (1, .int p1), (2, .int p2), (3, .int p3)] := hl
  have hle0 : kle K0 K0 := kle.rf
  have hcn : kc K0 + 0 = kc K0 := rfl
  have hsn : ks K0 + 0 = ks K0 := rfl
  have hzz := hZ
  have hyy := hY
  unfold wx1_becomes at h
  refine lv_aload_n hx hb dX1_becomes_0 rfl (lv_at hl 0 rfl) ?_
  refine lv_iload_n hx hb dX1_becomes_1 rfl (lv_at hl 1 rfl) ?_
  obtain ⟨T_1, eT_1⟩ : ∃ z : XT, z = xwi T 0 1 p1 := ⟨_, rfl⟩
  have h := h T_1 eT_1
  refine x_put (CC := RX1) (TT := TX1) (N := 26) (ci := 0) (T1 := T_1) (v := .int p1) (ty := .int) (fsf := fun T => fs8 (gem G) b T 0) hx hb hts in_X1 tyX1 tyX1_ok nmX1 hown hK hP hS (xs_0 hP) (by decide) (by decide) rfl (fun _ => xE_8 (xs_0 hP)) rfl 1 (by decide) q385 rfl (Or.inl rfl) rfl rfl rfl (by rw [eT_1]; exact fw8_1 _ b T 0 p1) (by rw [eT_1]; exact fun q hq => xwi_i hq) (by rw [eT_1]; exact fun _ _ => rfl) (by rw [eT_1]; exact xwi_ty hP (by rw [(xs_0 hP)]; decide)) dX1_becomes_2 (fun H locs hP hS => ?_)
  refine lv_aload_n hx hb dX1_becomes_5 rfl (lv_at hl 0 rfl) ?_
  refine lv_iload_n hx hb dX1_becomes_6 rfl (lv_at hl 2 rfl) ?_
  obtain ⟨T_2, eT_2⟩ : ∃ z : XT, z = xwi T_1 0 2 p2 := ⟨_, rfl⟩
  have h := h T_2 eT_2
  refine x_put (CC := RX1) (TT := TX1) (N := 26) (ci := 0) (T1 := T_2) (v := .int p2) (ty := .int) (fsf := fun T => fs8 (gem G) b T 0) hx hb hts in_X1 tyX1 tyX1_ok nmX1 hown hK hP hS (xs_0 hP) (by decide) (by decide) rfl (fun _ => xE_8 (xs_0 hP)) rfl 2 (by decide) q386 rfl (Or.inl rfl) rfl rfl rfl (by rw [eT_2]; exact fw8_2 _ b T_1 0 p2) (by rw [eT_2]; exact fun q hq => xwi_i hq) (by rw [eT_2]; exact fun _ _ => rfl) (by rw [eT_2]; exact xwi_ty hP (by rw [(xs_0 hP)]; decide)) dX1_becomes_7 (fun H locs hP hS => ?_)
  refine lv_aload_n hx hb dX1_becomes_10 rfl (lv_at hl 0 rfl) ?_
  refine lv_iload_n hx hb dX1_becomes_11 rfl (lv_at hl 3 rfl) ?_
  obtain ⟨T_3, eT_3⟩ : ∃ z : XT, z = xwi T_2 0 3 p3 := ⟨_, rfl⟩
  have h := h T_3 eT_3
  refine x_put (CC := RX1) (TT := TX1) (N := 26) (ci := 0) (T1 := T_3) (v := .int p3) (ty := .int) (fsf := fun T => fs8 (gem G) b T 0) hx hb hts in_X1 tyX1 tyX1_ok nmX1 hown hK hP hS (xs_0 hP) (by decide) (by decide) rfl (fun _ => xE_8 (xs_0 hP)) rfl 3 (by decide) q387 rfl (Or.inl rfl) rfl rfl rfl (by rw [eT_3]; exact fw8_3 _ b T_2 0 p3) (by rw [eT_3]; exact fun q hq => xwi_i hq) (by rw [eT_3]; exact fun _ _ => rfl) (by rw [eT_3]; exact xwi_ty hP (by rw [(xs_0 hP)]; decide)) dX1_becomes_12 (fun H locs hP hS => ?_)
  refine lv_aload_n hx hb dX1_becomes_15 rfl (lv_at hl 0 rfl) ?_
  refine lv_aload_n hx hb dX1_becomes_16 rfl (lv_at hl 0 rfl) ?_
  refine x_get (CC := RX1) (TT := TX1) (N := 26) (ci := 0) (v := .int (xi T_3 0 1)) hx hb hts in_X1 hown hK hP (xs_0 hP) (by decide) (by decide) rfl (xE_8 (xs_0 hP)) 1 (by decide) q385 rfl rfl dX1_becomes_17 ?_
  refine lv_aload_n hx hb dX1_becomes_20 rfl (lv_at hl 0 rfl) ?_
  refine x_get (CC := RX1) (TT := TX1) (N := 26) (ci := 0) (v := .int (xi T_3 0 2)) hx hb hts in_X1 hown hK hP (xs_0 hP) (by decide) (by decide) rfl (xE_8 (xs_0 hP)) 2 (by decide) q386 rfl rfl dX1_becomes_21 ?_
  refine lv_aload_n hx hb dX1_becomes_24 rfl (lv_at hl 0 rfl) ?_
  refine x_get (CC := RX1) (TT := TX1) (N := 26) (ci := 0) (v := .int (xi T_3 0 3)) hx hb hts in_X1 hown hK hP (xs_0 hP) (by decide) (by decide) rfl (xE_8 (xs_0 hP)) 3 (by decide) q387 rfl rfl dX1_becomes_25 ?_
  obtain ⟨Z_7, Y_8, hz1, hz2, hy1, hy2, h⟩ := h
  refine x_cS (As := [.int (xi T_3 0 1), .int (xi T_3 0 2), .int (xi T_3 0 3)]) (rest := [.ref (b + 0)]) ⟨hx, hb, hml, hown, hts⟩ (mx1_orderOf l G b hole (xi T_3 0 1) (xi T_3 0 2) (xi T_3 0 3) K0 T_3 Z_7 Y_8 hz1 hy1  _ h) (va_cwS 3 hts (lw_S q715 q716 q118 q717) rfl rfl rfl cwx_X1_orderOf ⟨Nat.le_of_ble_eq_true rfl, Nat.le_of_ble_eq_true rfl⟩) hK hV hb0 hP hS rfl hl.1 rfl (Nat.le_of_ble_eq_true rfl) dX1_becomes_28 ⟨by first | exact Nat.zero_le _ | (show _ + _ ≤ Z - kc K0; omega), by first | exact Nat.zero_le _ | (show _ + _ ≤ Y - ks K0; omega)⟩ (fun r_4 T1 K1 H locs h hle1 hc1 hs1 hP hS => ?_)
  obtain ⟨h, hk_r_4⟩ := h
  generalize T1 = T_5 at h hP
  generalize K1 = K_6 at h hP hle1 hc1 hs1 hk_r_4
  have hle0 := hle0.tr hle1
  have hcn : kc K0 + (0 + (Z_7 - kc K0)) = kc K_6 := by omega
  have hsn : ks K0 + (0 + (Y_8 - ks K0)) = ks K_6 := by omega
  have hzz : kc K_6 ≤ Z := by omega
  have hyy : ks K_6 ≤ Y := by omega
  obtain ⟨T_9, eT_9⟩ : ∃ z : XT, z = xwr T_5 0 4 (some r_4) := ⟨_, rfl⟩
  have h := h T_9 eT_9
  refine x_put (CC := RX1) (TT := TX1) (N := 26) (ci := 0) (T1 := T_9) (v := .ref (b + r_4)) (ty := _) (fsf := fun T => fs8 (gem G) b T 0) hx hb hts in_X1 tyX1 tyX1_ok nmX1 hown hK hP hS (xs_0 hP) (by decide) (by decide) rfl (fun _ => xE_8 (xs_0 hP)) rfl 4 (by decide) q388 rfl (Or.inl rfl) rfl rfl rfl (by rw [eT_9]; exact fw8_4 _ b T_5 0 (some r_4)) (by rw [eT_9]; exact fun _ _ => rfl) (by rw [eT_9]; exact fun q hq => xwr_r hq) (by rw [eT_9]; exact xwr_ty hP (by rw [(xs_0 hP)]; decide) (fun p e9 => by cases e9; rw [hk_r_4, (xs_0 hP)]; exact ⟨rfl, by decide⟩)) dX1_becomes_31 (fun H locs hP hS => ?_)
  refine W.widen (k := Z - kc K0) (n := Y - ks K0) (by omega) (by omega) ?_
  exact W.vret hx hb hr (fun t ht hW => ⟨⟨(), T_9, (kset K_6 Z Y), rfl, h, hle0, (by show Z = _; omega), (by show Y = _; omega), by rw [ht]; exact hP, va_K.moved hW.alike hK⟩, hS.F ht⟩) hS.2.2 dX1_becomes_34
theorem cwx_J3_fill_2 : yJ3_fill_2.cls ≠ "java/lang/invoke/MethodHandle" ∧ yJ3_fill_2.cls ≠ "java/lang/invoke/VarHandle" ∧ (parseMethodDescriptor yJ3_fill_2.desc).map (fun d => d.parameters.length) = some 2 := by decide +kernel
def wxJ3_fill_2_b5 (p1 : Nat) (p2 : Int32) (post : XT → Prop) (R5 : Int32 → XT → Prop) (x3 : Int32) (x2 : Int32) (K : XK) (T : XT) : Prop :=
      ((x3 ≤ x2 →
        post T) ∧
       (¬ (x3 ≤ x2) →
        ∃ j_1 : Nat, j_1 < kl K p1 ∧ x2 = nI j_1 ∧ ∀ T_2 : XT, T_2 = xwi T p1 j_1 p2 →
        ∀ x2_3 : Int32, x2_3 = x2 + 1 →
        R5 x2_3 T_2))
def wxJ3_fill_2_l5 (p1 : Nat) (p2 : Int32) (post : XT → Prop) (x3 : Int32) (x2 : Int32) (K : XK) (T : XT) : Prop := wLoop (fun (R : ((Int32) × (XT)) → Prop) (v : (Int32) × (XT)) => wxJ3_fill_2_b5 p1 p2 post (fun x2 T => R (x2, T)) x3 v.1 K v.2) (x2, T)
def wxJ3_fill_2 (p1 : Nat) (p2 : Int32) (K : XK) (T : XT) (post : XT → Prop) : Prop :=
  ∀ x3_5 : Int32, x3_5 = (nI (kl K p1)) →
  wxJ3_fill_2_l5 p1 p2 post x3_5 0 K T
set_option maxHeartbeats 4000000 in
theorem mxJ3_fill_2 (l : Launch) (G : XG) (b : Nat) (hole : Nat → Prop) (p1 : Nat) (p2 : Int32) (K : XK) (T : XT) (hk_p1 : kd K p1 = 1) (post : XT → Prop) (h : wxJ3_fill_2 p1 p2 K T post) : Met l yJ3_fill_2 (ws_ yJ3_fill_2 cJ3_fill_2 4 none) ({ frames := 0, cells := 0, slots := 0, locals := 0 } : Room) (xPc G b hole [.ref (b + p1), .int p2] K T) (xQ G b hole K 0 0 (ρ := Unit) eV (fun r T1 K1 => post T1 ∧ K1 = K)) 0 0 (xA b hole) := by
  refine Met.ofW (cc := cJ3_fill_2) (maxL := 4) (ret := none) (by decide) rfl ?_
  intro p e s m args below meth c s₁ B hml hv
  obtain ⟨rfl, hP, hK, hV⟩ := hv
  have hx := B.exec
  have hb := B.bytes
  have hr := B.returns
  have hts := atoms_spec (ws := ws_ yJ3_fill_2 cJ3_fill_2 4 none) B.pre
  have hts : ∀ w ∈ lw_all, w.before _ s = true := fun w h => hts w (List.mem_cons_of_mem _ h)
  have hown : s.vm.findClass RJ3 = some m.cls := findClass_of_methodNamed B.named
  have hlocks := B.notSynchronized
  have hb0 : b ≤ s.heap.size := by rw [hP.2.2.2]; exact Nat.le_add_right _ _
  have hS : va_S (xA b hole) s.heap s.heap [] := va_S.rf
  have hl := lv_entry ([.ref (b + p1), .int p2]) (n := 4) (Nat.le_of_ble_eq_true rfl)
  rw [lg_entry_eq]
  generalize (lg_sl ([.ref (b + p1), .int p2]) ++ List.replicate (4 - (lg_sl ([.ref (b + p1), .int p2])).length) Slot.unset).toArray = ls at hl ⊢
  have hl : lv_has ls 4 [(0, .ref (b + p1)), (1, .int p2)] := hl
  have L5 : ∀ (x3 : Int32) (x2 : Int32) (T : XT) (H : Heap) (locs : List Loc) (ls : Array Slot), wxJ3_fill_2_l5 p1 p2 post x3 x2 K T → xW G b hole K T H → va_S (xA b hole) s.heap H locs → lv_has ls 4 [(0, .ref (b + p1)), (1, .int p2), (2, .int x2), (3, .int x3)] → W p l e (headSpec (ws_ yJ3_fill_2 cJ3_fill_2 4 none) ({ frames := 0, cells := 0, slots := 0, locals := 0 } : Room)).room s m ([.ref (b + p1), .int p2] : List Value).toArray below meth c H locs 0 0 (MQ below (xQ G b hole K 0 0 (ρ := Unit) eV (fun r T1 K1 => post T1 ∧ K1 = K)) ([.ref (b + p1), .int p2] : List Value).toArray s 0 0 (xA b hole)) (F0 m 5 ls []) := by
    intro x3 x2 T H locs ls h hP hS hl
    obtain ⟨I5, n5, hI, hstep5⟩ := h
    induction n5 using Nat.strongRecOn generalizing x2 T H locs ls with
    | ind n5 ih5 =>
      have h : wxJ3_fill_2_b5 p1 p2 post (fun x2 T => ∃ mm, mm < n5 ∧ I5 mm (x2, T)) x3 x2 K T := hstep5 n5 _ hI
      clear hI
      unfold wxJ3_fill_2_b5 at h
      refine lv_iload_n hx hb dJ3_fill_2_5 rfl (lv_at hl 2 rfl) ?_
      refine lv_iload_n hx hb dJ3_fill_2_6 rfl (lv_at hl 3 rfl) ?_
      refine lv_icmp_ge (tgt := 20) hx hb dJ3_fill_2_7 (by decide) (fun c_4 => ?_) (fun c_4 => ?_)
      · have h := h.1 c_4
        exact W.vret hx hb hr (fun t ht hW => ⟨⟨(), T, K, rfl, ⟨h, rfl⟩, kle.rf, rfl, rfl, by rw [ht]; exact hP, va_K.moved hW.alike hK⟩, hS.F ht⟩) hS.2.2 dJ3_fill_2_20
      · have h := h.2 c_4
        refine lv_aload_n hx hb dJ3_fill_2_10 rfl (lv_at hl 0 rfl) ?_
        refine lv_iload_n hx hb dJ3_fill_2_11 rfl (lv_at hl 2 rfl) ?_
        refine lv_iload_n hx hb dJ3_fill_2_12 rfl (lv_at hl 1 rfl) ?_
        obtain ⟨j_1, hj_1, ej_1, h⟩ := h
        obtain ⟨T_2, eT_2⟩ : ∃ z : XT, z = xwi T p1 j_1 p2 := ⟨_, rfl⟩
        have h := h T_2 eT_2
        refine x_iast hx hb hK hP hS hk_p1 ej_1 hj_1 dJ3_fill_2_13 (fun H locs hP hS => ?_)
        rw [← eT_2] at hP
        obtain ⟨x2_3, ex2_3⟩ : ∃ y : Int32, y = x2 + 1 := ⟨_, rfl⟩
        have h := h x2_3 ex2_3
        refine lv_iinc (v := x2_3) (lv' := [(2, .int x2_3), (0, .ref (b + p1)), (1, .int p2), (3, .int x3)]) hx hb dJ3_fill_2_14 hl (k := 2) rfl (by rw [ex2_3]; rfl) (by decide) rfl (fun ls hl => ?_)
        refine lv_goto (tgt := 5) hx hb dJ3_fill_2_17 (by decide) ?_
        obtain ⟨mm, hmm, h⟩ := h
        exact ih5 mm hmm _ _ _ _ _  hP hS (lv_sub hl [1, 2, 0, 3] rfl) h
  unfold wxJ3_fill_2 at h
  refine lv_iconst (v := 0) hx hb dJ3_fill_2_0 (by decide) ?_
  refine lv_istore_n (lv' := [(2, .int 0), (0, .ref (b + p1)), (1, .int p2)]) hx hb dJ3_fill_2_1 rfl hl (by decide) rfl (fun ls hl => ?_)
  refine lv_aload_n hx hb dJ3_fill_2_2 rfl (lv_at hl 1 rfl) ?_
  refine x_alen1 hx hb hK hP hk_p1 dJ3_fill_2_3 ?_
  refine lv_topi (fun x3_5 ex3_5 => ?_)
  have h := h x3_5 ex3_5
  refine lv_istore_n (lv' := [(3, .int x3_5), (2, .int 0), (0, .ref (b + p1)), (1, .int p2)]) hx hb dJ3_fill_2_4 rfl hl (by decide) rfl (fun ls hl => ?_)
  exact L5 _ _ _ _ _ _ h  hP hS (lv_sub hl [2, 3, 1, 0] rfl)
theorem cwx_X1_blank : yX1_blank.cls = RX1 ∧ yX1_blank.cls ≠ "java/lang/invoke/MethodHandle" ∧ yX1_blank.cls ≠ "java/lang/invoke/VarHandle" ∧ (parseMethodDescriptor yX1_blank.desc).map (fun d => d.parameters.length) = some 0 := by decide +kernel
def wx1_blank  (K : XK) (T : XT) (post : Nat → XT → Prop) : Prop :=
  wxJ3_fill_2 2 0 K T (fun T_2 =>
  post 2 T_2)
set_option maxHeartbeats 4000000 in
theorem mx1_blank (l : Launch) (G : XG) (b : Nat) (hole : Nat → Prop)  (K : XK) (T : XT)  (post : Nat → XT → Prop) (h : wx1_blank  K T post) : Met l yX1_blank (ws_ yX1_blank cX1_blank 1 (some (.array .int))) ({ frames := 1, cells := 0, slots := 0, locals := 23 } : Room) (xPc G b hole [.ref (b + 0)] K T) (xQ G b hole K 0 0 (ρ := Nat) (eR b) (fun r T1 K1 => post r T1 ∧ kd K1 r = 1 ∧ K1 = K)) 0 0 (xA b hole) := by
  refine Met.ofW (cc := cX1_blank) (maxL := 1) (ret := (some (.array .int))) (by decide) rfl ?_
  intro p e s m args below meth c s₁ B hml hv
  obtain ⟨rfl, hP, hK, hV⟩ := hv
  have hx := B.exec
  have hb := B.bytes
  have hr := B.returns
  have hts := atoms_spec (ws := ws_ yX1_blank cX1_blank 1 (some (.array .int))) B.pre
  have hts : ∀ w ∈ lw_all, w.before _ s = true := fun w h => hts w (List.mem_cons_of_mem _ h)
  have hown : s.vm.findClass RX1 = some m.cls := findClass_of_methodNamed B.named
  have hlocks := B.notSynchronized
  have hb0 : b ≤ s.heap.size := by rw [hP.2.2.2]; exact Nat.le_add_right _ _
  have hS : va_S (xA b hole) s.heap s.heap [] := va_S.rf
  have hl := lv_entry ([.ref (b + 0)]) (n := 1) (Nat.le_of_ble_eq_true rfl)
  rw [lg_entry_eq]
  generalize (lg_sl ([.ref (b + 0)]) ++ List.replicate (1 - (lg_sl ([.ref (b + 0)])).length) Slot.unset).toArray = ls at hl ⊢
  have hl : lv_has ls 1 [(0, .ref (b + 0))] := hl
  unfold wx1_blank at h
  refine lv_aload_n hx hb dX1_blank_0 rfl (lv_at hl 0 rfl) ?_
  refine x_get (CC := RX1) (TT := TX1) (N := 26) (ci := 0) (v := .ref (b + 2)) hx hb hts in_X1 hown hK hP (xs_0 hP) (by decide) (by decide) rfl (xE_8 (xs_0 hP)) 6 (by decide) q391 rfl rfl dX1_blank_1 ?_
  refine lv_iconst (v := 0) hx hb dX1_blank_4 (by decide) ?_
  refine x_cS (As := [.ref (b + 2), .int 0]) (rest := []) ⟨hx, hb, hml, hown, hts⟩ (mxJ3_fill_2 l G b hole 2 0 K T (xs_2 hP) _ h) (va_cwS 2 hts (lw_S q741 q742 q127 q743) rfl rfl rfl cwx_J3_fill_2 ⟨Nat.le_of_ble_eq_true rfl, Nat.le_of_ble_eq_true rfl⟩) hK hV hb0 hP hS rfl hl.1 rfl (Nat.le_of_ble_eq_true rfl) dX1_blank_5 ⟨by first | exact Nat.zero_le _ | (show _ + _ ≤ Z - kc K0; omega), by first | exact Nat.zero_le _ | (show _ + _ ≤ Y - ks K0; omega)⟩ (fun r_1 T1 K1 H locs h hle1 hc1 hs1 hP hS => ?_)
  obtain ⟨h, hKe⟩ := h
  rw [hKe] at hP
  generalize T1 = T_2 at h hP
  refine lv_aload_n hx hb dX1_blank_8 rfl (lv_at hl 0 rfl) ?_
  refine x_get (CC := RX1) (TT := TX1) (N := 26) (ci := 0) (v := .ref (b + 2)) hx hb hts in_X1 hown hK hP (xs_0 hP) (by decide) (by decide) rfl (xE_8 (xs_0 hP)) 6 (by decide) q391 rfl rfl dX1_blank_9 ?_
  exact W.aret (v := .ref (b + 2)) hx hb hr (Or.inr ⟨_, rfl⟩) (Or.inr ⟨_, rfl⟩) (fun t ht hW => ⟨⟨2, T_2, K, rfl, ⟨h, (xs_2 hP), rfl⟩, kle.rf, rfl, rfl, by rw [ht]; exact hP, va_K.moved hW.alike hK⟩, hS.F ht⟩) hS.2.2 dX1_blank_12
theorem cwx_X1_reduced : yX1_reduced.cls = RX1 ∧ yX1_reduced.cls ≠ "java/lang/invoke/MethodHandle" ∧ yX1_reduced.cls ≠ "java/lang/invoke/VarHandle" ∧ (parseMethodDescriptor yX1_reduced.desc).map (fun d => d.parameters.length) = some 1 := by decide +kernel
def wx1_reduced (p1 : Int32) (K : XK) (T : XT) (post : Int32 → Prop) : Prop :=
  ¬ (xi T 0 0) = 0 ∧
  ¬ (xi T 0 0) = 0 ∧
  post (jrem ((jrem p1 (xi T 0 0)) + (xi T 0 0)) (xi T 0 0))
set_option maxHeartbeats 4000000 in
theorem mx1_reduced (l : Launch) (G : XG) (b : Nat) (hole : Nat → Prop) (p1 : Int32) (K : XK) (T : XT)  (post : Int32 → Prop) (h : wx1_reduced p1 K T post) : Met l yX1_reduced (ws_ yX1_reduced cX1_reduced 2 (some .int)) ({ frames := 0, cells := 0, slots := 0, locals := 0 } : Room) (xPc G b hole [.ref (b + 0), .int p1] K T) (xQ G b hole K 0 0 (ρ := Int32) eI (fun r T1 K1 => post r ∧ T1 = T ∧ K1 = K)) 0 0 (xA b hole) := by
  refine Met.ofW (cc := cX1_reduced) (maxL := 2) (ret := (some .int)) (by decide) rfl ?_
  intro p e s m args below meth c s₁ B hml hv
  obtain ⟨rfl, hP, hK, hV⟩ := hv
  have hx := B.exec
  have hb := B.bytes
  have hr := B.returns
  have hts := atoms_spec (ws := ws_ yX1_reduced cX1_reduced 2 (some .int)) B.pre
  have hts : ∀ w ∈ lw_all, w.before _ s = true := fun w h => hts w (List.mem_cons_of_mem _ h)
  have hown : s.vm.findClass RX1 = some m.cls := findClass_of_methodNamed B.named
  have hlocks := B.notSynchronized
  have hb0 : b ≤ s.heap.size := by rw [hP.2.2.2]; exact Nat.le_add_right _ _
  have hS : va_S (xA b hole) s.heap s.heap [] := va_S.rf
  have hl := lv_entry ([.ref (b + 0), .int p1]) (n := 2) (Nat.le_of_ble_eq_true rfl)
  rw [lg_entry_eq]
  generalize (lg_sl ([.ref (b + 0), .int p1]) ++ List.replicate (2 - (lg_sl ([.ref (b + 0), .int p1])).length) Slot.unset).toArray = ls at hl ⊢
  have hl : lv_has ls 2 [(0, .ref (b + 0)), (1, .int p1)] := hl
  unfold wx1_reduced at h
  refine lv_iload_n hx hb dX1_reduced_0 rfl (lv_at hl 1 rfl) ?_
  refine lv_aload_n hx hb dX1_reduced_1 rfl (lv_at hl 0 rfl) ?_
  refine x_get (CC := RX1) (TT := TX1) (N := 26) (ci := 0) (v := .int (xi T 0 0)) hx hb hts in_X1 hown hK hP (xs_0 hP) (by decide) (by decide) rfl (xE_8 (xs_0 hP)) 0 (by decide) q384 rfl rfl dX1_reduced_2 ?_
  obtain ⟨hne, h⟩ := h
  refine m_irem hx hb dX1_reduced_5 hne ?_
  refine lv_aload_n hx hb dX1_reduced_6 rfl (lv_at hl 0 rfl) ?_
  refine x_get (CC := RX1) (TT := TX1) (N := 26) (ci := 0) (v := .int (xi T 0 0)) hx hb hts in_X1 hown hK hP (xs_0 hP) (by decide) (by decide) rfl (xE_8 (xs_0 hP)) 0 (by decide) q384 rfl rfl dX1_reduced_7 ?_
  refine lv_iadd hx hb dX1_reduced_10 ?_
  refine lv_aload_n hx hb dX1_reduced_11 rfl (lv_at hl 0 rfl) ?_
  refine x_get (CC := RX1) (TT := TX1) (N := 26) (ci := 0) (v := .int (xi T 0 0)) hx hb hts in_X1 hown hK hP (xs_0 hP) (by decide) (by decide) rfl (xE_8 (xs_0 hP)) 0 (by decide) q384 rfl rfl dX1_reduced_12 ?_
  obtain ⟨hne, h⟩ := h
  refine m_irem hx hb dX1_reduced_15 hne ?_
  exact W.iret (v := (jrem ((jrem p1 (xi T 0 0)) + (xi T 0 0)) (xi T 0 0))) hx hb hr (fun t ht hW => ⟨⟨(jrem ((jrem p1 (xi T 0 0)) + (xi T 0 0)) (xi T 0 0)), T, K, rfl, ⟨h, rfl, rfl⟩, kle.rf, rfl, rfl, by rw [ht]; exact hP, va_K.moved hW.alike hK⟩, hS.F ht⟩) hS.2.2 dX1_reduced_16
theorem cwx_X6_init_2 : yX6_init_2.cls ≠ "java/lang/invoke/MethodHandle" ∧ yX6_init_2.cls ≠ "java/lang/invoke/VarHandle" ∧ (parseMethodDescriptor yX6_init_2.desc).map (fun d => d.parameters.length) = some 3 := by decide +kernel
def wx6_init_2 (p0 : Nat) (p1 : Int32) (p2 : Nat) (p3 : Nat) (K : XK) (T : XT) (post : XT → Prop) : Prop :=
  ∀ T_1 : XT, T_1 = xwi T p0 2 p1 →
  ∀ T_2 : XT, T_2 = xwr T_1 p0 0 (some p2) →
  ∀ T_3 : XT, T_3 = xwr T_2 p0 1 (some p3) →
  post T_3
set_option maxHeartbeats 4000000 in
theorem mx6_init_2 (l : Launch) (G : XG) (b : Nat) (hole : Nat → Prop) (p0 : Nat) (p1 : Int32) (p2 : Nat) (p3 : Nat) (K : XK) (T : XT) (hk_p0 : kd K p0 = 2) (hk_p2 : kd K p2 = 1) (hk_p3 : kd K p3 = 1) (post : XT → Prop) (h : wx6_init_2 p0 p1 p2 p3 K T post) : Met l yX6_init_2 (ws_ yX6_init_2 cX6_init_2 4 none) ({ frames := 1, cells := 0, slots := 0, locals := 60 } : Room) (xPc G b hole [.ref (b + p0), .int p1, .ref (b + p2), .ref (b + p3)] K T) (xQ G b hole K 0 0 (ρ := Unit) eV (fun r T1 K1 => post T1 ∧ K1 = K)) 0 0 (xA b hole) := by
  refine Met.ofW (cc := cX6_init_2) (maxL := 4) (ret := none) (by decide) rfl ?_
  intro p e s m args below meth c s₁ B hml hv
  obtain ⟨rfl, hP, hK, hV⟩ := hv
  have hx := B.exec
  have hb := B.bytes
  have hr := B.returns
  have hts := atoms_spec (ws := ws_ yX6_init_2 cX6_init_2 4 none) B.pre
  have hts : ∀ w ∈ lw_all, w.before _ s = true := fun w h => hts w (List.mem_cons_of_mem _ h)
  have hown : s.vm.findClass RX6 = some m.cls := findClass_of_methodNamed B.named
  have hlocks := B.notSynchronized
  have hin : meth.name = "<init>" := (name_of_methodNamed B.named B.method).1
  have hb0 : b ≤ s.heap.size := by rw [hP.2.2.2]; exact Nat.le_add_right _ _
  have hS : va_S (xA b hole) s.heap s.heap [] := va_S.rf
  have hl := lv_entry ([.ref (b + p0), .int p1, .ref (b + p2), .ref (b + p3)]) (n := 4) (Nat.le_of_ble_eq_true rfl)
  rw [lg_entry_eq]
  generalize (lg_sl ([.ref (b + p0), .int p1, .ref (b + p2), .ref (b + p3)]) ++ List.replicate (4 - (lg_sl ([.ref (b + p0), .int p1, .ref (b + p2), .ref (b + p3)])).length) Slot.unset).toArray = ls at hl ⊢
  have hl : lv_has ls 4 [(0, .ref (b + p0)), (1, .int p1), (2, .ref (b + p2)), (3, .ref (b + p3))] := hl
  unfold wx6_init_2 at h
  refine lv_aload_n hx hb dX6_init_2_0 rfl (lv_at hl 0 rfl) ?_
  refine W.objInit hx hb hown (hts _ q363) (hts _ q145) (hts _ q146) rfl (by rw [hml]; exact hl.1) rfl dX6_init_2_1 (Nat.le_of_ble_eq_true rfl) (Nat.le_of_ble_eq_true rfl) ?_
  refine W.eq (g2 := F0 m 4 ls []) rfl ?_
  refine lv_aload_n hx hb dX6_init_2_4 rfl (lv_at hl 0 rfl) ?_
  refine lv_iload_n hx hb dX6_init_2_5 rfl (lv_at hl 1 rfl) ?_
  obtain ⟨T_1, eT_1⟩ : ∃ z : XT, z = xwi T p0 2 p1 := ⟨_, rfl⟩
  have h := h T_1 eT_1
  refine x_put (CC := RX6) (TT := TX6) (N := 3) (ci := 5) (T1 := T_1) (v := .int p1) (ty := .int) (fsf := fun T => fs2 (gem G) b T p0) hx hb hts in_X6 tyX6 tyX6_ok nmX6 hown hK hP hS hk_p0 (by decide) (by decide) rfl (fun _ => xE_2 hk_p0) rfl 2 (by decide) q370 rfl (Or.inr ⟨rfl, hin, rfl⟩) rfl rfl rfl (by rw [eT_1]; exact fw2_2 _ b T p0 p1) (by rw [eT_1]; exact fun q hq => xwi_i hq) (by rw [eT_1]; exact fun _ _ => rfl) (by rw [eT_1]; exact xwi_ty hP (by rw [hk_p0]; decide)) dX6_init_2_6 (fun H locs hP hS => ?_)
  refine lv_aload_n hx hb dX6_init_2_9 rfl (lv_at hl 0 rfl) ?_
  refine lv_aload_n hx hb dX6_init_2_10 rfl (lv_at hl 2 rfl) ?_
  obtain ⟨T_2, eT_2⟩ : ∃ z : XT, z = xwr T_1 p0 0 (some p2) := ⟨_, rfl⟩
  have h := h T_2 eT_2
  refine x_put (CC := RX6) (TT := TX6) (N := 3) (ci := 5) (T1 := T_2) (v := .ref (b + p2)) (ty := _) (fsf := fun T => fs2 (gem G) b T p0) hx hb hts in_X6 tyX6 tyX6_ok nmX6 hown hK hP hS hk_p0 (by decide) (by decide) rfl (fun _ => xE_2 hk_p0) rfl 0 (by decide) q364 rfl (Or.inr ⟨rfl, hin, rfl⟩) rfl rfl rfl (by rw [eT_2]; exact fw2_0 _ b T_1 p0 (some p2)) (by rw [eT_2]; exact fun _ _ => rfl) (by rw [eT_2]; exact fun q hq => xwr_r hq) (by rw [eT_2]; exact xwr_ty hP (by rw [hk_p0]; decide) (fun p e9 => by cases e9; rw [hk_p2, hk_p0]; exact ⟨rfl, by decide⟩)) dX6_init_2_11 (fun H locs hP hS => ?_)
  refine lv_aload_n hx hb dX6_init_2_14 rfl (lv_at hl 0 rfl) ?_
  refine lv_aload_n hx hb dX6_init_2_15 rfl (lv_at hl 3 rfl) ?_
  obtain ⟨T_3, eT_3⟩ : ∃ z : XT, z = xwr T_2 p0 1 (some p3) := ⟨_, rfl⟩
  have h := h T_3 eT_3
  refine x_put (CC := RX6) (TT := TX6) (N := 3) (ci := 5) (T1 := T_3) (v := .ref (b + p3)) (ty := _) (fsf := fun T => fs2 (gem G) b T p0) hx hb hts in_X6 tyX6 tyX6_ok nmX6 hown hK hP hS hk_p0 (by decide) (by decide) rfl (fun _ => xE_2 hk_p0) rfl 1 (by decide) q367 rfl (Or.inr ⟨rfl, hin, rfl⟩) rfl rfl rfl (by rw [eT_3]; exact fw2_1 _ b T_2 p0 (some p3)) (by rw [eT_3]; exact fun _ _ => rfl) (by rw [eT_3]; exact fun q hq => xwr_r hq) (by rw [eT_3]; exact xwr_ty hP (by rw [hk_p0]; decide) (fun p e9 => by cases e9; rw [hk_p3, hk_p0]; exact ⟨rfl, by decide⟩)) dX6_init_2_16 (fun H locs hP hS => ?_)
  exact W.vret hx hb hr (fun t ht hW => ⟨⟨(), T_3, K, rfl, ⟨h, rfl⟩, kle.rf, rfl, rfl, by rw [ht]; exact hP, va_K.moved hW.alike hK⟩, hS.F ht⟩) hS.2.2 dX6_init_2_19
theorem cwx_X1_sorted : yX1_sorted.cls = RX1 ∧ yX1_sorted.cls ≠ "java/lang/invoke/MethodHandle" ∧ yX1_sorted.cls ≠ "java/lang/invoke/VarHandle" ∧ (parseMethodDescriptor yX1_sorted.desc).map (fun d => d.parameters.length) = some 1 := by decide +kernel
def wx1_sorted_b147 (p1 : Nat) (Z Y : Nat) (post : Nat → XT → XK → Prop) (R147 : Int32 → XT → Prop) (x2 : Int32) (x3 : Nat) (x4 : Nat) (x6 : Int32) (K : XK) (T : XT) : Prop :=
      ((x2 ≤ x6 →
        kc K + 1 ≤ Z ∧ ks K + 3 ≤ Y ∧ ∀ K_1 : XK, K_1 = knew K 2 0 3 → ∀ T_2 : XT, T_2 = xnil T (kz K) →
        wx6_init_2 (kz K) x2 x3 x4 K_1 T_2 (fun T_4 =>
        post (kz K) T_4 (kset K_1 Z Y))) ∧
       (¬ (x2 ≤ x6) →
        ∃ j_6 : Nat, j_6 < kl K x3 ∧ x6 = nI j_6 ∧
        ∃ j_7 : Nat, j_7 < kl K p1 ∧ (xi T x3 j_6) = nI j_7 ∧
        ∃ j_8 : Nat, j_8 < kl K x4 ∧ x6 = nI j_8 ∧ ∀ T_9 : XT, T_9 = xwi T x4 j_8 (xi T p1 j_7) →
        ∀ x6_10 : Int32, x6_10 = x6 + 1 →
        R147 x6_10 T_9))
def wx1_sorted_l147 (p1 : Nat) (Z Y : Nat) (post : Nat → XT → XK → Prop) (x2 : Int32) (x3 : Nat) (x4 : Nat) (x6 : Int32) (K : XK) (T : XT) : Prop := wLoop (fun (R : ((Int32) × (XT)) → Prop) (v : (Int32) × (XT)) => wx1_sorted_b147 p1 Z Y post (fun x6 T => R (x6, T)) x2 x3 x4 v.1 K v.2) (x6, T)
def wx1_sorted_j138 (p1 : Nat) (Z Y : Nat) (post : Nat → XT → XK → Prop) (R58 : Int32 → Int32 → XT → Prop) (x2 : Int32) (x3 : Nat) (x4 : Nat) (x5 : Int32) (x6 : Int32) (K : XK) (T : XT) : Prop :=
        ∀ x6_12 : Int32, x6_12 = x6 + 1 →
        R58 x5 x6_12 T
def wx1_sorted_j129 (p1 : Nat) (Z Y : Nat) (post : Nat → XT → XK → Prop) (R58 : Int32 → Int32 → XT → Prop) (x2 : Int32) (x3 : Nat) (x4 : Nat) (x5 : Int32) (x6 : Int32) (x7 : Int32) (K : XK) (T : XT) : Prop :=
        ∃ j_13 : Nat, j_13 < kl K x3 ∧ x7 = nI j_13 ∧ ∀ T_14 : XT, T_14 = xwi T x3 j_13 x6 →
        ∀ x5_15 : Int32, x5_15 = x5 + 1 →
        wx1_sorted_j138 p1 Z Y post R58 x2 x3 x4 x5_15 x6 K T_14
def wx1_sorted_b79 (p1 : Nat) (Z Y : Nat) (post : Nat → XT → XK → Prop) (R58 : Int32 → Int32 → XT → Prop) (R79 : Int32 → XT → Prop) (x2 : Int32) (x3 : Nat) (x4 : Nat) (x5 : Int32) (x6 : Int32) (x7 : Int32) (K : XK) (T : XT) : Prop :=
          ((x7 ≤ 0 →
            wx1_sorted_j129 p1 Z Y post R58 x2 x3 x4 x5 x6 x7 K T) ∧
           (¬ (x7 ≤ 0) →
            ∃ v_16 : Nat, xr T 0 4 = some v_16 ∧
            ∃ j_17 : Nat, j_17 < kl K x3 ∧ (x7 - 1) = nI j_17 ∧
            wx_key v_16 (xi T x3 j_17) K T (fun r_18 =>
            ∃ v_19 : Nat, xr T 0 4 = some v_19 ∧
            wx_key v_19 x6 K T (fun r_20 =>
            ((r_20 ≤ r_18 →
              wx1_sorted_j129 p1 Z Y post R58 x2 x3 x4 x5 x6 x7 K T) ∧
             (¬ (r_20 ≤ r_18) →
              ∃ j_21 : Nat, j_21 < kl K x3 ∧ (x7 - 1) = nI j_21 ∧
              ∃ j_22 : Nat, j_22 < kl K x3 ∧ x7 = nI j_22 ∧ ∀ T_23 : XT, T_23 = xwi T x3 j_22 (xi T x3 j_21) →
              ∀ x7_24 : Int32, x7_24 = x7 + (-1) →
              R79 x7_24 T_23))))))
def wx1_sorted_l79 (p1 : Nat) (Z Y : Nat) (post : Nat → XT → XK → Prop) (R58 : Int32 → Int32 → XT → Prop) (x2 : Int32) (x3 : Nat) (x4 : Nat) (x5 : Int32) (x6 : Int32) (x7 : Int32) (K : XK) (T : XT) : Prop := wLoop (fun (R : ((Int32) × (XT)) → Prop) (v : (Int32) × (XT)) => wx1_sorted_b79 p1 Z Y post R58 (fun x7 T => R (x7, T)) x2 x3 x4 x5 x6 v.1 K v.2) (x7, T)
def wx1_sorted_b58 (p1 : Nat) (Z Y : Nat) (post : Nat → XT → XK → Prop) (R58 : Int32 → Int32 → XT → Prop) (x2 : Int32) (x3 : Nat) (x4 : Nat) (x5 : Int32) (x6 : Int32) (K : XK) (T : XT) : Prop :=
      (((nI (kl K p1)) ≤ x6 →
        wx1_sorted_l147 p1 Z Y post x2 x3 x4 0 K T) ∧
       (¬ ((nI (kl K p1)) ≤ x6) →
        ∃ j_27 : Nat, j_27 < kl K p1 ∧ x6 = nI j_27 ∧
        ((¬ (xi T p1 j_27) = 0 →
          wx1_sorted_l79 p1 Z Y post R58 x2 x3 x4 x5 x6 x5 K T) ∧
         ((xi T p1 j_27) = 0 →
          wx1_sorted_j138 p1 Z Y post R58 x2 x3 x4 x5 x6 K T))))
def wx1_sorted_l58 (p1 : Nat) (Z Y : Nat) (post : Nat → XT → XK → Prop) (x2 : Int32) (x3 : Nat) (x4 : Nat) (x5 : Int32) (x6 : Int32) (K : XK) (T : XT) : Prop := wLoop (fun (R : ((Int32) × (Int32) × (XT)) → Prop) (v : (Int32) × (Int32) × (XT)) => wx1_sorted_b58 p1 Z Y post (fun x5 x6 T => R (x5, x6, T)) x2 x3 x4 v.1 v.2.1 K v.2.2) (x5, x6, T)
def wx1_sorted_j37 (p1 : Nat) (Z Y : Nat) (post : Nat → XT → XK → Prop) (R11 : Int32 → Int32 → Prop) (x2 : Int32) (x3 : Nat) (x4 : Int32) (x5 : Int32) (K : XK) (T : XT) : Prop :=
        ∀ x5_30 : Int32, x5_30 = x5 + 1 →
        R11 x2 x5_30
def wx1_sorted_b11 (p1 : Nat) (Z Y : Nat) (post : Nat → XT → XK → Prop) (R11 : Int32 → Int32 → Prop) (x3 : Nat) (x4 : Int32) (x2 : Int32) (x5 : Int32) (K : XK) (T : XT) : Prop :=
      ((x4 ≤ x5 →
        ∃ n_31 : Nat, n_31 < 2 ^ 27 ∧ x2 = nI n_31 ∧ kc K + 1 ≤ Z ∧ ks K + n_31 ≤ Y ∧ ∀ K_32 : XK, K_32 = knew K 1 n_31 n_31 → ∀ T_33 : XT, T_33 = xnil T (kz K) →
        ∃ n_34 : Nat, n_34 < 2 ^ 27 ∧ x2 = nI n_34 ∧ kc K_32 + 1 ≤ Z ∧ ks K_32 + n_34 ≤ Y ∧ ∀ K_35 : XK, K_35 = knew K_32 1 n_34 n_34 → ∀ T_36 : XT, T_36 = xnil T_33 (kz K_32) →
        wx1_sorted_l58 p1 Z Y post x2 (kz K) (kz K_32) 0 0 K_35 T_36) ∧
       (¬ (x4 ≤ x5) →
        ∃ j_37 : Nat, j_37 < kl K x3 ∧ x5 = nI j_37 ∧
        ((¬ (xi T x3 j_37) = 0 →
          ∀ x2_38 : Int32, x2_38 = (x2 + 1) →
          wx1_sorted_j37 p1 Z Y post R11 x2_38 x3 x4 x5 K T) ∧
         ((xi T x3 j_37) = 0 →
          ∀ x2_39 : Int32, x2_39 = (x2 + 0) →
          wx1_sorted_j37 p1 Z Y post R11 x2_39 x3 x4 x5 K T))))
def wx1_sorted_l11 (p1 : Nat) (Z Y : Nat) (post : Nat → XT → XK → Prop) (x3 : Nat) (x4 : Int32) (x2 : Int32) (x5 : Int32) (K : XK) (T : XT) : Prop := wLoop (fun (R : ((Int32) × (Int32)) → Prop) (v : (Int32) × (Int32)) => wx1_sorted_b11 p1 Z Y post (fun x2 x5 => R (x2, x5)) x3 x4 v.1 v.2 K T) (x2, x5)
def wx1_sorted (p1 : Nat) (K0 : XK) (T : XT) (Z Y : Nat) (post : Nat → XT → XK → Prop) : Prop :=
  ∀ x4_42 : Int32, x4_42 = (nI (kl K0 p1)) →
  wx1_sorted_l11 p1 Z Y post p1 x4_42 0 0 K0 T
set_option maxHeartbeats 4000000 in
theorem mx1_sorted (l : Launch) (G : XG) (b : Nat) (hole : Nat → Prop) (p1 : Nat) (K0 : XK) (T : XT) (Z Y : Nat) (hZ : kc K0 ≤ Z) (hY : ks K0 ≤ Y) (hk_p1 : kd K0 p1 = 1) (post : Nat → XT → XK → Prop) (h : wx1_sorted p1 K0 T Z Y post) : Met l yX1_sorted (ws_ yX1_sorted cX1_sorted 8 (some (.object "TermDesk$Poly"))) ({ frames := 4, cells := (Z - kc K0), slots := (Y - ks K0), locals := 88 } : Room) (xPc G b hole [.ref (b + 0), .ref (b + p1)] K0 T) (xQ G b hole K0 (Z - kc K0) (Y - ks K0) (ρ := Nat) (eR b) (fun r T1 K1 => post r T1 K1 ∧ kd K1 r = 2)) (Z - kc K0) (Y - ks K0) (xA b hole) := by
  refine Met.ofW (cc := cX1_sorted) (maxL := 8) (ret := (some (.object "TermDesk$Poly"))) (by decide) rfl ?_
  intro p e s m args below meth c s₁ B hml hv
  obtain ⟨rfl, hP, hK, hV⟩ := hv
  have hx := B.exec
  have hb := B.bytes
  have hr := B.returns
  have hts := atoms_spec (ws := ws_ yX1_sorted cX1_sorted 8 (some (.object "TermDesk$Poly"))) B.pre
  have hts : ∀ w ∈ lw_all, w.before _ s = true := fun w h => hts w (List.mem_cons_of_mem _ h)
  have hown : s.vm.findClass RX1 = some m.cls := findClass_of_methodNamed B.named
  have hlocks := B.notSynchronized
  have hb0 : b ≤ s.heap.size := by rw [hP.2.2.2]; exact Nat.le_add_right _ _
  have hS : va_S (xA b hole) s.heap s.heap [] := va_S.rf
  have hl := lv_entry ([.ref (b + 0), .ref (b + p1)]) (n := 8) (Nat.le_of_ble_eq_true rfl)
  rw [lg_entry_eq]
  generalize (lg_sl ([.ref (b + 0), .ref (b + p1)]) ++ List.replicate (8 - (lg_sl ([.ref (b + 0), .ref (b + p1)])).length) Slot.unset).toArray = ls at hl ⊢
  have hl : lv_has ls 8 [(0, .ref (b + 0)), (1, .ref (b + p1))] := hl
  have hle0 : kle K0 K0 := kle.rf
  have L147 : ∀ (x2 : Int32) (x3 : Nat) (x4 : Nat) (x6 : Int32) (T : XT) (K : XK) (cn sn : Nat) (H : Heap) (locs : List Loc) (ls : Array Slot), wx1_sorted_l147 p1 Z Y post x2 x3 x4 x6 K T → kle K0 K → kc K0 + cn = kc K → ks K0 + sn = ks K → kc K ≤ Z → ks K ≤ Y → (kd K x3 = 1) → (kd K x4 = 1) → (kd K p1 = 1) → xW G b hole K T H → va_S (xA b hole) s.heap H locs → lv_has ls 8 [(0, .ref (b + 0)), (1, .ref (b + p1)), (2, .int x2), (3, .ref (b + x3)), (4, .ref (b + x4)), (6, .int x6)] → W p l e (headSpec (ws_ yX1_sorted cX1_sorted 8 (some (.object "TermDesk$Poly"))) ({ frames := 4, cells := (Z - kc K0), slots := (Y - ks K0), locals := 88 } : Room)).room s m ([.ref (b + 0), .ref (b + p1)] : List Value).toArray below meth c H locs cn sn (MQ below (xQ G b hole K0 (Z - kc K0) (Y - ks K0) (ρ := Nat) (eR b) (fun r T1 K1 => post r T1 K1 ∧ kd K1 r = 2)) ([.ref (b + 0), .ref (b + p1)] : List Value).toArray s (Z - kc K0) (Y - ks K0) (xA b hole)) (F0 m 147 ls []) := by
    intro x2 x3 x4 x6 T K cn sn H locs ls h hle0 hcn hsn hzz hyy hk_x3 hk_x4 hk_p1 hP hS hl
    obtain ⟨I147, n147, hI, hstep147⟩ := h
    induction n147 using Nat.strongRecOn generalizing x6 T H locs ls with
    | ind n147 ih147 =>
      have h : wx1_sorted_b147 p1 Z Y post (fun x6 T => ∃ mm, mm < n147 ∧ I147 mm (x6, T)) x2 x3 x4 x6 K T := hstep147 n147 _ hI
      clear hI
      unfold wx1_sorted_b147 at h
      refine lv_iload hx hb dX1_sorted_147 (lv_at hl 5 rfl) ?_
      refine lv_iload_n hx hb dX1_sorted_149 rfl (lv_at hl 2 rfl) ?_
      refine lv_icmp_ge (tgt := 170) hx hb dX1_sorted_150 (by decide) (fun c_11 => ?_) (fun c_11 => ?_)
      · have h := h.1 c_11
        obtain ⟨hc1, hs1, h⟩ := h
        obtain ⟨K_1, eK_1⟩ : ∃ z : XK, z = knew K 2 0 3 := ⟨_, rfl⟩
        obtain ⟨T_2, eT_2⟩ : ∃ z : XT, z = xnil T (kz K) := ⟨_, rfl⟩
        have h := h K_1 eK_1 T_2 eT_2
        have hle1 : kle K K_1 := by rw [eK_1]; exact kle.new hP.2.2.1 _ _ _
        refine x_new (CC := RX6) (TT := TX6) (N := 3) (ci := 5) (kn := 2) (fs := [.null, .null, .int 0]) hx hb hts in_X6 tyX6 tyX6_ok hown q352 q356 q126 hK hP hS rfl (by decide) (by decide) (fun K1 h9 => by rw [xE_2 h9]; simp [fs2, xnil, xi, xr, va_up_self, rfv, va_rf]) (fun j hj => by rcases (show j = 0 ∨ j = 1 ∨ j = 2 by omega) with rfl | rfl | rfl <;> rfl) (by show _ + 1 ≤ Z - kc K0; omega) (by show _ + _ ≤ Y - ks K0; omega) dX1_sorted_170 (fun H hP hS => ?_)
        rw [← eK_1, ← eT_2] at hP
        have hk_p1 : kd K_1 p1 = 1 := hle1.kd hk_p1
        have hk_x3 : kd K_1 x3 = 1 := hle1.kd hk_x3
        have hk_x4 : kd K_1 x4 = 1 := hle1.kd hk_x4
        have hk_n1 : kd K_1 (kz K) = 2 := by rw [eK_1]; exact knew_kd
        have hle0 := hle0.tr hle1
        have hcn : kc K0 + (cn + 1) = kc K_1 := by rw [eK_1]; show _ = kc K + 1; omega
        have hsn : ks K0 + (sn + 3) = ks K_1 := by rw [eK_1]; show _ = ks K + 3; omega
        have hzz : kc K_1 ≤ Z := by rw [eK_1]; exact hc1
        have hyy : ks K_1 ≤ Y := by rw [eK_1]; exact hs1
        refine lv_dup hx hb dX1_sorted_173 rfl ?_
        refine lv_iload_n hx hb dX1_sorted_174 rfl (lv_at hl 2 rfl) ?_
        refine lv_aload_n hx hb dX1_sorted_175 rfl (lv_at hl 3 rfl) ?_
        refine lv_aload hx hb dX1_sorted_176 (lv_at hl 4 rfl) ?_
        refine x_cI (k := (kz K)) (As := [.int x2, .ref (b + x3), .ref (b + x4)]) (rest := [.ref (b + (kz K))]) ⟨hx, hb, hml, hown, hts⟩ (mx6_init_2 l G b hole (kz K) x2 x3 x4 K_1 T_2 hk_n1 hk_x3 hk_x4 _ h) (cwI 3 hts (lw_meth q362) rfl rfl rfl (hts _ q126) (hts _ q756) (hts _ q361) rfl cwx_X6_init_2 ⟨Nat.le_of_ble_eq_true rfl, Nat.le_of_ble_eq_true rfl⟩) hK hV hb0 hP hS rfl hl.1 rfl (Nat.le_of_ble_eq_true rfl) dX1_sorted_178 ⟨by first | exact Nat.zero_le _ | (show _ + _ ≤ Z - kc K0; omega), by first | exact Nat.zero_le _ | (show _ + _ ≤ Y - ks K0; omega)⟩ (fun r_3 T1 K1 H locs h hle1 hc1 hs1 hP hS => ?_)
        obtain ⟨h, hKe⟩ := h
        rw [hKe] at hP
        generalize T1 = T_4 at h hP
        refine W.widen (k := Z - kc K0) (n := Y - ks K0) (by omega) (by omega) ?_
        exact W.aret (v := .ref (b + (kz K))) hx hb hr (Or.inl ⟨_, rfl⟩) (Or.inr ⟨_, rfl⟩) (fun t ht hW => ⟨⟨(kz K), T_4, (kset K_1 Z Y), rfl, ⟨h, hk_n1⟩, hle0, (by show Z = _; omega), (by show Y = _; omega), by rw [ht]; exact hP, va_K.moved hW.alike hK⟩, hS.F ht⟩) hS.2.2 dX1_sorted_181
      · have h := h.2 c_11
        refine lv_aload hx hb dX1_sorted_153 (lv_at hl 4 rfl) ?_
        refine lv_iload hx hb dX1_sorted_155 (lv_at hl 5 rfl) ?_
        refine lv_aload_n hx hb dX1_sorted_157 rfl (lv_at hl 1 rfl) ?_
        refine lv_aload_n hx hb dX1_sorted_158 rfl (lv_at hl 3 rfl) ?_
        refine lv_iload hx hb dX1_sorted_159 (lv_at hl 5 rfl) ?_
        obtain ⟨j_6, hj_6, ej_6, h⟩ := h
        refine x_iald hx hb hK hP hk_x3 ej_6 hj_6 dX1_sorted_161 ?_
        obtain ⟨j_7, hj_7, ej_7, h⟩ := h
        refine x_iald hx hb hK hP hk_p1 ej_7 hj_7 dX1_sorted_162 ?_
        obtain ⟨j_8, hj_8, ej_8, h⟩ := h
        obtain ⟨T_9, eT_9⟩ : ∃ z : XT, z = xwi T x4 j_8 (xi T p1 j_7) := ⟨_, rfl⟩
        have h := h T_9 eT_9
        refine x_iast hx hb hK hP hS hk_x4 ej_8 hj_8 dX1_sorted_163 (fun H locs hP hS => ?_)
        rw [← eT_9] at hP
        obtain ⟨x6_10, ex6_10⟩ : ∃ y : Int32, y = x6 + 1 := ⟨_, rfl⟩
        have h := h x6_10 ex6_10
        refine lv_iinc (v := x6_10) (lv' := [(6, .int x6_10), (0, .ref (b + 0)), (1, .ref (b + p1)), (2, .int x2), (3, .ref (b + x3)), (4, .ref (b + x4))]) hx hb dX1_sorted_164 hl (k := 5) rfl (by rw [ex6_10]; rfl) (by decide) rfl (fun ls hl => ?_)
        refine lv_goto (tgt := 147) hx hb dX1_sorted_167 (by decide) ?_
        obtain ⟨mm, hmm, h⟩ := h
        exact ih147 mm hmm _ _ _ _ _  hP hS (lv_sub hl [1, 2, 3, 4, 5, 0] rfl) h
  have L58 : ∀ (x2 : Int32) (x3 : Nat) (x4 : Nat) (x5 : Int32) (x6 : Int32) (T : XT) (K : XK) (cn sn : Nat) (H : Heap) (locs : List Loc) (ls : Array Slot), wx1_sorted_l58 p1 Z Y post x2 x3 x4 x5 x6 K T → kle K0 K → kc K0 + cn = kc K → ks K0 + sn = ks K → kc K ≤ Z → ks K ≤ Y → (kd K x3 = 1) → (kd K x4 = 1) → (kd K p1 = 1) → xW G b hole K T H → va_S (xA b hole) s.heap H locs → lv_has ls 8 [(0, .ref (b + 0)), (1, .ref (b + p1)), (2, .int x2), (3, .ref (b + x3)), (4, .ref (b + x4)), (5, .int x5), (6, .int x6)] → W p l e (headSpec (ws_ yX1_sorted cX1_sorted 8 (some (.object "TermDesk$Poly"))) ({ frames := 4, cells := (Z - kc K0), slots := (Y - ks K0), locals := 88 } : Room)).room s m ([.ref (b + 0), .ref (b + p1)] : List Value).toArray below meth c H locs cn sn (MQ below (xQ G b hole K0 (Z - kc K0) (Y - ks K0) (ρ := Nat) (eR b) (fun r T1 K1 => post r T1 K1 ∧ kd K1 r = 2)) ([.ref (b + 0), .ref (b + p1)] : List Value).toArray s (Z - kc K0) (Y - ks K0) (xA b hole)) (F0 m 58 ls []) := by
    intro x2 x3 x4 x5 x6 T K cn sn H locs ls h hle0 hcn hsn hzz hyy hk_x3 hk_x4 hk_p1 hP hS hl
    obtain ⟨I58, n58, hI, hstep58⟩ := h
    induction n58 using Nat.strongRecOn generalizing x5 x6 T H locs ls with
    | ind n58 ih58 =>
      have h : wx1_sorted_b58 p1 Z Y post (fun x5 x6 T => ∃ mm, mm < n58 ∧ I58 mm (x5, x6, T)) x2 x3 x4 x5 x6 K T := hstep58 n58 _ hI
      clear hI
      have J138 : ∀ (x5 : Int32) (x6 : Int32) (T : XT) (H : Heap) (locs : List Loc) (ls : Array Slot), wx1_sorted_j138 p1 Z Y post (fun x5 x6 T => ∃ mm, mm < n58 ∧ I58 mm (x5, x6, T)) x2 x3 x4 x5 x6 K T → xW G b hole K T H → va_S (xA b hole) s.heap H locs → lv_has ls 8 [(0, .ref (b + 0)), (1, .ref (b + p1)), (2, .int x2), (3, .ref (b + x3)), (4, .ref (b + x4)), (5, .int x5), (6, .int x6)] → W p l e (headSpec (ws_ yX1_sorted cX1_sorted 8 (some (.object "TermDesk$Poly"))) ({ frames := 4, cells := (Z - kc K0), slots := (Y - ks K0), locals := 88 } : Room)).room s m ([.ref (b + 0), .ref (b + p1)] : List Value).toArray below meth c H locs cn sn (MQ below (xQ G b hole K0 (Z - kc K0) (Y - ks K0) (ρ := Nat) (eR b) (fun r T1 K1 => post r T1 K1 ∧ kd K1 r = 2)) ([.ref (b + 0), .ref (b + p1)] : List Value).toArray s (Z - kc K0) (Y - ks K0) (xA b hole)) (F0 m 138 ls []) := by
        intro x5 x6 T H locs ls h hP hS hl
        unfold wx1_sorted_j138 at h
        obtain ⟨x6_12, ex6_12⟩ : ∃ y : Int32, y = x6 + 1 := ⟨_, rfl⟩
        have h := h x6_12 ex6_12
        refine lv_iinc (v := x6_12) (lv' := [(6, .int x6_12), (0, .ref (b + 0)), (1, .ref (b + p1)), (2, .int x2), (3, .ref (b + x3)), (4, .ref (b + x4)), (5, .int x5)]) hx hb dX1_sorted_138 hl (k := 6) rfl (by rw [ex6_12]; rfl) (by decide) rfl (fun ls hl => ?_)
        refine lv_goto (tgt := 58) hx hb dX1_sorted_141 (by decide) ?_
        obtain ⟨mm, hmm, h⟩ := h
        exact ih58 mm hmm _ _ _ _ _ _  hP hS (lv_sub hl [1, 2, 3, 4, 5, 6, 0] rfl) h
      have J129 : ∀ (x5 : Int32) (x6 : Int32) (x7 : Int32) (T : XT) (H : Heap) (locs : List Loc) (ls : Array Slot), wx1_sorted_j129 p1 Z Y post (fun x5 x6 T => ∃ mm, mm < n58 ∧ I58 mm (x5, x6, T)) x2 x3 x4 x5 x6 x7 K T → xW G b hole K T H → va_S (xA b hole) s.heap H locs → lv_has ls 8 [(0, .ref (b + 0)), (1, .ref (b + p1)), (2, .int x2), (3, .ref (b + x3)), (4, .ref (b + x4)), (5, .int x5), (6, .int x6), (7, .int x7)] → W p l e (headSpec (ws_ yX1_sorted cX1_sorted 8 (some (.object "TermDesk$Poly"))) ({ frames := 4, cells := (Z - kc K0), slots := (Y - ks K0), locals := 88 } : Room)).room s m ([.ref (b + 0), .ref (b + p1)] : List Value).toArray below meth c H locs cn sn (MQ below (xQ G b hole K0 (Z - kc K0) (Y - ks K0) (ρ := Nat) (eR b) (fun r T1 K1 => post r T1 K1 ∧ kd K1 r = 2)) ([.ref (b + 0), .ref (b + p1)] : List Value).toArray s (Z - kc K0) (Y - ks K0) (xA b hole)) (F0 m 129 ls []) := by
        intro x5 x6 x7 T H locs ls h hP hS hl
        unfold wx1_sorted_j129 at h
        refine lv_aload_n hx hb dX1_sorted_129 rfl (lv_at hl 3 rfl) ?_
        refine lv_iload hx hb dX1_sorted_130 (lv_at hl 7 rfl) ?_
        refine lv_iload hx hb dX1_sorted_132 (lv_at hl 6 rfl) ?_
        obtain ⟨j_13, hj_13, ej_13, h⟩ := h
        obtain ⟨T_14, eT_14⟩ : ∃ z : XT, z = xwi T x3 j_13 x6 := ⟨_, rfl⟩
        have h := h T_14 eT_14
        refine x_iast hx hb hK hP hS hk_x3 ej_13 hj_13 dX1_sorted_134 (fun H locs hP hS => ?_)
        rw [← eT_14] at hP
        obtain ⟨x5_15, ex5_15⟩ : ∃ y : Int32, y = x5 + 1 := ⟨_, rfl⟩
        have h := h x5_15 ex5_15
        refine lv_iinc (v := x5_15) (lv' := [(5, .int x5_15), (0, .ref (b + 0)), (1, .ref (b + p1)), (2, .int x2), (3, .ref (b + x3)), (4, .ref (b + x4)), (6, .int x6), (7, .int x7)]) hx hb dX1_sorted_135 hl (k := 5) rfl (by rw [ex5_15]; rfl) (by decide) rfl (fun ls hl => ?_)
        exact J138 _ _ _ _ _ _ h  hP hS (lv_sub hl [1, 2, 3, 4, 5, 0, 6] rfl)
      have L79 : ∀ (x5 : Int32) (x6 : Int32) (x7 : Int32) (T : XT) (H : Heap) (locs : List Loc) (ls : Array Slot), wx1_sorted_l79 p1 Z Y post (fun x5 x6 T => ∃ mm, mm < n58 ∧ I58 mm (x5, x6, T)) x2 x3 x4 x5 x6 x7 K T → xW G b hole K T H → va_S (xA b hole) s.heap H locs → lv_has ls 8 [(0, .ref (b + 0)), (1, .ref (b + p1)), (2, .int x2), (3, .ref (b + x3)), (4, .ref (b + x4)), (5, .int x5), (6, .int x6), (7, .int x7)] → W p l e (headSpec (ws_ yX1_sorted cX1_sorted 8 (some (.object "TermDesk$Poly"))) ({ frames := 4, cells := (Z - kc K0), slots := (Y - ks K0), locals := 88 } : Room)).room s m ([.ref (b + 0), .ref (b + p1)] : List Value).toArray below meth c H locs cn sn (MQ below (xQ G b hole K0 (Z - kc K0) (Y - ks K0) (ρ := Nat) (eR b) (fun r T1 K1 => post r T1 K1 ∧ kd K1 r = 2)) ([.ref (b + 0), .ref (b + p1)] : List Value).toArray s (Z - kc K0) (Y - ks K0) (xA b hole)) (F0 m 79 ls []) := by
        intro x5 x6 x7 T H locs ls h hP hS hl
        obtain ⟨I79, n79, hI, hstep79⟩ := h
        induction n79 using Nat.strongRecOn generalizing x7 T H locs ls with
        | ind n79 ih79 =>
          have h : wx1_sorted_b79 p1 Z Y post (fun x5 x6 T => ∃ mm, mm < n58 ∧ I58 mm (x5, x6, T)) (fun x7 T => ∃ mm, mm < n79 ∧ I79 mm (x7, T)) x2 x3 x4 x5 x6 x7 K T := hstep79 n79 _ hI
          clear hI
          unfold wx1_sorted_b79 at h
          refine lv_iload hx hb dX1_sorted_79 (lv_at hl 7 rfl) ?_
          refine lv_if_le (tgt := 129) hx hb dX1_sorted_81 (by decide) (fun c_26 => ?_) (fun c_26 => ?_)
          · have h := h.1 c_26
            exact J129 _ _ _ _ _ _ _ h  hP hS (lv_sub hl [0, 1, 2, 3, 4, 5, 6, 7] rfl)
          · have h := h.2 c_26
            refine lv_aload_n hx hb dX1_sorted_84 rfl (lv_at hl 0 rfl) ?_
            obtain ⟨v_16, ev_16, h⟩ := h
            refine x_get (CC := RX1) (TT := TX1) (N := 26) (ci := 0) (v := rfv b (xr T 0 4)) hx hb hts in_X1 hown hK hP (xs_0 hP) (by decide) (by decide) rfl (xE_8 (xs_0 hP)) 4 (by decide) q388 rfl rfl dX1_sorted_85 ?_
            refine x_some ev_16 ?_
            have hk_v_16 : kd K v_16 = 16 := hP.ty (xs_0 hP) (by decide) ev_16
            refine lv_aload_n hx hb dX1_sorted_88 rfl (lv_at hl 3 rfl) ?_
            refine lv_iload hx hb dX1_sorted_89 (lv_at hl 7 rfl) ?_
            refine lv_iconst (v := 1) hx hb dX1_sorted_91 (by decide) ?_
            refine lv_isub hx hb dX1_sorted_92 ?_
            obtain ⟨j_17, hj_17, ej_17, h⟩ := h
            refine x_iald hx hb hK hP hk_x3 ej_17 hj_17 dX1_sorted_93 ?_
            refine x_keyA (q := v_16) (rest := []) hx hb (hml.trans hl.1.symm) hts hown q753 hK hV hb0 hP hS hk_v_16 h (Nat.le_of_ble_eq_true rfl) (Nat.le_of_ble_eq_true rfl) (by first | exact Nat.zero_le _ | (show _ ≤ Z - kc K0; omega)) (by first | exact Nat.zero_le _ | (show _ ≤ Y - ks K0; omega)) dX1_sorted_94 (fun r_18 H locs h hP hS => ?_)
            refine lv_aload_n hx hb dX1_sorted_99 rfl (lv_at hl 0 rfl) ?_
            obtain ⟨v_19, ev_19, h⟩ := h
            refine x_get (CC := RX1) (TT := TX1) (N := 26) (ci := 0) (v := rfv b (xr T 0 4)) hx hb hts in_X1 hown hK hP (xs_0 hP) (by decide) (by decide) rfl (xE_8 (xs_0 hP)) 4 (by decide) q388 rfl rfl dX1_sorted_100 ?_
            refine x_some ev_19 ?_
            have hk_v_19 : kd K v_19 = 16 := hP.ty (xs_0 hP) (by decide) ev_19
            refine lv_iload hx hb dX1_sorted_103 (lv_at hl 6 rfl) ?_
            refine x_keyA (q := v_19) (rest := [.int r_18]) hx hb (hml.trans hl.1.symm) hts hown q753 hK hV hb0 hP hS hk_v_19 h (Nat.le_of_ble_eq_true rfl) (Nat.le_of_ble_eq_true rfl) (by first | exact Nat.zero_le _ | (show _ ≤ Z - kc K0; omega)) (by first | exact Nat.zero_le _ | (show _ ≤ Y - ks K0; omega)) dX1_sorted_105 (fun r_20 H locs h hP hS => ?_)
            refine lv_icmp_ge (tgt := 129) hx hb dX1_sorted_110 (by decide) (fun c_25 => ?_) (fun c_25 => ?_)
            · have h := h.1 c_25
              exact J129 _ _ _ _ _ _ _ h  hP hS (lv_sub hl [0, 1, 2, 3, 4, 5, 6, 7] rfl)
            · have h := h.2 c_25
              refine lv_aload_n hx hb dX1_sorted_113 rfl (lv_at hl 3 rfl) ?_
              refine lv_iload hx hb dX1_sorted_114 (lv_at hl 7 rfl) ?_
              refine lv_aload_n hx hb dX1_sorted_116 rfl (lv_at hl 3 rfl) ?_
              refine lv_iload hx hb dX1_sorted_117 (lv_at hl 7 rfl) ?_
              refine lv_iconst (v := 1) hx hb dX1_sorted_119 (by decide) ?_
              refine lv_isub hx hb dX1_sorted_120 ?_
              obtain ⟨j_21, hj_21, ej_21, h⟩ := h
              refine x_iald hx hb hK hP hk_x3 ej_21 hj_21 dX1_sorted_121 ?_
              obtain ⟨j_22, hj_22, ej_22, h⟩ := h
              obtain ⟨T_23, eT_23⟩ : ∃ z : XT, z = xwi T x3 j_22 (xi T x3 j_21) := ⟨_, rfl⟩
              have h := h T_23 eT_23
              refine x_iast hx hb hK hP hS hk_x3 ej_22 hj_22 dX1_sorted_122 (fun H locs hP hS => ?_)
              rw [← eT_23] at hP
              obtain ⟨x7_24, ex7_24⟩ : ∃ y : Int32, y = x7 + (-1) := ⟨_, rfl⟩
              have h := h x7_24 ex7_24
              refine lv_iinc (v := x7_24) (lv' := [(7, .int x7_24), (0, .ref (b + 0)), (1, .ref (b + p1)), (2, .int x2), (3, .ref (b + x3)), (4, .ref (b + x4)), (5, .int x5), (6, .int x6)]) hx hb dX1_sorted_123 hl (k := 7) rfl (by rw [ex7_24]; rfl) (by decide) rfl (fun ls hl => ?_)
              refine lv_goto (tgt := 79) hx hb dX1_sorted_126 (by decide) ?_
              obtain ⟨mm, hmm, h⟩ := h
              exact ih79 mm hmm _ _ _ _ _  hP hS (lv_sub hl [1, 2, 3, 4, 5, 6, 7, 0] rfl) h
      unfold wx1_sorted_b58 at h
      refine lv_iload hx hb dX1_sorted_58 (lv_at hl 6 rfl) ?_
      refine lv_aload_n hx hb dX1_sorted_60 rfl (lv_at hl 1 rfl) ?_
      refine x_alen1 hx hb hK hP hk_p1 dX1_sorted_61 ?_
      refine lv_icmp_ge (tgt := 144) hx hb dX1_sorted_62 (by decide) (fun c_29 => ?_) (fun c_29 => ?_)
      · have h := h.1 c_29
        refine lv_iconst (v := 0) hx hb dX1_sorted_144 (by decide) ?_
        refine lv_istore (lv' := [(6, .int 0), (0, .ref (b + 0)), (1, .ref (b + p1)), (2, .int x2), (3, .ref (b + x3)), (4, .ref (b + x4)), (5, .int x5)]) hx hb dX1_sorted_145 hl (by decide) rfl (fun ls hl => ?_)
        exact L147 _ _ _ _ _ _ _ _ _ _ _ h hle0 hcn hsn hzz hyy hk_x3 hk_x4 hk_p1 hP hS (lv_sub hl [1, 2, 3, 4, 5, 0] rfl)
      · have h := h.2 c_29
        refine lv_aload_n hx hb dX1_sorted_65 rfl (lv_at hl 1 rfl) ?_
        refine lv_iload hx hb dX1_sorted_66 (lv_at hl 6 rfl) ?_
        obtain ⟨j_27, hj_27, ej_27, h⟩ := h
        refine x_iald hx hb hK hP hk_p1 ej_27 hj_27 dX1_sorted_68 ?_
        refine lv_if_ne (tgt := 75) hx hb dX1_sorted_69 (by decide) (fun c_28 => ?_) (fun c_28 => ?_)
        · have h := h.1 c_28
          refine lv_iload hx hb dX1_sorted_75 (lv_at hl 5 rfl) ?_
          refine lv_istore (lv' := [(7, .int x5), (0, .ref (b + 0)), (1, .ref (b + p1)), (2, .int x2), (3, .ref (b + x3)), (4, .ref (b + x4)), (5, .int x5), (6, .int x6)]) hx hb dX1_sorted_77 hl (by decide) rfl (fun ls hl => ?_)
          exact L79 _ _ _ _ _ _ _ h  hP hS (lv_sub hl [1, 2, 3, 4, 5, 6, 7, 0] rfl)
        · have h := h.2 c_28
          refine lv_goto (tgt := 138) hx hb dX1_sorted_72 (by decide) ?_
          exact J138 _ _ _ _ _ _ h  hP hS (lv_sub hl [0, 1, 2, 3, 4, 5, 6] rfl)
  have L11 : ∀ (x3 : Nat) (x4 : Int32) (x2 : Int32) (x5 : Int32) (T : XT) (K : XK) (cn sn : Nat) (H : Heap) (locs : List Loc) (ls : Array Slot), wx1_sorted_l11 p1 Z Y post x3 x4 x2 x5 K T → kle K0 K → kc K0 + cn = kc K → ks K0 + sn = ks K → kc K ≤ Z → ks K ≤ Y → (kd K x3 = 1) → (kd K p1 = 1) → xW G b hole K T H → va_S (xA b hole) s.heap H locs → lv_has ls 8 [(0, .ref (b + 0)), (1, .ref (b + p1)), (2, .int x2), (3, .ref (b + x3)), (4, .int x4), (5, .int x5)] → W p l e (headSpec (ws_ yX1_sorted cX1_sorted 8 (some (.object "TermDesk$Poly"))) ({ frames := 4, cells := (Z - kc K0), slots := (Y - ks K0), locals := 88 } : Room)).room s m ([.ref (b + 0), .ref (b + p1)] : List Value).toArray below meth c H locs cn sn (MQ below (xQ G b hole K0 (Z - kc K0) (Y - ks K0) (ρ := Nat) (eR b) (fun r T1 K1 => post r T1 K1 ∧ kd K1 r = 2)) ([.ref (b + 0), .ref (b + p1)] : List Value).toArray s (Z - kc K0) (Y - ks K0) (xA b hole)) (F0 m 11 ls []) := by
    intro x3 x4 x2 x5 T K cn sn H locs ls h hle0 hcn hsn hzz hyy hk_x3 hk_p1 hP hS hl
    obtain ⟨I11, n11, hI, hstep11⟩ := h
    induction n11 using Nat.strongRecOn generalizing x2 x5 H locs ls with
    | ind n11 ih11 =>
      have h : wx1_sorted_b11 p1 Z Y post (fun x2 x5 => ∃ mm, mm < n11 ∧ I11 mm (x2, x5)) x3 x4 x2 x5 K T := hstep11 n11 _ hI
      clear hI
      have J37 : ∀ (x2 : Int32) (x5 : Int32) (H : Heap) (locs : List Loc) (ls : Array Slot), wx1_sorted_j37 p1 Z Y post (fun x2 x5 => ∃ mm, mm < n11 ∧ I11 mm (x2, x5)) x2 x3 x4 x5 K T → xW G b hole K T H → va_S (xA b hole) s.heap H locs → lv_has ls 8 [(0, .ref (b + 0)), (1, .ref (b + p1)), (2, .int x2), (3, .ref (b + x3)), (4, .int x4), (5, .int x5)] → W p l e (headSpec (ws_ yX1_sorted cX1_sorted 8 (some (.object "TermDesk$Poly"))) ({ frames := 4, cells := (Z - kc K0), slots := (Y - ks K0), locals := 88 } : Room)).room s m ([.ref (b + 0), .ref (b + p1)] : List Value).toArray below meth c H locs cn sn (MQ below (xQ G b hole K0 (Z - kc K0) (Y - ks K0) (ρ := Nat) (eR b) (fun r T1 K1 => post r T1 K1 ∧ kd K1 r = 2)) ([.ref (b + 0), .ref (b + p1)] : List Value).toArray s (Z - kc K0) (Y - ks K0) (xA b hole)) (F0 m 37 ls []) := by
        intro x2 x5 H locs ls h hP hS hl
        unfold wx1_sorted_j37 at h
        obtain ⟨x5_30, ex5_30⟩ : ∃ y : Int32, y = x5 + 1 := ⟨_, rfl⟩
        have h := h x5_30 ex5_30
        refine lv_iinc (v := x5_30) (lv' := [(5, .int x5_30), (0, .ref (b + 0)), (1, .ref (b + p1)), (2, .int x2), (3, .ref (b + x3)), (4, .int x4)]) hx hb dX1_sorted_37 hl (k := 5) rfl (by rw [ex5_30]; rfl) (by decide) rfl (fun ls hl => ?_)
        refine lv_goto (tgt := 11) hx hb dX1_sorted_40 (by decide) ?_
        obtain ⟨mm, hmm, h⟩ := h
        exact ih11 mm hmm _ _ _ _ _  hP hS (lv_sub hl [1, 2, 3, 4, 5, 0] rfl) h
      unfold wx1_sorted_b11 at h
      refine lv_iload hx hb dX1_sorted_11 (lv_at hl 5 rfl) ?_
      refine lv_iload hx hb dX1_sorted_13 (lv_at hl 4 rfl) ?_
      refine lv_icmp_ge (tgt := 43) hx hb dX1_sorted_15 (by decide) (fun c_41 => ?_) (fun c_41 => ?_)
      · have h := h.1 c_41
        refine lv_iload_n hx hb dX1_sorted_43 rfl (lv_at hl 2 rfl) ?_
        obtain ⟨n_31, hn_31, en_31, h⟩ := h
        obtain ⟨hc1, hs1, h⟩ := h
        obtain ⟨K_32, eK_32⟩ : ∃ z : XK, z = knew K 1 n_31 n_31 := ⟨_, rfl⟩
        obtain ⟨T_33, eT_33⟩ : ∃ z : XT, z = xnil T (kz K) := ⟨_, rfl⟩
        have h := h K_32 eK_32 T_33 eT_33
        have hle1 : kle K K_32 := by rw [eK_32]; exact kle.new hP.2.2.1 _ _ _
        refine x_newai (N := n_31) hx hb hts q170 hK hP hS en_31 hn_31 (by show _ + 1 ≤ Z - kc K0; omega) (by show _ + _ ≤ Y - ks K0; omega) dX1_sorted_44 (fun H hP hS => ?_)
        rw [← eK_32, ← eT_33] at hP
        have hk_p1 : kd K_32 p1 = 1 := hle1.kd hk_p1
        have hk_x3 : kd K_32 x3 = 1 := hle1.kd hk_x3
        have hk_n32 : kd K_32 (kz K) = 1 := by rw [eK_32]; exact knew_kd
        have hle0 := hle0.tr hle1
        have hcn : kc K0 + (cn + 1) = kc K_32 := by rw [eK_32]; show _ = kc K + 1; omega
        have hsn : ks K0 + (sn + n_31) = ks K_32 := by rw [eK_32]; show _ = ks K + n_31; omega
        have hzz : kc K_32 ≤ Z := by rw [eK_32]; exact hc1
        have hyy : ks K_32 ≤ Y := by rw [eK_32]; exact hs1
        refine lv_astore_n (lv' := [(3, .ref (b + (kz K))), (0, .ref (b + 0)), (1, .ref (b + p1)), (2, .int x2), (4, .int x4), (5, .int x5)]) hx hb dX1_sorted_46 rfl hl (by decide) rfl (fun ls hl => ?_)
        refine lv_iload_n hx hb dX1_sorted_47 rfl (lv_at hl 3 rfl) ?_
        obtain ⟨n_34, hn_34, en_34, h⟩ := h
        obtain ⟨hc1, hs1, h⟩ := h
        obtain ⟨K_35, eK_35⟩ : ∃ z : XK, z = knew K_32 1 n_34 n_34 := ⟨_, rfl⟩
        obtain ⟨T_36, eT_36⟩ : ∃ z : XT, z = xnil T_33 (kz K_32) := ⟨_, rfl⟩
        have h := h K_35 eK_35 T_36 eT_36
        have hle1 : kle K_32 K_35 := by rw [eK_35]; exact kle.new hP.2.2.1 _ _ _
        refine x_newai (N := n_34) hx hb hts q170 hK hP hS en_34 hn_34 (by show _ + 1 ≤ Z - kc K0; omega) (by show _ + _ ≤ Y - ks K0; omega) dX1_sorted_48 (fun H hP hS => ?_)
        rw [← eK_35, ← eT_36] at hP
        have hk_n32 : kd K_35 (kz K) = 1 := hle1.kd hk_n32
        have hk_p1 : kd K_35 p1 = 1 := hle1.kd hk_p1
        have hk_n35 : kd K_35 (kz K_32) = 1 := by rw [eK_35]; exact knew_kd
        have hle0 := hle0.tr hle1
        have hcn : kc K0 + ((cn + 1) + 1) = kc K_35 := by rw [eK_35]; show _ = kc K_32 + 1; omega
        have hsn : ks K0 + ((sn + n_31) + n_34) = ks K_35 := by rw [eK_35]; show _ = ks K_32 + n_34; omega
        have hzz : kc K_35 ≤ Z := by rw [eK_35]; exact hc1
        have hyy : ks K_35 ≤ Y := by rw [eK_35]; exact hs1
        refine lv_astore (lv' := [(4, .ref (b + (kz K_32))), (3, .ref (b + (kz K))), (0, .ref (b + 0)), (1, .ref (b + p1)), (2, .int x2), (5, .int x5)]) hx hb dX1_sorted_50 hl (by decide) rfl (fun ls hl => ?_)
        refine lv_iconst (v := 0) hx hb dX1_sorted_52 (by decide) ?_
        refine lv_istore (lv' := [(5, .int 0), (4, .ref (b + (kz K_32))), (3, .ref (b + (kz K))), (0, .ref (b + 0)), (1, .ref (b + p1)), (2, .int x2)]) hx hb dX1_sorted_53 hl (by decide) rfl (fun ls hl => ?_)
        refine lv_iconst (v := 0) hx hb dX1_sorted_55 (by decide) ?_
        refine lv_istore (lv' := [(6, .int 0), (5, .int 0), (4, .ref (b + (kz K_32))), (3, .ref (b + (kz K))), (0, .ref (b + 0)), (1, .ref (b + p1)), (2, .int x2)]) hx hb dX1_sorted_56 hl (by decide) rfl (fun ls hl => ?_)
        exact L58 _ _ _ _ _ _ _ _ _ _ _ _ h hle0 hcn hsn hzz hyy hk_n32 hk_n35 hk_p1 hP hS (lv_sub hl [4, 5, 6, 3, 2, 1, 0] rfl)
      · have h := h.2 c_41
        refine lv_aload_n hx hb dX1_sorted_18 rfl (lv_at hl 3 rfl) ?_
        refine lv_iload hx hb dX1_sorted_19 (lv_at hl 5 rfl) ?_
        obtain ⟨j_37, hj_37, ej_37, h⟩ := h
        refine x_iald hx hb hK hP hk_x3 ej_37 hj_37 dX1_sorted_21 ?_
        refine lv_istore (lv' := [(6, .int (xi T x3 j_37)), (0, .ref (b + 0)), (1, .ref (b + p1)), (2, .int x2), (3, .ref (b + x3)), (4, .int x4), (5, .int x5)]) hx hb dX1_sorted_22 hl (by decide) rfl (fun ls hl => ?_)
        refine lv_iload_n hx hb dX1_sorted_24 rfl (lv_at hl 3 rfl) ?_
        refine lv_iload hx hb dX1_sorted_25 (lv_at hl 0 rfl) ?_
        refine lv_if_ne (tgt := 34) hx hb dX1_sorted_27 (by decide) (fun c_40 => ?_) (fun c_40 => ?_)
        · have h := h.1 c_40
          refine lv_iconst (v := 1) hx hb dX1_sorted_34 (by decide) ?_
          refine lv_iadd hx hb dX1_sorted_35 ?_
          refine lv_topi (fun x2_38 ex2_38 => ?_)
          have h := h x2_38 ex2_38
          refine lv_istore_n (lv' := [(2, .int x2_38), (6, .int (xi T x3 j_37)), (0, .ref (b + 0)), (1, .ref (b + p1)), (3, .ref (b + x3)), (4, .int x4), (5, .int x5)]) hx hb dX1_sorted_36 rfl hl (by decide) rfl (fun ls hl => ?_)
          exact J37 _ _ _ _ _ h  hP hS (lv_sub hl [2, 3, 0, 4, 5, 6] rfl)
        · have h := h.2 c_40
          refine lv_iconst (v := 0) hx hb dX1_sorted_30 (by decide) ?_
          refine lv_goto (tgt := 35) hx hb dX1_sorted_31 (by decide) ?_
          refine lv_iadd hx hb dX1_sorted_35 ?_
          refine lv_topi (fun x2_39 ex2_39 => ?_)
          have h := h x2_39 ex2_39
          refine lv_istore_n (lv' := [(2, .int x2_39), (6, .int (xi T x3 j_37)), (0, .ref (b + 0)), (1, .ref (b + p1)), (3, .ref (b + x3)), (4, .int x4), (5, .int x5)]) hx hb dX1_sorted_36 rfl hl (by decide) rfl (fun ls hl => ?_)
          exact J37 _ _ _ _ _ h  hP hS (lv_sub hl [2, 3, 0, 4, 5, 6] rfl)
  have hcn : kc K0 + 0 = kc K0 := rfl
  have hsn : ks K0 + 0 = ks K0 := rfl
  have hzz := hZ
  have hyy := hY
  unfold wx1_sorted at h
  refine lv_iconst (v := 0) hx hb dX1_sorted_0 (by decide) ?_
  refine lv_istore_n (lv' := [(2, .int 0), (0, .ref (b + 0)), (1, .ref (b + p1))]) hx hb dX1_sorted_1 rfl hl (by decide) rfl (fun ls hl => ?_)
  refine lv_aload_n hx hb dX1_sorted_2 rfl (lv_at hl 2 rfl) ?_
  refine lv_astore_n (lv' := [(3, .ref (b + p1)), (2, .int 0), (0, .ref (b + 0)), (1, .ref (b + p1))]) hx hb dX1_sorted_3 rfl hl (by decide) rfl (fun ls hl => ?_)
  refine lv_aload_n hx hb dX1_sorted_4 rfl (lv_at hl 0 rfl) ?_
  refine x_alen1 hx hb hK hP hk_p1 dX1_sorted_5 ?_
  refine lv_topi (fun x4_42 ex4_42 => ?_)
  have h := h x4_42 ex4_42
  refine lv_istore (lv' := [(4, .int x4_42), (3, .ref (b + p1)), (2, .int 0), (0, .ref (b + 0)), (1, .ref (b + p1))]) hx hb dX1_sorted_6 hl (by decide) rfl (fun ls hl => ?_)
  refine lv_iconst (v := 0) hx hb dX1_sorted_8 (by decide) ?_
  refine lv_istore (lv' := [(5, .int 0), (4, .int x4_42), (3, .ref (b + p1)), (2, .int 0), (0, .ref (b + 0)), (1, .ref (b + p1))]) hx hb dX1_sorted_9 hl (by decide) rfl (fun ls hl => ?_)
  exact L11 _ _ _ _ _ _ _ _ _ _ _ h hle0 hcn hsn hzz hyy hk_p1 hk_p1 hP hS (lv_sub hl [4, 5, 3, 2, 1, 0] rfl)
theorem cwx_X1_fault : yX1_fault.cls = RX1 ∧ yX1_fault.cls ≠ "java/lang/invoke/MethodHandle" ∧ yX1_fault.cls ≠ "java/lang/invoke/VarHandle" ∧ (parseMethodDescriptor yX1_fault.desc).map (fun d => d.parameters.length) = some 0 := by decide +kernel
def wx1_fault  (K : XK) (T : XT) (post : Int32 → Prop) : Prop :=
  post (xi T 0 24)
set_option maxHeartbeats 4000000 in
theorem mx1_fault (l : Launch) (G : XG) (b : Nat) (hole : Nat → Prop)  (K : XK) (T : XT)  (post : Int32 → Prop) (h : wx1_fault  K T post) : Met l yX1_fault (ws_ yX1_fault cX1_fault 1 (some .int)) ({ frames := 0, cells := 0, slots := 0, locals := 0 } : Room) (xPc G b hole [.ref (b + 0)] K T) (xQ G b hole K 0 0 (ρ := Int32) eI (fun r T1 K1 => post r ∧ T1 = T ∧ K1 = K)) 0 0 (xA b hole) := by
  refine Met.ofW (cc := cX1_fault) (maxL := 1) (ret := (some .int)) (by decide) rfl ?_
  intro p e s m args below meth c s₁ B hml hv
  obtain ⟨rfl, hP, hK, hV⟩ := hv
  have hx := B.exec
  have hb := B.bytes
  have hr := B.returns
  have hts := atoms_spec (ws := ws_ yX1_fault cX1_fault 1 (some .int)) B.pre
  have hts : ∀ w ∈ lw_all, w.before _ s = true := fun w h => hts w (List.mem_cons_of_mem _ h)
  have hown : s.vm.findClass RX1 = some m.cls := findClass_of_methodNamed B.named
  have hlocks := B.notSynchronized
  have hb0 : b ≤ s.heap.size := by rw [hP.2.2.2]; exact Nat.le_add_right _ _
  have hS : va_S (xA b hole) s.heap s.heap [] := va_S.rf
  have hl := lv_entry ([.ref (b + 0)]) (n := 1) (Nat.le_of_ble_eq_true rfl)
  rw [lg_entry_eq]
  generalize (lg_sl ([.ref (b + 0)]) ++ List.replicate (1 - (lg_sl ([.ref (b + 0)])).length) Slot.unset).toArray = ls at hl ⊢
  have hl : lv_has ls 1 [(0, .ref (b + 0))] := hl
  unfold wx1_fault at h
  refine lv_aload_n hx hb dX1_fault_0 rfl (lv_at hl 0 rfl) ?_
  refine x_get (CC := RX1) (TT := TX1) (N := 26) (ci := 0) (v := .int (xi T 0 24)) hx hb hts in_X1 hown hK hP (xs_0 hP) (by decide) (by decide) rfl (xE_8 (xs_0 hP)) 24 (by decide) q411 rfl rfl dX1_fault_1 ?_
  exact W.iret (v := (xi T 0 24)) hx hb hr (fun t ht hW => ⟨⟨(xi T 0 24), T, K, rfl, ⟨h, rfl, rfl⟩, kle.rf, rfl, rfl, by rw [ht]; exact hP, va_K.moved hW.alike hK⟩, hS.F ht⟩) hS.2.2 dX1_fault_4
