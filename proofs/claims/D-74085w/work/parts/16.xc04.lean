set_option maxRecDepth 100000
theorem cwx_X1_isOrder : yX1_isOrder.cls ≠ "java/lang/invoke/MethodHandle" ∧ yX1_isOrder.cls ≠ "java/lang/invoke/VarHandle" ∧ (parseMethodDescriptor yX1_isOrder.desc).map (fun d => d.parameters.length) = some 3 := by decide +kernel
def wx1_isOrder (p1 : Int32) (p2 : Int32) (p3 : Int32) (K : XK) (T : XT) (post : Int32 → Prop) : Prop :=
  wx1_in p1 0 2 K T (fun r_1 =>
  ((r_1 = 0 →
    post 0) ∧
   (¬ (r_1 = 0) →
    wx1_isUnknown p2 K T (fun r_4 =>
    ((r_4 = 0 →
      post 0) ∧
     (¬ (r_4 = 0) →
      wx1_isUnknown p3 K T (fun r_7 =>
      ((r_7 = 0 →
        post 0) ∧
       (¬ (r_7 = 0) →
        ((p2 = p3 →
          post 0) ∧
         (¬ (p2 = p3) →
          post 1)))))))))))
set_option maxHeartbeats 4000000 in
theorem mx1_isOrder (l : Launch) (G : XG) (b : Nat) (hole : Nat → Prop) (p1 : Int32) (p2 : Int32) (p3 : Int32) (K : XK) (T : XT)  (post : Int32 → Prop) (h : wx1_isOrder p1 p2 p3 K T post) : Met l yX1_isOrder (ws_ yX1_isOrder cX1_isOrder 3 (some .boolean)) ({ frames := 2, cells := 0, slots := 0, locals := 42 } : Room) (xPc G b hole [.int p1, .int p2, .int p3] K T) (xQ G b hole K 0 0 (ρ := Int32) eI (fun r T1 K1 => post r ∧ T1 = T ∧ K1 = K)) 0 0 (xA b hole) := by
  refine Met.ofW (cc := cX1_isOrder) (maxL := 3) (ret := (some .boolean)) (by decide) rfl ?_
  intro p e s m args below meth c s₁ B hml hv
  obtain ⟨rfl, hP, hK, hV⟩ := hv
  have hx := B.exec
  have hb := B.bytes
  have hr := B.returns
  have hts := atoms_spec (ws := ws_ yX1_isOrder cX1_isOrder 3 (some .boolean)) B.pre
  have hts : ∀ w ∈ lw_all, w.before _ s = true := fun w h => hts w (List.mem_cons_of_mem _ h)
  have hown : s.vm.findClass RX1 = some m.cls := findClass_of_methodNamed B.named
  have hlocks := B.notSynchronized
  have hb0 : b ≤ s.heap.size := by rw [hP.2.2.2]; exact Nat.le_add_right _ _
  have hS : va_S (xA b hole) s.heap s.heap [] := va_S.rf
  have hl := lv_entry ([.int p1, .int p2, .int p3]) (n := 3) (Nat.le_of_ble_eq_true rfl)
  rw [lg_entry_eq]
  generalize (lg_sl ([.int p1, .int p2, .int p3]) ++ List.replicate (3 - (lg_sl ([.int p1, .int p2, .int p3])).length) Slot.unset).toArray = ls at hl ⊢
  have hl : lv_has ls 3 [(0, .int p1), (1, .int p2), (2, .int p3)] := hl
  unfold wx1_isOrder at h
  refine lv_iload_n hx hb dX1_isOrder_0 rfl (lv_at hl 0 rfl) ?_
  refine lv_iconst (v := 0) hx hb dX1_isOrder_1 (by decide) ?_
  refine lv_iconst (v := 2) hx hb dX1_isOrder_2 (by decide) ?_
  refine x_cS (As := [.int p1, .int 0, .int 2]) (rest := []) ⟨hx, hb, hml, hown, hts⟩ (mx1_in l G b hole p1 0 2 K T  _ h) (va_cwS 3 hts (lw_S q483 q484 q118 q485) rfl rfl rfl cwx_X1_in ⟨Nat.le_of_ble_eq_true rfl, Nat.le_of_ble_eq_true rfl⟩) hK hV hb0 hP hS rfl hl.1 rfl (Nat.le_of_ble_eq_true rfl) dX1_isOrder_3 ⟨by first | exact Nat.zero_le _ | (show _ + _ ≤ Z - kc K0; omega), by first | exact Nat.zero_le _ | (show _ + _ ≤ Y - ks K0; omega)⟩ (fun r_1 T1 K1 H locs h hle1 hc1 hs1 hP hS => ?_)
  obtain ⟨h, hTe, hKe⟩ := h
  rw [hTe, hKe] at hP
  refine lv_if_eq (tgt := 32) hx hb dX1_isOrder_6 (by decide) (fun c_13 => ?_) (fun c_13 => ?_)
  · have h := h.1 c_13
    refine lv_iconst (v := 0) hx hb dX1_isOrder_32 (by decide) ?_
    exact W.zret (v := 0) hx hb hr rfl (fun t ht hW => ⟨⟨0, T, K, rfl, ⟨h, rfl, rfl⟩, kle.rf, rfl, rfl, by rw [ht]; exact hP, va_K.moved hW.alike hK⟩, hS.F ht⟩) hS.2.2 dX1_isOrder_33
  · have h := h.2 c_13
    refine lv_iload_n hx hb dX1_isOrder_9 rfl (lv_at hl 1 rfl) ?_
    refine x_cS (As := [.int p2]) (rest := []) ⟨hx, hb, hml, hown, hts⟩ (mx1_isUnknown l G b hole p2 K T  _ h) (va_cwS 1 hts (lw_S q816 q817 q118 q818) rfl rfl rfl cwx_X1_isUnknown ⟨Nat.le_of_ble_eq_true rfl, Nat.le_of_ble_eq_true rfl⟩) hK hV hb0 hP hS rfl hl.1 rfl (Nat.le_of_ble_eq_true rfl) dX1_isOrder_10 ⟨by first | exact Nat.zero_le _ | (show _ + _ ≤ Z - kc K0; omega), by first | exact Nat.zero_le _ | (show _ + _ ≤ Y - ks K0; omega)⟩ (fun r_4 T1 K1 H locs h hle1 hc1 hs1 hP hS => ?_)
    obtain ⟨h, hTe, hKe⟩ := h
    rw [hTe, hKe] at hP
    refine lv_if_eq (tgt := 32) hx hb dX1_isOrder_13 (by decide) (fun c_12 => ?_) (fun c_12 => ?_)
    · have h := h.1 c_12
      refine lv_iconst (v := 0) hx hb dX1_isOrder_32 (by decide) ?_
      exact W.zret (v := 0) hx hb hr rfl (fun t ht hW => ⟨⟨0, T, K, rfl, ⟨h, rfl, rfl⟩, kle.rf, rfl, rfl, by rw [ht]; exact hP, va_K.moved hW.alike hK⟩, hS.F ht⟩) hS.2.2 dX1_isOrder_33
    · have h := h.2 c_12
      refine lv_iload_n hx hb dX1_isOrder_16 rfl (lv_at hl 2 rfl) ?_
      refine x_cS (As := [.int p3]) (rest := []) ⟨hx, hb, hml, hown, hts⟩ (mx1_isUnknown l G b hole p3 K T  _ h) (va_cwS 1 hts (lw_S q816 q817 q118 q818) rfl rfl rfl cwx_X1_isUnknown ⟨Nat.le_of_ble_eq_true rfl, Nat.le_of_ble_eq_true rfl⟩) hK hV hb0 hP hS rfl hl.1 rfl (Nat.le_of_ble_eq_true rfl) dX1_isOrder_17 ⟨by first | exact Nat.zero_le _ | (show _ + _ ≤ Z - kc K0; omega), by first | exact Nat.zero_le _ | (show _ + _ ≤ Y - ks K0; omega)⟩ (fun r_7 T1 K1 H locs h hle1 hc1 hs1 hP hS => ?_)
      obtain ⟨h, hTe, hKe⟩ := h
      rw [hTe, hKe] at hP
      refine lv_if_eq (tgt := 32) hx hb dX1_isOrder_20 (by decide) (fun c_11 => ?_) (fun c_11 => ?_)
      · have h := h.1 c_11
        refine lv_iconst (v := 0) hx hb dX1_isOrder_32 (by decide) ?_
        exact W.zret (v := 0) hx hb hr rfl (fun t ht hW => ⟨⟨0, T, K, rfl, ⟨h, rfl, rfl⟩, kle.rf, rfl, rfl, by rw [ht]; exact hP, va_K.moved hW.alike hK⟩, hS.F ht⟩) hS.2.2 dX1_isOrder_33
      · have h := h.2 c_11
        refine lv_iload_n hx hb dX1_isOrder_23 rfl (lv_at hl 1 rfl) ?_
        refine lv_iload_n hx hb dX1_isOrder_24 rfl (lv_at hl 2 rfl) ?_
        refine lv_icmp_eq (tgt := 32) hx hb dX1_isOrder_25 (by decide) (fun c_10 => ?_) (fun c_10 => ?_)
        · have h := h.1 c_10
          refine lv_iconst (v := 0) hx hb dX1_isOrder_32 (by decide) ?_
          exact W.zret (v := 0) hx hb hr rfl (fun t ht hW => ⟨⟨0, T, K, rfl, ⟨h, rfl, rfl⟩, kle.rf, rfl, rfl, by rw [ht]; exact hP, va_K.moved hW.alike hK⟩, hS.F ht⟩) hS.2.2 dX1_isOrder_33
        · have h := h.2 c_10
          refine lv_iconst (v := 1) hx hb dX1_isOrder_28 (by decide) ?_
          refine lv_goto (tgt := 33) hx hb dX1_isOrder_29 (by decide) ?_
          exact W.zret (v := 1) hx hb hr rfl (fun t ht hW => ⟨⟨1, T, K, rfl, ⟨h, rfl, rfl⟩, kle.rf, rfl, rfl, by rw [ht]; exact hP, va_K.moved hW.alike hK⟩, hS.F ht⟩) hS.2.2 dX1_isOrder_33
theorem cwx_X1_leadBy : yX1_leadBy.cls = RX1 ∧ yX1_leadBy.cls ≠ "java/lang/invoke/MethodHandle" ∧ yX1_leadBy.cls ≠ "java/lang/invoke/VarHandle" ∧ (parseMethodDescriptor yX1_leadBy.desc).map (fun d => d.parameters.length) = some 4 := by decide +kernel
def wx1_leadBy_j112 (p1 : Int32) (p2 : Int32) (p3 : Int32) (p4 : Int32) (Z Y : Nat) (post : Int32 → XT → XK → Prop) (R46 : Int32 → Int32 → Prop) (x5 : Nat) (x6 : Int32) (x7 : Int32) (K : XK) (T : XT) : Prop :=
        ∀ x7_1 : Int32, x7_1 = x7 + 1 →
        R46 x6 x7_1
def wx1_leadBy_j98 (p1 : Int32) (p2 : Int32) (p3 : Int32) (p4 : Int32) (Z Y : Nat) (post : Int32 → XT → XK → Prop) (R46 : Int32 → Int32 → Prop) (x5 : Nat) (x7 : Int32) (K : XK) (T : XT) : Prop :=
        ∃ v_2 : Nat, xr T 0 18 = some v_2 ∧
        ∃ j_3 : Nat, j_3 < kl K v_2 ∧ p1 = nI j_3 ∧ ∃ v_4 : Nat, xr T v_2 j_3 = some v_4 ∧
        ∃ v_5 : Nat, xr T v_4 0 = some v_5 ∧
        ∃ j_6 : Nat, j_6 < kl K v_5 ∧ x7 = nI j_6 ∧
        wx1_leadBy_j112 p1 p2 p3 p4 Z Y post R46 x5 (xi T v_5 j_6) x7 K T
def wx1_leadBy_b46 (p1 : Int32) (p2 : Int32) (p3 : Int32) (p4 : Int32) (Z Y : Nat) (post : Int32 → XT → XK → Prop) (R46 : Int32 → Int32 → Prop) (x5 : Nat) (x6 : Int32) (x7 : Int32) (K : XK) (T : XT) : Prop :=
      ∃ v_7 : Nat, xr T 0 18 = some v_7 ∧
      ∃ j_8 : Nat, j_8 < kl K v_7 ∧ p1 = nI j_8 ∧ ∃ v_9 : Nat, xr T v_7 j_8 = some v_9 ∧
      (((xi T v_9 2) ≤ x7 →
        post x6 T (kset K Z Y)) ∧
       (¬ ((xi T v_9 2) ≤ x7) →
        ((x6 = (-2) →
          wx1_leadBy_j98 p1 p2 p3 p4 Z Y post R46 x5 x7 K T) ∧
         (¬ (x6 = (-2)) →
          ∃ v_10 : Nat, xr T 0 18 = some v_10 ∧
          ∃ j_11 : Nat, j_11 < kl K v_10 ∧ p1 = nI j_11 ∧ ∃ v_12 : Nat, xr T v_10 j_11 = some v_12 ∧
          ∃ v_13 : Nat, xr T v_12 0 = some v_13 ∧
          ∃ j_14 : Nat, j_14 < kl K v_13 ∧ x7 = nI j_14 ∧
          wx_key x5 (xi T v_13 j_14) K T (fun r_15 =>
          wx_key x5 x6 K T (fun r_16 =>
          ((r_15 ≤ r_16 →
            wx1_leadBy_j112 p1 p2 p3 p4 Z Y post R46 x5 x6 x7 K T) ∧
           (¬ (r_15 ≤ r_16) →
            wx1_leadBy_j98 p1 p2 p3 p4 Z Y post R46 x5 x7 K T))))))))
def wx1_leadBy_l46 (p1 : Int32) (p2 : Int32) (p3 : Int32) (p4 : Int32) (Z Y : Nat) (post : Int32 → XT → XK → Prop) (x5 : Nat) (x6 : Int32) (x7 : Int32) (K : XK) (T : XT) : Prop := wLoop (fun (R : ((Int32) × (Int32)) → Prop) (v : (Int32) × (Int32)) => wx1_leadBy_b46 p1 p2 p3 p4 Z Y post (fun x6 x7 => R (x6, x7)) x5 v.1 v.2 K T) (x6, x7)
def wx1_leadBy (p1 : Int32) (p2 : Int32) (p3 : Int32) (p4 : Int32) (K0 : XK) (T : XT) (Z Y : Nat) (post : Int32 → XT → XK → Prop) : Prop :=
  kc K0 + 1 ≤ Z ∧ ks K0 + 1 ≤ Y ∧ ∀ K_20 : XK, K_20 = knew K0 1 1 1 → ∀ T_21 : XT, T_21 = xnil T (kz K0) →
  ∃ j_22 : Nat, j_22 < kl K_20 (kz K0) ∧ 0 = nI j_22 ∧ ∀ T_23 : XT, T_23 = xwi T_21 (kz K0) j_22 p1 →
  wx1_is (kz K0) K_20 T_23 (fun r_24 =>
  wx1_isOrder p2 p3 p4 K_20 T_23 (fun r_27 =>
  wx1_why_2 r_24 r_27 K_20 T_23 (fun r_30 =>
  wx1_isRefused r_30 K_20 T_23 (fun r_33 T_34 =>
  ((r_33 = 0 →
    ∃ Z_39 Y_40 : Nat, kc K_20 ≤ Z_39 ∧ Z_39 ≤ Z ∧ ks K_20 ≤ Y_40 ∧ Y_40 ≤ Y ∧ wx1_orderOf p2 p3 p4 K_20 T_34 Z_39 Y_40 (fun r_36 T_37 K_38 =>
    wx1_leadBy_l46 p1 p2 p3 p4 Z Y post r_36 (-2) 0 K_38 T_37)) ∧
   (¬ (r_33 = 0) →
    post (-1) T_34 (kset K_20 Z Y)))))))
set_option maxHeartbeats 4000000 in
theorem mx1_leadBy (l : Launch) (G : XG) (b : Nat) (hole : Nat → Prop) (p1 : Int32) (p2 : Int32) (p3 : Int32) (p4 : Int32) (K0 : XK) (T : XT) (Z Y : Nat) (hZ : kc K0 ≤ Z) (hY : ks K0 ≤ Y)  (post : Int32 → XT → XK → Prop) (h : wx1_leadBy p1 p2 p3 p4 K0 T Z Y post) : Met l yX1_leadBy (ws_ yX1_leadBy cX1_leadBy 8 (some .int)) ({ frames := 4, cells := (Z - kc K0), slots := (Y - ks K0), locals := 3123 } : Room) (xPc G b hole [.ref (b + 0), .int p1, .int p2, .int p3, .int p4] K0 T) (xQ G b hole K0 (Z - kc K0) (Y - ks K0) (ρ := Int32) eI (fun r T1 K1 => post r T1 K1)) (Z - kc K0) (Y - ks K0) (xA b hole) := by
  refine Met.ofW (cc := cX1_leadBy) (maxL := 8) (ret := (some .int)) (by decide) rfl ?_
  intro p e s m args below meth c s₁ B hml hv
  obtain ⟨rfl, hP, hK, hV⟩ := hv
  have hx := B.exec
  have hb := B.bytes
  have hr := B.returns
  have hts := atoms_spec (ws := ws_ yX1_leadBy cX1_leadBy 8 (some .int)) B.pre
  have hts : ∀ w ∈ lw_all, w.before _ s = true := fun w h => hts w (List.mem_cons_of_mem _ h)
  have hown : s.vm.findClass RX1 = some m.cls := findClass_of_methodNamed B.named
  have hlocks := B.notSynchronized
  have hb0 : b ≤ s.heap.size := by rw [hP.2.2.2]; exact Nat.le_add_right _ _
  have hS : va_S (xA b hole) s.heap s.heap [] := va_S.rf
  have hl := lv_entry ([.ref (b + 0), .int p1, .int p2, .int p3, .int p4]) (n := 8) (Nat.le_of_ble_eq_true rfl)
  rw [lg_entry_eq]
  generalize (lg_sl ([.ref (b + 0), .int p1, .int p2, .int p3, .int p4]) ++ List.replicate (8 - (lg_sl ([.ref (b + 0), .int p1, .int p2, .int p3, .int p4])).length) Slot.unset).toArray = ls at hl ⊢
  have hl : lv_has ls 8 [(0, .ref (b + 0)), (1, .int p1), (2, .int p2), (3, .int p3), (4, .int p4)] := hl
  have hle0 : kle K0 K0 := kle.rf
  have L46 : ∀ (x5 : Nat) (x6 : Int32) (x7 : Int32) (T : XT) (K : XK) (cn sn : Nat) (H : Heap) (locs : List Loc) (ls : Array Slot), wx1_leadBy_l46 p1 p2 p3 p4 Z Y post x5 x6 x7 K T → kle K0 K → kc K0 + cn = kc K → ks K0 + sn = ks K → kc K ≤ Z → ks K ≤ Y → (kd K x5 = 16) → xW G b hole K T H → va_S (xA b hole) s.heap H locs → lv_has ls 8 [(0, .ref (b + 0)), (1, .int p1), (5, .ref (b + x5)), (6, .int x6), (7, .int x7)] → W p l e (headSpec (ws_ yX1_leadBy cX1_leadBy 8 (some .int)) ({ frames := 4, cells := (Z - kc K0), slots := (Y - ks K0), locals := 3123 } : Room)).room s m ([.ref (b + 0), .int p1, .int p2, .int p3, .int p4] : List Value).toArray below meth c H locs cn sn (MQ below (xQ G b hole K0 (Z - kc K0) (Y - ks K0) (ρ := Int32) eI (fun r T1 K1 => post r T1 K1)) ([.ref (b + 0), .int p1, .int p2, .int p3, .int p4] : List Value).toArray s (Z - kc K0) (Y - ks K0) (xA b hole)) (F0 m 46 ls []) := by
    intro x5 x6 x7 T K cn sn H locs ls h hle0 hcn hsn hzz hyy hk_x5 hP hS hl
    obtain ⟨I46, n46, hI, hstep46⟩ := h
    induction n46 using Nat.strongRecOn generalizing x6 x7 H locs ls with
    | ind n46 ih46 =>
      have h : wx1_leadBy_b46 p1 p2 p3 p4 Z Y post (fun x6 x7 => ∃ mm, mm < n46 ∧ I46 mm (x6, x7)) x5 x6 x7 K T := hstep46 n46 _ hI
      clear hI
      have J112 : ∀ (x6 : Int32) (x7 : Int32) (H : Heap) (locs : List Loc) (ls : Array Slot), wx1_leadBy_j112 p1 p2 p3 p4 Z Y post (fun x6 x7 => ∃ mm, mm < n46 ∧ I46 mm (x6, x7)) x5 x6 x7 K T → xW G b hole K T H → va_S (xA b hole) s.heap H locs → lv_has ls 8 [(0, .ref (b + 0)), (1, .int p1), (5, .ref (b + x5)), (6, .int x6), (7, .int x7)] → W p l e (headSpec (ws_ yX1_leadBy cX1_leadBy 8 (some .int)) ({ frames := 4, cells := (Z - kc K0), slots := (Y - ks K0), locals := 3123 } : Room)).room s m ([.ref (b + 0), .int p1, .int p2, .int p3, .int p4] : List Value).toArray below meth c H locs cn sn (MQ below (xQ G b hole K0 (Z - kc K0) (Y - ks K0) (ρ := Int32) eI (fun r T1 K1 => post r T1 K1)) ([.ref (b + 0), .int p1, .int p2, .int p3, .int p4] : List Value).toArray s (Z - kc K0) (Y - ks K0) (xA b hole)) (F0 m 112 ls []) := by
        intro x6 x7 H locs ls h hP hS hl
        unfold wx1_leadBy_j112 at h
        obtain ⟨x7_1, ex7_1⟩ : ∃ y : Int32, y = x7 + 1 := ⟨_, rfl⟩
        have h := h x7_1 ex7_1
        refine lv_iinc (v := x7_1) (lv' := [(7, .int x7_1), (0, .ref (b + 0)), (1, .int p1), (5, .ref (b + x5)), (6, .int x6)]) hx hb dX1_leadBy_112 hl (k := 4) rfl (by rw [ex7_1]; rfl) (by decide) rfl (fun ls hl => ?_)
        refine lv_goto (tgt := 46) hx hb dX1_leadBy_115 (by decide) ?_
        obtain ⟨mm, hmm, h⟩ := h
        exact ih46 mm hmm _ _ _ _ _  hP hS (lv_sub hl [1, 2, 3, 4, 0] rfl) h
      have J98 : ∀ (x7 : Int32) (H : Heap) (locs : List Loc) (ls : Array Slot), wx1_leadBy_j98 p1 p2 p3 p4 Z Y post (fun x6 x7 => ∃ mm, mm < n46 ∧ I46 mm (x6, x7)) x5 x7 K T → xW G b hole K T H → va_S (xA b hole) s.heap H locs → lv_has ls 8 [(0, .ref (b + 0)), (1, .int p1), (5, .ref (b + x5)), (7, .int x7)] → W p l e (headSpec (ws_ yX1_leadBy cX1_leadBy 8 (some .int)) ({ frames := 4, cells := (Z - kc K0), slots := (Y - ks K0), locals := 3123 } : Room)).room s m ([.ref (b + 0), .int p1, .int p2, .int p3, .int p4] : List Value).toArray below meth c H locs cn sn (MQ below (xQ G b hole K0 (Z - kc K0) (Y - ks K0) (ρ := Int32) eI (fun r T1 K1 => post r T1 K1)) ([.ref (b + 0), .int p1, .int p2, .int p3, .int p4] : List Value).toArray s (Z - kc K0) (Y - ks K0) (xA b hole)) (F0 m 98 ls []) := by
        intro x7 H locs ls h hP hS hl
        unfold wx1_leadBy_j98 at h
        refine lv_aload_n hx hb dX1_leadBy_98 rfl (lv_at hl 0 rfl) ?_
        obtain ⟨v_2, ev_2, h⟩ := h
        refine x_get (CC := RX1) (TT := TX1) (N := 26) (ci := 0) (v := rfv b (xr T 0 18)) hx hb hts in_X1 hown hK hP (xs_0 hP) (by decide) (by decide) rfl (xE_8 (xs_0 hP)) 18 (by decide) q405 rfl rfl dX1_leadBy_99 ?_
        refine x_some ev_2 ?_
        have hk_v_2 : kd K v_2 = 3 := hP.ty (xs_0 hP) (by decide) ev_2
        refine lv_iload_n hx hb dX1_leadBy_102 rfl (lv_at hl 1 rfl) ?_
        obtain ⟨j_3, hj_3, ej_3, v_4, ev_4, h⟩ := h
        refine x_aald3 hx hb hK hP hk_v_2 ej_3 hj_3 dX1_leadBy_103 ?_
        refine x_some ev_4 ?_
        have hk_v_4 : kd K v_4 = 2 := hP.ty hk_v_2 (by decide) ev_4
        obtain ⟨v_5, ev_5, h⟩ := h
        refine x_get (CC := RX6) (TT := TX6) (N := 3) (ci := 5) (v := rfv b (xr T v_4 0)) hx hb hts in_X6 hown hK hP hk_v_4 (by decide) (by decide) rfl (xE_2 hk_v_4) 0 (by decide) q366 rfl rfl dX1_leadBy_104 ?_
        refine x_some ev_5 ?_
        have hk_v_5 : kd K v_5 = 1 := hP.ty hk_v_4 (by decide) ev_5
        refine lv_iload hx hb dX1_leadBy_107 (lv_at hl 3 rfl) ?_
        obtain ⟨j_6, hj_6, ej_6, h⟩ := h
        refine x_iald hx hb hK hP hk_v_5 ej_6 hj_6 dX1_leadBy_109 ?_
        refine lv_istore (lv' := [(6, .int (xi T v_5 j_6)), (0, .ref (b + 0)), (1, .int p1), (5, .ref (b + x5)), (7, .int x7)]) hx hb dX1_leadBy_110 hl (by decide) rfl (fun ls hl => ?_)
        exact J112 _ _ _ _ _ h  hP hS (lv_sub hl [1, 2, 3, 0, 4] rfl)
      unfold wx1_leadBy_b46 at h
      refine lv_iload hx hb dX1_leadBy_46 (lv_at hl 4 rfl) ?_
      refine lv_aload_n hx hb dX1_leadBy_48 rfl (lv_at hl 0 rfl) ?_
      obtain ⟨v_7, ev_7, h⟩ := h
      refine x_get (CC := RX1) (TT := TX1) (N := 26) (ci := 0) (v := rfv b (xr T 0 18)) hx hb hts in_X1 hown hK hP (xs_0 hP) (by decide) (by decide) rfl (xE_8 (xs_0 hP)) 18 (by decide) q405 rfl rfl dX1_leadBy_49 ?_
      refine x_some ev_7 ?_
      have hk_v_7 : kd K v_7 = 3 := hP.ty (xs_0 hP) (by decide) ev_7
      refine lv_iload_n hx hb dX1_leadBy_52 rfl (lv_at hl 1 rfl) ?_
      obtain ⟨j_8, hj_8, ej_8, v_9, ev_9, h⟩ := h
      refine x_aald3 hx hb hK hP hk_v_7 ej_8 hj_8 dX1_leadBy_53 ?_
      refine x_some ev_9 ?_
      have hk_v_9 : kd K v_9 = 2 := hP.ty hk_v_7 (by decide) ev_9
      refine x_get (CC := RX6) (TT := TX6) (N := 3) (ci := 5) (v := .int (xi T v_9 2)) hx hb hts in_X6 hown hK hP hk_v_9 (by decide) (by decide) rfl (xE_2 hk_v_9) 2 (by decide) q372 rfl rfl dX1_leadBy_54 ?_
      refine lv_icmp_ge (tgt := 118) hx hb dX1_leadBy_57 (by decide) (fun c_19 => ?_) (fun c_19 => ?_)
      · have h := h.1 c_19
        refine lv_iload hx hb dX1_leadBy_118 (lv_at hl 3 rfl) ?_
        refine W.widen (k := Z - kc K0) (n := Y - ks K0) (by omega) (by omega) ?_
        exact W.iret (v := x6) hx hb hr (fun t ht hW => ⟨⟨x6, T, (kset K Z Y), rfl, h, hle0, (by show Z = _; omega), (by show Y = _; omega), by rw [ht]; exact hP, va_K.moved hW.alike hK⟩, hS.F ht⟩) hS.2.2 dX1_leadBy_120
      · have h := h.2 c_19
        refine lv_iload hx hb dX1_leadBy_60 (lv_at hl 3 rfl) ?_
        refine lv_bipush (v := (-2)) hx hb dX1_leadBy_62 (by decide) ?_
        refine lv_icmp_eq (tgt := 98) hx hb dX1_leadBy_64 (by decide) (fun c_18 => ?_) (fun c_18 => ?_)
        · have h := h.1 c_18
          exact J98 _ _ _ _ h  hP hS (lv_sub hl [0, 1, 2, 4] rfl)
        · have h := h.2 c_18
          refine lv_aload hx hb dX1_leadBy_67 (lv_at hl 2 rfl) ?_
          refine lv_aload_n hx hb dX1_leadBy_69 rfl (lv_at hl 0 rfl) ?_
          obtain ⟨v_10, ev_10, h⟩ := h
          refine x_get (CC := RX1) (TT := TX1) (N := 26) (ci := 0) (v := rfv b (xr T 0 18)) hx hb hts in_X1 hown hK hP (xs_0 hP) (by decide) (by decide) rfl (xE_8 (xs_0 hP)) 18 (by decide) q405 rfl rfl dX1_leadBy_70 ?_
          refine x_some ev_10 ?_
          have hk_v_10 : kd K v_10 = 3 := hP.ty (xs_0 hP) (by decide) ev_10
          refine lv_iload_n hx hb dX1_leadBy_73 rfl (lv_at hl 1 rfl) ?_
          obtain ⟨j_11, hj_11, ej_11, v_12, ev_12, h⟩ := h
          refine x_aald3 hx hb hK hP hk_v_10 ej_11 hj_11 dX1_leadBy_74 ?_
          refine x_some ev_12 ?_
          have hk_v_12 : kd K v_12 = 2 := hP.ty hk_v_10 (by decide) ev_12
          obtain ⟨v_13, ev_13, h⟩ := h
          refine x_get (CC := RX6) (TT := TX6) (N := 3) (ci := 5) (v := rfv b (xr T v_12 0)) hx hb hts in_X6 hown hK hP hk_v_12 (by decide) (by decide) rfl (xE_2 hk_v_12) 0 (by decide) q366 rfl rfl dX1_leadBy_75 ?_
          refine x_some ev_13 ?_
          have hk_v_13 : kd K v_13 = 1 := hP.ty hk_v_12 (by decide) ev_13
          refine lv_iload hx hb dX1_leadBy_78 (lv_at hl 4 rfl) ?_
          obtain ⟨j_14, hj_14, ej_14, h⟩ := h
          refine x_iald hx hb hK hP hk_v_13 ej_14 hj_14 dX1_leadBy_80 ?_
          refine x_keyA (q := x5) (rest := []) hx hb (hml.trans hl.1.symm) hts hown q753 hK hV hb0 hP hS hk_x5 h (Nat.le_of_ble_eq_true rfl) (Nat.le_of_ble_eq_true rfl) (by first | exact Nat.zero_le _ | (show _ ≤ Z - kc K0; omega)) (by first | exact Nat.zero_le _ | (show _ ≤ Y - ks K0; omega)) dX1_leadBy_81 (fun r_15 H locs h hP hS => ?_)
          refine lv_aload hx hb dX1_leadBy_86 (lv_at hl 2 rfl) ?_
          refine lv_iload hx hb dX1_leadBy_88 (lv_at hl 3 rfl) ?_
          refine x_keyA (q := x5) (rest := [.int r_15]) hx hb (hml.trans hl.1.symm) hts hown q753 hK hV hb0 hP hS hk_x5 h (Nat.le_of_ble_eq_true rfl) (Nat.le_of_ble_eq_true rfl) (by first | exact Nat.zero_le _ | (show _ ≤ Z - kc K0; omega)) (by first | exact Nat.zero_le _ | (show _ ≤ Y - ks K0; omega)) dX1_leadBy_90 (fun r_16 H locs h hP hS => ?_)
          refine lv_icmp_le (tgt := 112) hx hb dX1_leadBy_95 (by decide) (fun c_17 => ?_) (fun c_17 => ?_)
          · have h := h.1 c_17
            exact J112 _ _ _ _ _ h  hP hS (lv_sub hl [0, 1, 2, 3, 4] rfl)
          · have h := h.2 c_17
            exact J98 _ _ _ _ h  hP hS (lv_sub hl [0, 1, 2, 4] rfl)
  have hcn : kc K0 + 0 = kc K0 := rfl
  have hsn : ks K0 + 0 = ks K0 := rfl
  have hzz := hZ
  have hyy := hY
  unfold wx1_leadBy at h
  refine lv_aload_n hx hb dX1_leadBy_0 rfl (lv_at hl 0 rfl) ?_
  refine lv_aload_n hx hb dX1_leadBy_1 rfl (lv_at hl 0 rfl) ?_
  refine lv_iconst (v := 1) hx hb dX1_leadBy_2 (by decide) ?_
  obtain ⟨hc1, hs1, h⟩ := h
  obtain ⟨K_20, eK_20⟩ : ∃ z : XK, z = knew K0 1 1 1 := ⟨_, rfl⟩
  obtain ⟨T_21, eT_21⟩ : ∃ z : XT, z = xnil T (kz K0) := ⟨_, rfl⟩
  have h := h K_20 eK_20 T_21 eT_21
  have hle1 : kle K0 K_20 := by rw [eK_20]; exact kle.new hP.2.2.1 _ _ _
  refine x_newai (N := 1) hx hb hts q170 hK hP hS (by decide) (by decide) (by show _ + 1 ≤ Z - kc K0; omega) (by show _ + _ ≤ Y - ks K0; omega) dX1_leadBy_3 (fun H hP hS => ?_)
  rw [← eK_20, ← eT_21] at hP
  have hk_n20 : kd K_20 (kz K0) = 1 := by rw [eK_20]; exact knew_kd
  have hle0 := hle0.tr hle1
  have hcn : kc K0 + (0 + 1) = kc K_20 := by rw [eK_20]; show _ = kc K0 + 1; omega
  have hsn : ks K0 + (0 + 1) = ks K_20 := by rw [eK_20]; show _ = ks K0 + 1; omega
  have hzz : kc K_20 ≤ Z := by rw [eK_20]; exact hc1
  have hyy : ks K_20 ≤ Y := by rw [eK_20]; exact hs1
  refine lv_dup hx hb dX1_leadBy_5 rfl ?_
  refine lv_iconst (v := 0) hx hb dX1_leadBy_6 (by decide) ?_
  refine lv_iload_n hx hb dX1_leadBy_7 rfl (lv_at hl 1 rfl) ?_
  obtain ⟨j_22, hj_22, ej_22, h⟩ := h
  obtain ⟨T_23, eT_23⟩ : ∃ z : XT, z = xwi T_21 (kz K0) j_22 p1 := ⟨_, rfl⟩
  have h := h T_23 eT_23
  refine x_iast hx hb hK hP hS hk_n20 ej_22 hj_22 dX1_leadBy_8 (fun H locs hP hS => ?_)
  rw [← eT_23] at hP
  refine x_cS (As := [.ref (b + (kz K0))]) (rest := [.ref (b + 0), .ref (b + 0)]) ⟨hx, hb, hml, hown, hts⟩ (mx1_is l G b hole (kz K0) K_20 T_23 hk_n20 _ h) (va_cwS 1 hts (lw_S q793 q794 q118 q795) rfl rfl rfl cwx_X1_is ⟨Nat.le_of_ble_eq_true rfl, Nat.le_of_ble_eq_true rfl⟩) hK hV hb0 hP hS rfl hl.1 rfl (Nat.le_of_ble_eq_true rfl) dX1_leadBy_9 ⟨by first | exact Nat.zero_le _ | (show _ + _ ≤ Z - kc K0; omega), by first | exact Nat.zero_le _ | (show _ + _ ≤ Y - ks K0; omega)⟩ (fun r_24 T1 K1 H locs h hle1 hc1 hs1 hP hS => ?_)
  obtain ⟨h, hTe, hKe⟩ := h
  rw [hTe, hKe] at hP
  refine lv_iload_n hx hb dX1_leadBy_12 rfl (lv_at hl 2 rfl) ?_
  refine lv_iload_n hx hb dX1_leadBy_13 rfl (lv_at hl 3 rfl) ?_
  refine lv_iload hx hb dX1_leadBy_14 (lv_at hl 4 rfl) ?_
  refine x_cS (As := [.int p2, .int p3, .int p4]) (rest := [.int r_24, .ref (b + 0), .ref (b + 0)]) ⟨hx, hb, hml, hown, hts⟩ (mx1_isOrder l G b hole p2 p3 p4 K_20 T_23  _ h) (va_cwS 3 hts (lw_S q878 q879 q118 q880) rfl rfl rfl cwx_X1_isOrder ⟨Nat.le_of_ble_eq_true rfl, Nat.le_of_ble_eq_true rfl⟩) hK hV hb0 hP hS rfl hl.1 rfl (Nat.le_of_ble_eq_true rfl) dX1_leadBy_16 ⟨by first | exact Nat.zero_le _ | (show _ + _ ≤ Z - kc K0; omega), by first | exact Nat.zero_le _ | (show _ + _ ≤ Y - ks K0; omega)⟩ (fun r_27 T1 K1 H locs h hle1 hc1 hs1 hP hS => ?_)
  obtain ⟨h, hTe, hKe⟩ := h
  rw [hTe, hKe] at hP
  refine x_cV (k := 0) (As := [.int r_24, .int r_27]) (rest := [.ref (b + 0)]) ⟨hx, hb, hml, hown, hts⟩ (mx1_why_2 l G b hole r_24 r_27 K_20 T_23  _ h) (cwV 2 hts (lw_V q773 q775 qs25 q118 q776) rfl rfl rfl cwx_X1_why_2 ⟨Nat.le_of_ble_eq_true rfl, Nat.le_of_ble_eq_true rfl⟩) (x_recv (CC := RX1) (ci := 0) hK hP (xs_0 hP) (by decide) (by decide) rfl (xE_8 (xs_0 hP))) hK hV hb0 hP hS rfl hl.1 rfl (Nat.le_of_ble_eq_true rfl) dX1_leadBy_19 ⟨by first | exact Nat.zero_le _ | (show _ + _ ≤ Z - kc K0; omega), by first | exact Nat.zero_le _ | (show _ + _ ≤ Y - ks K0; omega)⟩ (fun r_30 T1 K1 H locs h hle1 hc1 hs1 hP hS => ?_)
  obtain ⟨h, hTe, hKe⟩ := h
  rw [hTe, hKe] at hP
  refine x_cV (k := 0) (As := [.int r_30]) (rest := []) ⟨hx, hb, hml, hown, hts⟩ (mx1_isRefused l G b hole r_30 K_20 T_23  _ h) (cwV 1 hts (lw_V q777 q779 qs26 q118 q780) rfl rfl rfl cwx_X1_isRefused ⟨Nat.le_of_ble_eq_true rfl, Nat.le_of_ble_eq_true rfl⟩) (x_recv (CC := RX1) (ci := 0) hK hP (xs_0 hP) (by decide) (by decide) rfl (xE_8 (xs_0 hP))) hK hV hb0 hP hS rfl hl.1 rfl (Nat.le_of_ble_eq_true rfl) dX1_leadBy_22 ⟨by first | exact Nat.zero_le _ | (show _ + _ ≤ Z - kc K0; omega), by first | exact Nat.zero_le _ | (show _ + _ ≤ Y - ks K0; omega)⟩ (fun r_33 T1 K1 H locs h hle1 hc1 hs1 hP hS => ?_)
  obtain ⟨h, hKe⟩ := h
  rw [hKe] at hP
  generalize T1 = T_34 at h hP
  refine lv_if_eq (tgt := 30) hx hb dX1_leadBy_25 (by decide) (fun c_41 => ?_) (fun c_41 => ?_)
  · have h := h.1 c_41
    refine lv_iload_n hx hb dX1_leadBy_30 rfl (lv_at hl 2 rfl) ?_
    refine lv_iload_n hx hb dX1_leadBy_31 rfl (lv_at hl 3 rfl) ?_
    refine lv_iload hx hb dX1_leadBy_32 (lv_at hl 4 rfl) ?_
    obtain ⟨Z_39, Y_40, hz1, hz2, hy1, hy2, h⟩ := h
    refine x_cS (As := [.int p2, .int p3, .int p4]) (rest := []) ⟨hx, hb, hml, hown, hts⟩ (mx1_orderOf l G b hole p2 p3 p4 K_20 T_34 Z_39 Y_40 hz1 hy1  _ h) (va_cwS 3 hts (lw_S q715 q716 q118 q717) rfl rfl rfl cwx_X1_orderOf ⟨Nat.le_of_ble_eq_true rfl, Nat.le_of_ble_eq_true rfl⟩) hK hV hb0 hP hS rfl hl.1 rfl (Nat.le_of_ble_eq_true rfl) dX1_leadBy_34 ⟨by first | exact Nat.zero_le _ | (show _ + _ ≤ Z - kc K0; omega), by first | exact Nat.zero_le _ | (show _ + _ ≤ Y - ks K0; omega)⟩ (fun r_36 T1 K1 H locs h hle1 hc1 hs1 hP hS => ?_)
    obtain ⟨h, hk_r_36⟩ := h
    generalize T1 = T_37 at h hP
    generalize K1 = K_38 at h hP hle1 hc1 hs1 hk_r_36
    have hle0 := hle0.tr hle1
    have hcn : kc K0 + ((0 + 1) + (Z_39 - kc K_20)) = kc K_38 := by omega
    have hsn : ks K0 + ((0 + 1) + (Y_40 - ks K_20)) = ks K_38 := by omega
    have hzz : kc K_38 ≤ Z := by omega
    have hyy : ks K_38 ≤ Y := by omega
    refine lv_astore (lv' := [(5, .ref (b + r_36)), (0, .ref (b + 0)), (1, .int p1), (2, .int p2), (3, .int p3), (4, .int p4)]) hx hb dX1_leadBy_37 hl (by decide) rfl (fun ls hl => ?_)
    refine lv_bipush (v := (-2)) hx hb dX1_leadBy_39 (by decide) ?_
    refine lv_istore (lv' := [(6, .int (-2)), (5, .ref (b + r_36)), (0, .ref (b + 0)), (1, .int p1), (2, .int p2), (3, .int p3), (4, .int p4)]) hx hb dX1_leadBy_41 hl (by decide) rfl (fun ls hl => ?_)
    refine lv_iconst (v := 0) hx hb dX1_leadBy_43 (by decide) ?_
    refine lv_istore (lv' := [(7, .int 0), (6, .int (-2)), (5, .ref (b + r_36)), (0, .ref (b + 0)), (1, .int p1), (2, .int p2), (3, .int p3), (4, .int p4)]) hx hb dX1_leadBy_44 hl (by decide) rfl (fun ls hl => ?_)
    exact L46 _ _ _ _ _ _ _ _ _ _ h hle0 hcn hsn hzz hyy hk_r_36 hP hS (lv_sub hl [3, 4, 2, 1, 0] rfl)
  · have h := h.2 c_41
    refine lv_iconst (v := (-1)) hx hb dX1_leadBy_28 (by decide) ?_
    refine W.widen (k := Z - kc K0) (n := Y - ks K0) (by omega) (by omega) ?_
    exact W.iret (v := (-1)) hx hb hr (fun t ht hW => ⟨⟨(-1), T_34, (kset K_20 Z Y), rfl, h, hle0, (by show Z = _; omega), (by show Y = _; omega), by rw [ht]; exact hP, va_K.moved hW.alike hK⟩, hS.F ht⟩) hS.2.2 dX1_leadBy_29
theorem cwx_X1_isSet : yX1_isSet.cls ≠ "java/lang/invoke/MethodHandle" ∧ yX1_isSet.cls ≠ "java/lang/invoke/VarHandle" ∧ (parseMethodDescriptor yX1_isSet.desc).map (fun d => d.parameters.length) = some 1 := by decide +kernel
def wx1_isSet (p1 : Int32) (K : XK) (T : XT) (post : Int32 → Prop) : Prop :=
  wx1_in p1 1 255 K T (fun r_1 =>
  r_1 &&& 1 = r_1 ∧ post r_1)
set_option maxHeartbeats 4000000 in
theorem mx1_isSet (l : Launch) (G : XG) (b : Nat) (hole : Nat → Prop) (p1 : Int32) (K : XK) (T : XT)  (post : Int32 → Prop) (h : wx1_isSet p1 K T post) : Met l yX1_isSet (ws_ yX1_isSet cX1_isSet 1 (some .boolean)) ({ frames := 1, cells := 0, slots := 0, locals := 22 } : Room) (xPc G b hole [.int p1] K T) (xQ G b hole K 0 0 (ρ := Int32) eI (fun r T1 K1 => post r ∧ T1 = T ∧ K1 = K)) 0 0 (xA b hole) := by
  refine Met.ofW (cc := cX1_isSet) (maxL := 1) (ret := (some .boolean)) (by decide) rfl ?_
  intro p e s m args below meth c s₁ B hml hv
  obtain ⟨rfl, hP, hK, hV⟩ := hv
  have hx := B.exec
  have hb := B.bytes
  have hr := B.returns
  have hts := atoms_spec (ws := ws_ yX1_isSet cX1_isSet 1 (some .boolean)) B.pre
  have hts : ∀ w ∈ lw_all, w.before _ s = true := fun w h => hts w (List.mem_cons_of_mem _ h)
  have hown : s.vm.findClass RX1 = some m.cls := findClass_of_methodNamed B.named
  have hlocks := B.notSynchronized
  have hb0 : b ≤ s.heap.size := by rw [hP.2.2.2]; exact Nat.le_add_right _ _
  have hS : va_S (xA b hole) s.heap s.heap [] := va_S.rf
  have hl := lv_entry ([.int p1]) (n := 1) (Nat.le_of_ble_eq_true rfl)
  rw [lg_entry_eq]
  generalize (lg_sl ([.int p1]) ++ List.replicate (1 - (lg_sl ([.int p1])).length) Slot.unset).toArray = ls at hl ⊢
  have hl : lv_has ls 1 [(0, .int p1)] := hl
  unfold wx1_isSet at h
  refine lv_iload_n hx hb dX1_isSet_0 rfl (lv_at hl 0 rfl) ?_
  refine lv_iconst (v := 1) hx hb dX1_isSet_1 (by decide) ?_
  refine lv_sipush (v := 255) hx hb dX1_isSet_2 (by decide) ?_
  refine x_cS (As := [.int p1, .int 1, .int 255]) (rest := []) ⟨hx, hb, hml, hown, hts⟩ (mx1_in l G b hole p1 1 255 K T  _ h) (va_cwS 3 hts (lw_S q483 q484 q118 q485) rfl rfl rfl cwx_X1_in ⟨Nat.le_of_ble_eq_true rfl, Nat.le_of_ble_eq_true rfl⟩) hK hV hb0 hP hS rfl hl.1 rfl (Nat.le_of_ble_eq_true rfl) dX1_isSet_5 ⟨by first | exact Nat.zero_le _ | (show _ + _ ≤ Z - kc K0; omega), by first | exact Nat.zero_le _ | (show _ + _ ≤ Y - ks K0; omega)⟩ (fun r_1 T1 K1 H locs h hle1 hc1 hs1 hP hS => ?_)
  obtain ⟨h, hTe, hKe⟩ := h
  rw [hTe, hKe] at hP
  obtain ⟨hz9, h⟩ := h
  exact W.zret (v := r_1) hx hb hr (congrArg Value.int hz9) (fun t ht hW => ⟨⟨r_1, T, K, rfl, ⟨h, rfl, rfl⟩, kle.rf, rfl, rfl, by rw [ht]; exact hP, va_K.moved hW.alike hK⟩, hS.F ht⟩) hS.2.2 dX1_isSet_8
theorem cwx_X1_hasZero : yX1_hasZero.cls = RX1 ∧ yX1_hasZero.cls ≠ "java/lang/invoke/MethodHandle" ∧ yX1_hasZero.cls ≠ "java/lang/invoke/VarHandle" ∧ (parseMethodDescriptor yX1_hasZero.desc).map (fun d => d.parameters.length) = some 1 := by decide +kernel
def wx1_hasZero_j31 (p1 : Int32) (post : Int32 → Prop) (R2 : Int32 → Prop) (x2 : Int32) (K : XK) (T : XT) : Prop :=
        ∀ x2_1 : Int32, x2_1 = x2 + 1 →
        R2 x2_1
def wx1_hasZero_b2 (p1 : Int32) (post : Int32 → Prop) (R2 : Int32 → Prop)  (x2 : Int32) (K : XK) (T : XT) : Prop :=
      ((8 ≤ x2 →
        post 0) ∧
       (¬ (8 ≤ x2) →
        ((¬ ((jshr p1 x2) &&& 1) = 1 →
          wx1_hasZero_j31 p1 post R2 x2 K T) ∧
         (((jshr p1 x2) &&& 1) = 1 →
          ∃ v_2 : Nat, xr T 0 18 = some v_2 ∧
          ∃ j_3 : Nat, j_3 < kl K v_2 ∧ x2 = nI j_3 ∧ ∃ v_4 : Nat, xr T v_2 j_3 = some v_4 ∧
          wx6_isZero v_4 K T (fun r_5 =>
          ((r_5 = 0 →
            wx1_hasZero_j31 p1 post R2 x2 K T) ∧
           (¬ (r_5 = 0) →
            post 1)))))))
def wx1_hasZero_l2 (p1 : Int32) (post : Int32 → Prop)  (x2 : Int32) (K : XK) (T : XT) : Prop := wLoop (fun (R : ((Int32)) → Prop) (v : (Int32)) => wx1_hasZero_b2 p1 post (fun x2 => R x2)  v K T) x2
def wx1_hasZero (p1 : Int32) (K : XK) (T : XT) (post : Int32 → Prop) : Prop :=
  wx1_hasZero_l2 p1 post 0 K T
set_option maxHeartbeats 4000000 in
theorem mx1_hasZero (l : Launch) (G : XG) (b : Nat) (hole : Nat → Prop) (p1 : Int32) (K : XK) (T : XT)  (post : Int32 → Prop) (h : wx1_hasZero p1 K T post) : Met l yX1_hasZero (ws_ yX1_hasZero cX1_hasZero 3 (some .boolean)) ({ frames := 1, cells := 0, slots := 0, locals := 20 } : Room) (xPc G b hole [.ref (b + 0), .int p1] K T) (xQ G b hole K 0 0 (ρ := Int32) eI (fun r T1 K1 => post r ∧ T1 = T ∧ K1 = K)) 0 0 (xA b hole) := by
  refine Met.ofW (cc := cX1_hasZero) (maxL := 3) (ret := (some .boolean)) (by decide) rfl ?_
  intro p e s m args below meth c s₁ B hml hv
  obtain ⟨rfl, hP, hK, hV⟩ := hv
  have hx := B.exec
  have hb := B.bytes
  have hr := B.returns
  have hts := atoms_spec (ws := ws_ yX1_hasZero cX1_hasZero 3 (some .boolean)) B.pre
  have hts : ∀ w ∈ lw_all, w.before _ s = true := fun w h => hts w (List.mem_cons_of_mem _ h)
  have hown : s.vm.findClass RX1 = some m.cls := findClass_of_methodNamed B.named
  have hlocks := B.notSynchronized
  have hb0 : b ≤ s.heap.size := by rw [hP.2.2.2]; exact Nat.le_add_right _ _
  have hS : va_S (xA b hole) s.heap s.heap [] := va_S.rf
  have hl := lv_entry ([.ref (b + 0), .int p1]) (n := 3) (Nat.le_of_ble_eq_true rfl)
  rw [lg_entry_eq]
  generalize (lg_sl ([.ref (b + 0), .int p1]) ++ List.replicate (3 - (lg_sl ([.ref (b + 0), .int p1])).length) Slot.unset).toArray = ls at hl ⊢
  have hl : lv_has ls 3 [(0, .ref (b + 0)), (1, .int p1)] := hl
  have L2 : ∀ (x2 : Int32) (H : Heap) (locs : List Loc) (ls : Array Slot), wx1_hasZero_l2 p1 post  x2 K T → xW G b hole K T H → va_S (xA b hole) s.heap H locs → lv_has ls 3 [(0, .ref (b + 0)), (1, .int p1), (2, .int x2)] → W p l e (headSpec (ws_ yX1_hasZero cX1_hasZero 3 (some .boolean)) ({ frames := 1, cells := 0, slots := 0, locals := 20 } : Room)).room s m ([.ref (b + 0), .int p1] : List Value).toArray below meth c H locs 0 0 (MQ below (xQ G b hole K 0 0 (ρ := Int32) eI (fun r T1 K1 => post r ∧ T1 = T ∧ K1 = K)) ([.ref (b + 0), .int p1] : List Value).toArray s 0 0 (xA b hole)) (F0 m 2 ls []) := by
    intro x2 H locs ls h hP hS hl
    obtain ⟨I2, n2, hI, hstep2⟩ := h
    induction n2 using Nat.strongRecOn generalizing x2 H locs ls with
    | ind n2 ih2 =>
      have h : wx1_hasZero_b2 p1 post (fun x2 => ∃ mm, mm < n2 ∧ I2 mm x2)  x2 K T := hstep2 n2 _ hI
      clear hI
      have J31 : ∀ (x2 : Int32) (H : Heap) (locs : List Loc) (ls : Array Slot), wx1_hasZero_j31 p1 post (fun x2 => ∃ mm, mm < n2 ∧ I2 mm x2) x2 K T → xW G b hole K T H → va_S (xA b hole) s.heap H locs → lv_has ls 3 [(0, .ref (b + 0)), (1, .int p1), (2, .int x2)] → W p l e (headSpec (ws_ yX1_hasZero cX1_hasZero 3 (some .boolean)) ({ frames := 1, cells := 0, slots := 0, locals := 20 } : Room)).room s m ([.ref (b + 0), .int p1] : List Value).toArray below meth c H locs 0 0 (MQ below (xQ G b hole K 0 0 (ρ := Int32) eI (fun r T1 K1 => post r ∧ T1 = T ∧ K1 = K)) ([.ref (b + 0), .int p1] : List Value).toArray s 0 0 (xA b hole)) (F0 m 31 ls []) := by
        intro x2 H locs ls h hP hS hl
        unfold wx1_hasZero_j31 at h
        obtain ⟨x2_1, ex2_1⟩ : ∃ y : Int32, y = x2 + 1 := ⟨_, rfl⟩
        have h := h x2_1 ex2_1
        refine lv_iinc (v := x2_1) (lv' := [(2, .int x2_1), (0, .ref (b + 0)), (1, .int p1)]) hx hb dX1_hasZero_31 hl (k := 2) rfl (by rw [ex2_1]; rfl) (by decide) rfl (fun ls hl => ?_)
        refine lv_goto (tgt := 2) hx hb dX1_hasZero_34 (by decide) ?_
        obtain ⟨mm, hmm, h⟩ := h
        exact ih2 mm hmm _ _ _ _  hP hS (lv_sub hl [1, 2, 0] rfl) h
      unfold wx1_hasZero_b2 at h
      refine lv_iload_n hx hb dX1_hasZero_2 rfl (lv_at hl 2 rfl) ?_
      refine lv_bipush (v := 8) hx hb dX1_hasZero_3 (by decide) ?_
      refine lv_icmp_ge (tgt := 37) hx hb dX1_hasZero_5 (by decide) (fun c_10 => ?_) (fun c_10 => ?_)
      · have h := h.1 c_10
        refine lv_iconst (v := 0) hx hb dX1_hasZero_37 (by decide) ?_
        exact W.zret (v := 0) hx hb hr rfl (fun t ht hW => ⟨⟨0, T, K, rfl, ⟨h, rfl, rfl⟩, kle.rf, rfl, rfl, by rw [ht]; exact hP, va_K.moved hW.alike hK⟩, hS.F ht⟩) hS.2.2 dX1_hasZero_38
      · have h := h.2 c_10
        refine lv_iload_n hx hb dX1_hasZero_8 rfl (lv_at hl 1 rfl) ?_
        refine lv_iload_n hx hb dX1_hasZero_9 rfl (lv_at hl 2 rfl) ?_
        refine m_ishr hx hb dX1_hasZero_10 ?_
        refine lv_iconst (v := 1) hx hb dX1_hasZero_11 (by decide) ?_
        refine lv_iand hx hb dX1_hasZero_12 ?_
        refine lv_iconst (v := 1) hx hb dX1_hasZero_13 (by decide) ?_
        refine lv_icmp_ne (tgt := 31) hx hb dX1_hasZero_14 (by decide) (fun c_9 => ?_) (fun c_9 => ?_)
        · have h := h.1 c_9
          exact J31 _ _ _ _ h  hP hS (lv_sub hl [0, 1, 2] rfl)
        · have h := h.2 c_9
          refine lv_aload_n hx hb dX1_hasZero_17 rfl (lv_at hl 0 rfl) ?_
          obtain ⟨v_2, ev_2, h⟩ := h
          refine x_get (CC := RX1) (TT := TX1) (N := 26) (ci := 0) (v := rfv b (xr T 0 18)) hx hb hts in_X1 hown hK hP (xs_0 hP) (by decide) (by decide) rfl (xE_8 (xs_0 hP)) 18 (by decide) q405 rfl rfl dX1_hasZero_18 ?_
          refine x_some ev_2 ?_
          have hk_v_2 : kd K v_2 = 3 := hP.ty (xs_0 hP) (by decide) ev_2
          refine lv_iload_n hx hb dX1_hasZero_21 rfl (lv_at hl 2 rfl) ?_
          obtain ⟨j_3, hj_3, ej_3, v_4, ev_4, h⟩ := h
          refine x_aald3 hx hb hK hP hk_v_2 ej_3 hj_3 dX1_hasZero_22 ?_
          refine x_some ev_4 ?_
          have hk_v_4 : kd K v_4 = 2 := hP.ty hk_v_2 (by decide) ev_4
          refine x_cV (k := v_4) (As := []) (rest := []) ⟨hx, hb, hml, hown, hts⟩ (mx6_isZero l G b hole v_4 K T hk_v_4 _ h) (cwV 0 hts (lw_V q785 q786 q787 q126 q788) rfl rfl rfl cwx_X6_isZero ⟨Nat.le_of_ble_eq_true rfl, Nat.le_of_ble_eq_true rfl⟩) (x_recv (CC := RX6) (ci := 5) hK hP hk_v_4 (by decide) (by decide) rfl (xE_2 hk_v_4)) hK hV hb0 hP hS rfl hl.1 rfl (Nat.le_of_ble_eq_true rfl) dX1_hasZero_23 ⟨by first | exact Nat.zero_le _ | (show _ + _ ≤ Z - kc K0; omega), by first | exact Nat.zero_le _ | (show _ + _ ≤ Y - ks K0; omega)⟩ (fun r_5 T1 K1 H locs h hle1 hc1 hs1 hP hS => ?_)
          obtain ⟨h, hTe, hKe⟩ := h
          rw [hTe, hKe] at hP
          refine lv_if_eq (tgt := 31) hx hb dX1_hasZero_26 (by decide) (fun c_8 => ?_) (fun c_8 => ?_)
          · have h := h.1 c_8
            exact J31 _ _ _ _ h  hP hS (lv_sub hl [0, 1, 2] rfl)
          · have h := h.2 c_8
            refine lv_iconst (v := 1) hx hb dX1_hasZero_29 (by decide) ?_
            exact W.zret (v := 1) hx hb hr rfl (fun t ht hW => ⟨⟨1, T, K, rfl, ⟨h, rfl, rfl⟩, kle.rf, rfl, rfl, by rw [ht]; exact hP, va_K.moved hW.alike hK⟩, hS.F ht⟩) hS.2.2 dX1_hasZero_30
  unfold wx1_hasZero at h
  refine lv_iconst (v := 0) hx hb dX1_hasZero_0 (by decide) ?_
  refine lv_istore_n (lv' := [(2, .int 0), (0, .ref (b + 0)), (1, .int p1)]) hx hb dX1_hasZero_1 rfl hl (by decide) rfl (fun ls hl => ?_)
  exact L2 _ _ _ _ h  hP hS (lv_sub hl [1, 2, 0] rfl)
theorem cwx_X2_begins : yX2_begins.cls = RX2 ∧ yX2_begins.cls ≠ "java/lang/invoke/MethodHandle" ∧ yX2_begins.cls ≠ "java/lang/invoke/VarHandle" ∧ (parseMethodDescriptor yX2_begins.desc).map (fun d => d.parameters.length) = some 0 := by decide +kernel
def wx2_begins (p0 : Nat) (K : XK) (T : XT) (post : Nat → XT → Prop) : Prop :=
  ∀ T_1 : XT, T_1 = xwi T p0 2 0 →
  post p0 T_1
set_option maxHeartbeats 4000000 in
theorem mx2_begins (l : Launch) (G : XG) (b : Nat) (hole : Nat → Prop) (p0 : Nat) (K : XK) (T : XT) (hk_p0 : kd K p0 = 9) (post : Nat → XT → Prop) (h : wx2_begins p0 K T post) : Met l yX2_begins (ws_ yX2_begins cX2_begins 1 (some (.object "TermDesk$Row"))) ({ frames := 0, cells := 0, slots := 0, locals := 0 } : Room) (xPc G b hole [.ref (b + p0)] K T) (xQ G b hole K 0 0 (ρ := Nat) (eR b) (fun r T1 K1 => post r T1 ∧ kd K1 r = 9 ∧ K1 = K)) 0 0 (xA b hole) := by
  refine Met.ofW (cc := cX2_begins) (maxL := 1) (ret := (some (.object "TermDesk$Row"))) (by decide) rfl ?_
  intro p e s m args below meth c s₁ B hml hv
  obtain ⟨rfl, hP, hK, hV⟩ := hv
  have hx := B.exec
  have hb := B.bytes
  have hr := B.returns
  have hts := atoms_spec (ws := ws_ yX2_begins cX2_begins 1 (some (.object "TermDesk$Row"))) B.pre
  have hts : ∀ w ∈ lw_all, w.before _ s = true := fun w h => hts w (List.mem_cons_of_mem _ h)
  have hown : s.vm.findClass RX2 = some m.cls := findClass_of_methodNamed B.named
  have hlocks := B.notSynchronized
  have hb0 : b ≤ s.heap.size := by rw [hP.2.2.2]; exact Nat.le_add_right _ _
  have hS : va_S (xA b hole) s.heap s.heap [] := va_S.rf
  have hl := lv_entry ([.ref (b + p0)]) (n := 1) (Nat.le_of_ble_eq_true rfl)
  rw [lg_entry_eq]
  generalize (lg_sl ([.ref (b + p0)]) ++ List.replicate (1 - (lg_sl ([.ref (b + p0)])).length) Slot.unset).toArray = ls at hl ⊢
  have hl : lv_has ls 1 [(0, .ref (b + p0))] := hl
  unfold wx2_begins at h
  refine lv_aload_n hx hb dX2_begins_0 rfl (lv_at hl 0 rfl) ?_
  refine lv_iconst (v := 0) hx hb dX2_begins_1 (by decide) ?_
  obtain ⟨T_1, eT_1⟩ : ∃ z : XT, z = xwi T p0 2 0 := ⟨_, rfl⟩
  have h := h T_1 eT_1
  refine x_put (CC := RX2) (TT := TX2) (N := 3) (ci := 1) (T1 := T_1) (v := .int 0) (ty := .int) (fsf := fun T => fs9 (gem G) b T p0) hx hb hts in_X2 tyX2 tyX2_ok nmX2 hown hK hP hS hk_p0 (by decide) (by decide) rfl (fun _ => xE_9 hk_p0) rfl 2 (by decide) q161 rfl (Or.inl rfl) rfl rfl rfl (by rw [eT_1]; exact fw9_2 _ b T p0 0) (by rw [eT_1]; exact fun q hq => xwi_i hq) (by rw [eT_1]; exact fun _ _ => rfl) (by rw [eT_1]; exact xwi_ty hP (by rw [hk_p0]; decide)) dX2_begins_2 (fun H locs hP hS => ?_)
  refine lv_aload_n hx hb dX2_begins_5 rfl (lv_at hl 0 rfl) ?_
  exact W.aret (v := .ref (b + p0)) hx hb hr (Or.inl ⟨_, rfl⟩) (Or.inr ⟨_, rfl⟩) (fun t ht hW => ⟨⟨p0, T_1, K, rfl, ⟨h, hk_p0, rfl⟩, kle.rf, rfl, rfl, by rw [ht]; exact hP, va_K.moved hW.alike hK⟩, hS.F ht⟩) hS.2.2 dX2_begins_6
theorem cwx_X2_add : yX2_add.cls = RX2 ∧ yX2_add.cls ≠ "java/lang/invoke/MethodHandle" ∧ yX2_add.cls ≠ "java/lang/invoke/VarHandle" ∧ (parseMethodDescriptor yX2_add.desc).map (fun d => d.parameters.length) = some 2 := by decide +kernel
def wx2_add (p0 : Nat) (p1 : Int32) (p2 : Int32) (K : XK) (T : XT) (post : XT → Prop) : Prop :=
  ((¬ p2 = 0 →
    ∃ j_1 : Nat, j_1 < kl K (p0 + 1) ∧ (xi T p0 2) = nI j_1 ∧ ∀ T_2 : XT, T_2 = xwi T (p0 + 1) j_1 p1 →
    ∃ j_3 : Nat, j_3 < kl K (p0 + 2) ∧ (xi T_2 p0 2) = nI j_3 ∧ ∀ T_4 : XT, T_4 = xwi T_2 (p0 + 2) j_3 p2 →
    ∀ T_5 : XT, T_5 = xwi T_4 p0 2 ((xi T_4 p0 2) + 1) →
    post T_5) ∧
   (p2 = 0 →
    post T))
set_option maxHeartbeats 4000000 in
theorem mx2_add (l : Launch) (G : XG) (b : Nat) (hole : Nat → Prop) (p0 : Nat) (p1 : Int32) (p2 : Int32) (K : XK) (T : XT) (hk_p0 : kd K p0 = 9) (post : XT → Prop) (h : wx2_add p0 p1 p2 K T post) : Met l yX2_add (ws_ yX2_add cX2_add 3 none) ({ frames := 0, cells := 0, slots := 0, locals := 0 } : Room) (xPc G b hole [.ref (b + p0), .int p1, .int p2] K T) (xQ G b hole K 0 0 (ρ := Unit) eV (fun r T1 K1 => post T1 ∧ K1 = K)) 0 0 (xA b hole) := by
  refine Met.ofW (cc := cX2_add) (maxL := 3) (ret := none) (by decide) rfl ?_
  intro p e s m args below meth c s₁ B hml hv
  obtain ⟨rfl, hP, hK, hV⟩ := hv
  have hx := B.exec
  have hb := B.bytes
  have hr := B.returns
  have hts := atoms_spec (ws := ws_ yX2_add cX2_add 3 none) B.pre
  have hts : ∀ w ∈ lw_all, w.before _ s = true := fun w h => hts w (List.mem_cons_of_mem _ h)
  have hown : s.vm.findClass RX2 = some m.cls := findClass_of_methodNamed B.named
  have hlocks := B.notSynchronized
  have hb0 : b ≤ s.heap.size := by rw [hP.2.2.2]; exact Nat.le_add_right _ _
  have hS : va_S (xA b hole) s.heap s.heap [] := va_S.rf
  have hl := lv_entry ([.ref (b + p0), .int p1, .int p2]) (n := 3) (Nat.le_of_ble_eq_true rfl)
  rw [lg_entry_eq]
  generalize (lg_sl ([.ref (b + p0), .int p1, .int p2]) ++ List.replicate (3 - (lg_sl ([.ref (b + p0), .int p1, .int p2])).length) Slot.unset).toArray = ls at hl ⊢
  have hl : lv_has ls 3 [(0, .ref (b + p0)), (1, .int p1), (2, .int p2)] := hl
  unfold wx2_add at h
  refine lv_iload_n hx hb dX2_add_0 rfl (lv_at hl 2 rfl) ?_
  refine lv_if_ne (tgt := 5) hx hb dX2_add_1 (by decide) (fun c_6 => ?_) (fun c_6 => ?_)
  · have h := h.1 c_6
    refine lv_aload_n hx hb dX2_add_5 rfl (lv_at hl 0 rfl) ?_
    refine x_get (CC := RX2) (TT := TX2) (N := 3) (ci := 1) (v := .ref (b + (p0 + 1))) hx hb hts in_X2 hown hK hP hk_p0 (by decide) (by decide) rfl (xE_9 hk_p0) 0 (by decide) q156 rfl rfl dX2_add_6 ?_
    refine lv_aload_n hx hb dX2_add_9 rfl (lv_at hl 0 rfl) ?_
    refine x_get (CC := RX2) (TT := TX2) (N := 3) (ci := 1) (v := .int (xi T p0 2)) hx hb hts in_X2 hown hK hP hk_p0 (by decide) (by decide) rfl (xE_9 hk_p0) 2 (by decide) q161 rfl rfl dX2_add_10 ?_
    refine lv_iload_n hx hb dX2_add_13 rfl (lv_at hl 1 rfl) ?_
    obtain ⟨j_1, hj_1, ej_1, h⟩ := h
    obtain ⟨T_2, eT_2⟩ : ∃ z : XT, z = xwi T (p0 + 1) j_1 p1 := ⟨_, rfl⟩
    have h := h T_2 eT_2
    refine x_iast hx hb hK hP hS (hP.row hk_p0).1 ej_1 hj_1 dX2_add_14 (fun H locs hP hS => ?_)
    rw [← eT_2] at hP
    refine lv_aload_n hx hb dX2_add_15 rfl (lv_at hl 0 rfl) ?_
    refine x_get (CC := RX2) (TT := TX2) (N := 3) (ci := 1) (v := .ref (b + (p0 + 2))) hx hb hts in_X2 hown hK hP hk_p0 (by decide) (by decide) rfl (xE_9 hk_p0) 1 (by decide) q158 rfl rfl dX2_add_16 ?_
    refine lv_aload_n hx hb dX2_add_19 rfl (lv_at hl 0 rfl) ?_
    refine x_get (CC := RX2) (TT := TX2) (N := 3) (ci := 1) (v := .int (xi T_2 p0 2)) hx hb hts in_X2 hown hK hP hk_p0 (by decide) (by decide) rfl (xE_9 hk_p0) 2 (by decide) q161 rfl rfl dX2_add_20 ?_
    refine lv_iload_n hx hb dX2_add_23 rfl (lv_at hl 2 rfl) ?_
    obtain ⟨j_3, hj_3, ej_3, h⟩ := h
    obtain ⟨T_4, eT_4⟩ : ∃ z : XT, z = xwi T_2 (p0 + 2) j_3 p2 := ⟨_, rfl⟩
    have h := h T_4 eT_4
    refine x_iast hx hb hK hP hS (hP.row hk_p0).2 ej_3 hj_3 dX2_add_24 (fun H locs hP hS => ?_)
    rw [← eT_4] at hP
    refine lv_aload_n hx hb dX2_add_25 rfl (lv_at hl 0 rfl) ?_
    refine lv_dup hx hb dX2_add_26 rfl ?_
    refine x_get (CC := RX2) (TT := TX2) (N := 3) (ci := 1) (v := .int (xi T_4 p0 2)) hx hb hts in_X2 hown hK hP hk_p0 (by decide) (by decide) rfl (xE_9 hk_p0) 2 (by decide) q161 rfl rfl dX2_add_27 ?_
    refine lv_iconst (v := 1) hx hb dX2_add_30 (by decide) ?_
    refine lv_iadd hx hb dX2_add_31 ?_
    obtain ⟨T_5, eT_5⟩ : ∃ z : XT, z = xwi T_4 p0 2 ((xi T_4 p0 2) + 1) := ⟨_, rfl⟩
    have h := h T_5 eT_5
    refine x_put (CC := RX2) (TT := TX2) (N := 3) (ci := 1) (T1 := T_5) (v := .int ((xi T_4 p0 2) + 1)) (ty := .int) (fsf := fun T => fs9 (gem G) b T p0) hx hb hts in_X2 tyX2 tyX2_ok nmX2 hown hK hP hS hk_p0 (by decide) (by decide) rfl (fun _ => xE_9 hk_p0) rfl 2 (by decide) q161 rfl (Or.inl rfl) rfl rfl rfl (by rw [eT_5]; exact fw9_2 _ b T_4 p0 ((xi T_4 p0 2) + 1)) (by rw [eT_5]; exact fun q hq => xwi_i hq) (by rw [eT_5]; exact fun _ _ => rfl) (by rw [eT_5]; exact xwi_ty hP (by rw [hk_p0]; decide)) dX2_add_32 (fun H locs hP hS => ?_)
    exact W.vret hx hb hr (fun t ht hW => ⟨⟨(), T_5, K, rfl, ⟨h, rfl⟩, kle.rf, rfl, rfl, by rw [ht]; exact hP, va_K.moved hW.alike hK⟩, hS.F ht⟩) hS.2.2 dX2_add_35
  · have h := h.2 c_6
    exact W.vret hx hb hr (fun t ht hW => ⟨⟨(), T, K, rfl, ⟨h, rfl⟩, kle.rf, rfl, rfl, by rw [ht]; exact hP, va_K.moved hW.alike hK⟩, hS.F ht⟩) hS.2.2 dX2_add_4
theorem cwx_X1_goesInto : yX1_goesInto.cls ≠ "java/lang/invoke/MethodHandle" ∧ yX1_goesInto.cls ≠ "java/lang/invoke/VarHandle" ∧ (parseMethodDescriptor yX1_goesInto.desc).map (fun d => d.parameters.length) = some 2 := by decide +kernel
def wx1_goesInto_b2 (p1 : Int32) (p2 : Int32) (post : Int32 → Prop) (R2 : Int32 → Prop)  (x2 : Int32) (K : XK) (T : XT) : Prop :=
      ((3 ≤ x2 →
        post 1) ∧
       (¬ (3 ≤ x2) →
        wx1_exponent p1 x2 K T (fun r_1 =>
        wx1_exponent p2 x2 K T (fun r_4 =>
        ((r_1 ≤ r_4 →
          ∀ x2_7 : Int32, x2_7 = x2 + 1 →
          R2 x2_7) ∧
         (¬ (r_1 ≤ r_4) →
          post 0))))))
def wx1_goesInto_l2 (p1 : Int32) (p2 : Int32) (post : Int32 → Prop)  (x2 : Int32) (K : XK) (T : XT) : Prop := wLoop (fun (R : ((Int32)) → Prop) (v : (Int32)) => wx1_goesInto_b2 p1 p2 post (fun x2 => R x2)  v K T) x2
def wx1_goesInto (p1 : Int32) (p2 : Int32) (K : XK) (T : XT) (post : Int32 → Prop) : Prop :=
  wx1_goesInto_l2 p1 p2 post 0 K T
set_option maxHeartbeats 4000000 in
theorem mx1_goesInto (l : Launch) (G : XG) (b : Nat) (hole : Nat → Prop) (p1 : Int32) (p2 : Int32) (K : XK) (T : XT)  (post : Int32 → Prop) (h : wx1_goesInto p1 p2 K T post) : Met l yX1_goesInto (ws_ yX1_goesInto cX1_goesInto 3 (some .boolean)) ({ frames := 1, cells := 0, slots := 0, locals := 21 } : Room) (xPc G b hole [.int p1, .int p2] K T) (xQ G b hole K 0 0 (ρ := Int32) eI (fun r T1 K1 => post r ∧ T1 = T ∧ K1 = K)) 0 0 (xA b hole) := by
  refine Met.ofW (cc := cX1_goesInto) (maxL := 3) (ret := (some .boolean)) (by decide) rfl ?_
  intro p e s m args below meth c s₁ B hml hv
  obtain ⟨rfl, hP, hK, hV⟩ := hv
  have hx := B.exec
  have hb := B.bytes
  have hr := B.returns
  have hts := atoms_spec (ws := ws_ yX1_goesInto cX1_goesInto 3 (some .boolean)) B.pre
  have hts : ∀ w ∈ lw_all, w.before _ s = true := fun w h => hts w (List.mem_cons_of_mem _ h)
  have hown : s.vm.findClass RX1 = some m.cls := findClass_of_methodNamed B.named
  have hlocks := B.notSynchronized
  have hb0 : b ≤ s.heap.size := by rw [hP.2.2.2]; exact Nat.le_add_right _ _
  have hS : va_S (xA b hole) s.heap s.heap [] := va_S.rf
  have hl := lv_entry ([.int p1, .int p2]) (n := 3) (Nat.le_of_ble_eq_true rfl)
  rw [lg_entry_eq]
  generalize (lg_sl ([.int p1, .int p2]) ++ List.replicate (3 - (lg_sl ([.int p1, .int p2])).length) Slot.unset).toArray = ls at hl ⊢
  have hl : lv_has ls 3 [(0, .int p1), (1, .int p2)] := hl
  have L2 : ∀ (x2 : Int32) (H : Heap) (locs : List Loc) (ls : Array Slot), wx1_goesInto_l2 p1 p2 post  x2 K T → xW G b hole K T H → va_S (xA b hole) s.heap H locs → lv_has ls 3 [(0, .int p1), (1, .int p2), (2, .int x2)] → W p l e (headSpec (ws_ yX1_goesInto cX1_goesInto 3 (some .boolean)) ({ frames := 1, cells := 0, slots := 0, locals := 21 } : Room)).room s m ([.int p1, .int p2] : List Value).toArray below meth c H locs 0 0 (MQ below (xQ G b hole K 0 0 (ρ := Int32) eI (fun r T1 K1 => post r ∧ T1 = T ∧ K1 = K)) ([.int p1, .int p2] : List Value).toArray s 0 0 (xA b hole)) (F0 m 2 ls []) := by
    intro x2 H locs ls h hP hS hl
    obtain ⟨I2, n2, hI, hstep2⟩ := h
    induction n2 using Nat.strongRecOn generalizing x2 H locs ls with
    | ind n2 ih2 =>
      have h : wx1_goesInto_b2 p1 p2 post (fun x2 => ∃ mm, mm < n2 ∧ I2 mm x2)  x2 K T := hstep2 n2 _ hI
      clear hI
      unfold wx1_goesInto_b2 at h
      refine lv_iload_n hx hb dX1_goesInto_2 rfl (lv_at hl 2 rfl) ?_
      refine lv_iconst (v := 3) hx hb dX1_goesInto_3 (by decide) ?_
      refine lv_icmp_ge (tgt := 28) hx hb dX1_goesInto_4 (by decide) (fun c_9 => ?_) (fun c_9 => ?_)
      · have h := h.1 c_9
        refine lv_iconst (v := 1) hx hb dX1_goesInto_28 (by decide) ?_
        exact W.zret (v := 1) hx hb hr rfl (fun t ht hW => ⟨⟨1, T, K, rfl, ⟨h, rfl, rfl⟩, kle.rf, rfl, rfl, by rw [ht]; exact hP, va_K.moved hW.alike hK⟩, hS.F ht⟩) hS.2.2 dX1_goesInto_29
      · have h := h.2 c_9
        refine lv_iload_n hx hb dX1_goesInto_7 rfl (lv_at hl 0 rfl) ?_
        refine lv_iload_n hx hb dX1_goesInto_8 rfl (lv_at hl 2 rfl) ?_
        refine x_cS (As := [.int p1, .int x2]) (rest := []) ⟨hx, hb, hml, hown, hts⟩ (mx1_exponent l G b hole p1 x2 K T  _ h) (va_cwS 2 hts (lw_S q723 q724 q118 q725) rfl rfl rfl cwx_X1_exponent ⟨Nat.le_of_ble_eq_true rfl, Nat.le_of_ble_eq_true rfl⟩) hK hV hb0 hP hS rfl hl.1 rfl (Nat.le_of_ble_eq_true rfl) dX1_goesInto_9 ⟨by first | exact Nat.zero_le _ | (show _ + _ ≤ Z - kc K0; omega), by first | exact Nat.zero_le _ | (show _ + _ ≤ Y - ks K0; omega)⟩ (fun r_1 T1 K1 H locs h hle1 hc1 hs1 hP hS => ?_)
        obtain ⟨h, hTe, hKe⟩ := h
        rw [hTe, hKe] at hP
        refine lv_iload_n hx hb dX1_goesInto_12 rfl (lv_at hl 1 rfl) ?_
        refine lv_iload_n hx hb dX1_goesInto_13 rfl (lv_at hl 2 rfl) ?_
        refine x_cS (As := [.int p2, .int x2]) (rest := [.int r_1]) ⟨hx, hb, hml, hown, hts⟩ (mx1_exponent l G b hole p2 x2 K T  _ h) (va_cwS 2 hts (lw_S q723 q724 q118 q725) rfl rfl rfl cwx_X1_exponent ⟨Nat.le_of_ble_eq_true rfl, Nat.le_of_ble_eq_true rfl⟩) hK hV hb0 hP hS rfl hl.1 rfl (Nat.le_of_ble_eq_true rfl) dX1_goesInto_14 ⟨by first | exact Nat.zero_le _ | (show _ + _ ≤ Z - kc K0; omega), by first | exact Nat.zero_le _ | (show _ + _ ≤ Y - ks K0; omega)⟩ (fun r_4 T1 K1 H locs h hle1 hc1 hs1 hP hS => ?_)
        obtain ⟨h, hTe, hKe⟩ := h
        rw [hTe, hKe] at hP
        refine lv_icmp_le (tgt := 22) hx hb dX1_goesInto_17 (by decide) (fun c_8 => ?_) (fun c_8 => ?_)
        · have h := h.1 c_8
          obtain ⟨x2_7, ex2_7⟩ : ∃ y : Int32, y = x2 + 1 := ⟨_, rfl⟩
          have h := h x2_7 ex2_7
          refine lv_iinc (v := x2_7) (lv' := [(2, .int x2_7), (0, .int p1), (1, .int p2)]) hx hb dX1_goesInto_22 hl (k := 2) rfl (by rw [ex2_7]; rfl) (by decide) rfl (fun ls hl => ?_)
          refine lv_goto (tgt := 2) hx hb dX1_goesInto_25 (by decide) ?_
          obtain ⟨mm, hmm, h⟩ := h
          exact ih2 mm hmm _ _ _ _  hP hS (lv_sub hl [1, 2, 0] rfl) h
        · have h := h.2 c_8
          refine lv_iconst (v := 0) hx hb dX1_goesInto_20 (by decide) ?_
          exact W.zret (v := 0) hx hb hr rfl (fun t ht hW => ⟨⟨0, T, K, rfl, ⟨h, rfl, rfl⟩, kle.rf, rfl, rfl, by rw [ht]; exact hP, va_K.moved hW.alike hK⟩, hS.F ht⟩) hS.2.2 dX1_goesInto_21
  unfold wx1_goesInto at h
  refine lv_iconst (v := 0) hx hb dX1_goesInto_0 (by decide) ?_
  refine lv_istore_n (lv' := [(2, .int 0), (0, .int p1), (1, .int p2)]) hx hb dX1_goesInto_1 rfl hl (by decide) rfl (fun ls hl => ?_)
  exact L2 _ _ _ _ h  hP hS (lv_sub hl [1, 2, 0] rfl)
theorem cwx_X3_divisor : yX3_divisor.cls = RX3 ∧ yX3_divisor.cls ≠ "java/lang/invoke/MethodHandle" ∧ yX3_divisor.cls ≠ "java/lang/invoke/VarHandle" ∧ (parseMethodDescriptor yX3_divisor.desc).map (fun d => d.parameters.length) = some 0 := by decide +kernel
def wx3_divisor_j51  (post : Int32 → Prop) (R2 : Int32 → Prop) (x1 : Int32) (K : XK) (T : XT) : Prop :=
        ∀ x1_1 : Int32, x1_1 = x1 + 1 →
        R2 x1_1
def wx3_divisor_b2  (post : Int32 → Prop) (R2 : Int32 → Prop)  (x1 : Int32) (K : XK) (T : XT) : Prop :=
      ((8 ≤ x1 →
        post (-1)) ∧
       (¬ (8 ≤ x1) →
        ((¬ ((jshr (xi T 6 4) x1) &&& 1) = 1 →
          wx3_divisor_j51  post R2 x1 K T) ∧
         (((jshr (xi T 6 4) x1) &&& 1) = 1 →
          ∃ v_2 : Nat, xr T 0 18 = some v_2 ∧
          ∃ j_3 : Nat, j_3 < kl K v_2 ∧ x1 = nI j_3 ∧ ∃ v_4 : Nat, xr T v_2 j_3 = some v_4 ∧
          ∃ v_5 : Nat, xr T v_4 0 = some v_5 ∧
          ∃ j_6 : Nat, j_6 < kl K v_5 ∧ 0 = nI j_6 ∧
          ∃ v_7 : Nat, xr T 6 2 = some v_7 ∧
          ∃ j_8 : Nat, j_8 < kl K (v_7 + 1) ∧ 0 = nI j_8 ∧
          wx1_goesInto (xi T v_5 j_6) (xi T (v_7 + 1) j_8) K T (fun r_9 =>
          ((r_9 = 0 →
            wx3_divisor_j51  post R2 x1 K T) ∧
           (¬ (r_9 = 0) →
            post x1)))))))
def wx3_divisor_l2  (post : Int32 → Prop)  (x1 : Int32) (K : XK) (T : XT) : Prop := wLoop (fun (R : ((Int32)) → Prop) (v : (Int32)) => wx3_divisor_b2  post (fun x1 => R x1)  v K T) x1
def wx3_divisor  (K : XK) (T : XT) (post : Int32 → Prop) : Prop :=
  wx3_divisor_l2  post 0 K T
set_option maxHeartbeats 4000000 in
theorem mx3_divisor (l : Launch) (G : XG) (b : Nat) (hole : Nat → Prop)  (K : XK) (T : XT)  (post : Int32 → Prop) (h : wx3_divisor  K T post) : Met l yX3_divisor (ws_ yX3_divisor cX3_divisor 2 (some .int)) ({ frames := 2, cells := 0, slots := 0, locals := 43 } : Room) (xPc G b hole [.ref (b + 6)] K T) (xQ G b hole K 0 0 (ρ := Int32) eI (fun r T1 K1 => post r ∧ T1 = T ∧ K1 = K)) 0 0 (xA b hole) := by
  refine Met.ofW (cc := cX3_divisor) (maxL := 2) (ret := (some .int)) (by decide) rfl ?_
  intro p e s m args below meth c s₁ B hml hv
  obtain ⟨rfl, hP, hK, hV⟩ := hv
  have hx := B.exec
  have hb := B.bytes
  have hr := B.returns
  have hts := atoms_spec (ws := ws_ yX3_divisor cX3_divisor 2 (some .int)) B.pre
  have hts : ∀ w ∈ lw_all, w.before _ s = true := fun w h => hts w (List.mem_cons_of_mem _ h)
  have hown : s.vm.findClass RX3 = some m.cls := findClass_of_methodNamed B.named
  have hlocks := B.notSynchronized
  have hb0 : b ≤ s.heap.size := by rw [hP.2.2.2]; exact Nat.le_add_right _ _
  have hS : va_S (xA b hole) s.heap s.heap [] := va_S.rf
  have hl := lv_entry ([.ref (b + 6)]) (n := 2) (Nat.le_of_ble_eq_true rfl)
  rw [lg_entry_eq]
  generalize (lg_sl ([.ref (b + 6)]) ++ List.replicate (2 - (lg_sl ([.ref (b + 6)])).length) Slot.unset).toArray = ls at hl ⊢
  have hl : lv_has ls 2 [(0, .ref (b + 6))] := hl
  have L2 : ∀ (x1 : Int32) (H : Heap) (locs : List Loc) (ls : Array Slot), wx3_divisor_l2  post  x1 K T → xW G b hole K T H → va_S (xA b hole) s.heap H locs → lv_has ls 2 [(0, .ref (b + 6)), (1, .int x1)] → W p l e (headSpec (ws_ yX3_divisor cX3_divisor 2 (some .int)) ({ frames := 2, cells := 0, slots := 0, locals := 43 } : Room)).room s m ([.ref (b + 6)] : List Value).toArray below meth c H locs 0 0 (MQ below (xQ G b hole K 0 0 (ρ := Int32) eI (fun r T1 K1 => post r ∧ T1 = T ∧ K1 = K)) ([.ref (b + 6)] : List Value).toArray s 0 0 (xA b hole)) (F0 m 2 ls []) := by
    intro x1 H locs ls h hP hS hl
    obtain ⟨I2, n2, hI, hstep2⟩ := h
    induction n2 using Nat.strongRecOn generalizing x1 H locs ls with
    | ind n2 ih2 =>
      have h : wx3_divisor_b2  post (fun x1 => ∃ mm, mm < n2 ∧ I2 mm x1)  x1 K T := hstep2 n2 _ hI
      clear hI
      have J51 : ∀ (x1 : Int32) (H : Heap) (locs : List Loc) (ls : Array Slot), wx3_divisor_j51  post (fun x1 => ∃ mm, mm < n2 ∧ I2 mm x1) x1 K T → xW G b hole K T H → va_S (xA b hole) s.heap H locs → lv_has ls 2 [(0, .ref (b + 6)), (1, .int x1)] → W p l e (headSpec (ws_ yX3_divisor cX3_divisor 2 (some .int)) ({ frames := 2, cells := 0, slots := 0, locals := 43 } : Room)).room s m ([.ref (b + 6)] : List Value).toArray below meth c H locs 0 0 (MQ below (xQ G b hole K 0 0 (ρ := Int32) eI (fun r T1 K1 => post r ∧ T1 = T ∧ K1 = K)) ([.ref (b + 6)] : List Value).toArray s 0 0 (xA b hole)) (F0 m 51 ls []) := by
        intro x1 H locs ls h hP hS hl
        unfold wx3_divisor_j51 at h
        obtain ⟨x1_1, ex1_1⟩ : ∃ y : Int32, y = x1 + 1 := ⟨_, rfl⟩
        have h := h x1_1 ex1_1
        refine lv_iinc (v := x1_1) (lv' := [(1, .int x1_1), (0, .ref (b + 6))]) hx hb dX3_divisor_51 hl (k := 1) rfl (by rw [ex1_1]; rfl) (by decide) rfl (fun ls hl => ?_)
        refine lv_goto (tgt := 2) hx hb dX3_divisor_54 (by decide) ?_
        obtain ⟨mm, hmm, h⟩ := h
        exact ih2 mm hmm _ _ _ _  hP hS (lv_sub hl [1, 0] rfl) h
      unfold wx3_divisor_b2 at h
      refine lv_iload_n hx hb dX3_divisor_2 rfl (lv_at hl 1 rfl) ?_
      refine lv_bipush (v := 8) hx hb dX3_divisor_3 (by decide) ?_
      refine lv_icmp_ge (tgt := 57) hx hb dX3_divisor_5 (by decide) (fun c_14 => ?_) (fun c_14 => ?_)
      · have h := h.1 c_14
        refine lv_iconst (v := (-1)) hx hb dX3_divisor_57 (by decide) ?_
        exact W.iret (v := (-1)) hx hb hr (fun t ht hW => ⟨⟨(-1), T, K, rfl, ⟨h, rfl, rfl⟩, kle.rf, rfl, rfl, by rw [ht]; exact hP, va_K.moved hW.alike hK⟩, hS.F ht⟩) hS.2.2 dX3_divisor_58
      · have h := h.2 c_14
        refine lv_aload_n hx hb dX3_divisor_8 rfl (lv_at hl 0 rfl) ?_
        refine x_get (CC := RX3) (TT := TX3) (N := 9) (ci := 2) (v := .int (xi T 6 4)) hx hb hts in_X3 hown hK hP (xs_6 hP) (by decide) (by decide) rfl (xE_10 (xs_6 hP)) 4 (by decide) q186 rfl rfl dX3_divisor_9 ?_
        refine lv_iload_n hx hb dX3_divisor_12 rfl (lv_at hl 1 rfl) ?_
        refine m_ishr hx hb dX3_divisor_13 ?_
        refine lv_iconst (v := 1) hx hb dX3_divisor_14 (by decide) ?_
        refine lv_iand hx hb dX3_divisor_15 ?_
        refine lv_iconst (v := 1) hx hb dX3_divisor_16 (by decide) ?_
        refine lv_icmp_ne (tgt := 51) hx hb dX3_divisor_17 (by decide) (fun c_13 => ?_) (fun c_13 => ?_)
        · have h := h.1 c_13
          exact J51 _ _ _ _ h  hP hS (lv_sub hl [0, 1] rfl)
        · have h := h.2 c_13
          refine lv_aload_n hx hb dX3_divisor_20 rfl (lv_at hl 0 rfl) ?_
          refine x_get (CC := RX3) (TT := TX3) (N := 9) (ci := 2) (v := .ref (b + 0)) hx hb hts in_X3 hown hK hP (xs_6 hP) (by decide) (by decide) rfl (xE_10 (xs_6 hP)) 8 (by decide) q193 rfl rfl dX3_divisor_21 ?_
          obtain ⟨v_2, ev_2, h⟩ := h
          refine x_getN (CC := RX1) (TT := TX1) (N := 26) (ci := 0) (v := rfv b (xr T 0 18)) hx hb hts in_X1 hown hK hV.1 hP (xs_0 hP) (by decide) (by decide) rfl (xE_8 (xs_0 hP)) 18 (by decide) q404 rfl rfl dX3_divisor_24 ?_
          refine x_some ev_2 ?_
          have hk_v_2 : kd K v_2 = 3 := hP.ty (xs_0 hP) (by decide) ev_2
          refine lv_iload_n hx hb dX3_divisor_27 rfl (lv_at hl 1 rfl) ?_
          obtain ⟨j_3, hj_3, ej_3, v_4, ev_4, h⟩ := h
          refine x_aald3 hx hb hK hP hk_v_2 ej_3 hj_3 dX3_divisor_28 ?_
          refine x_some ev_4 ?_
          have hk_v_4 : kd K v_4 = 2 := hP.ty hk_v_2 (by decide) ev_4
          obtain ⟨v_5, ev_5, h⟩ := h
          refine x_get (CC := RX6) (TT := TX6) (N := 3) (ci := 5) (v := rfv b (xr T v_4 0)) hx hb hts in_X6 hown hK hP hk_v_4 (by decide) (by decide) rfl (xE_2 hk_v_4) 0 (by decide) q365 rfl rfl dX3_divisor_29 ?_
          refine x_some ev_5 ?_
          have hk_v_5 : kd K v_5 = 1 := hP.ty hk_v_4 (by decide) ev_5
          refine lv_iconst (v := 0) hx hb dX3_divisor_32 (by decide) ?_
          obtain ⟨j_6, hj_6, ej_6, h⟩ := h
          refine x_iald hx hb hK hP hk_v_5 ej_6 hj_6 dX3_divisor_33 ?_
          refine lv_aload_n hx hb dX3_divisor_34 rfl (lv_at hl 0 rfl) ?_
          obtain ⟨v_7, ev_7, h⟩ := h
          refine x_get (CC := RX3) (TT := TX3) (N := 9) (ci := 2) (v := rfv b (xr T 6 2)) hx hb hts in_X3 hown hK hP (xs_6 hP) (by decide) (by decide) rfl (xE_10 (xs_6 hP)) 2 (by decide) q184 rfl rfl dX3_divisor_35 ?_
          refine x_some ev_7 ?_
          have hk_v_7 : kd K v_7 = 9 := hP.ty (xs_6 hP) (by decide) ev_7
          refine x_getN (CC := RX2) (TT := TX2) (N := 3) (ci := 1) (v := .ref (b + (v_7 + 1))) hx hb hts in_X2 hown hK hV.1 hP hk_v_7 (by decide) (by decide) rfl (xE_9 hk_v_7) 0 (by decide) q157 rfl rfl dX3_divisor_38 ?_
          refine lv_iconst (v := 0) hx hb dX3_divisor_41 (by decide) ?_
          obtain ⟨j_8, hj_8, ej_8, h⟩ := h
          refine x_iald hx hb hK hP (hP.row hk_v_7).1 ej_8 hj_8 dX3_divisor_42 ?_
          refine x_cSN (host := "TermDesk") (As := [.int (xi T v_5 j_6), .int (xi T (v_7 + 1) j_8)]) (rest := []) ⟨hx, hb, hml, hown, hts⟩ (mx1_goesInto l G b hole (xi T v_5 j_6) (xi T (v_7 + 1) j_8) K T  _ h) ⟨va_cnB 2 hts (lw_meth q922) rfl rfl rfl (hV.1.2.1 _ _ _ _ q920) (hts _ q118) cwx_X1_goesInto ⟨Nat.le_of_ble_eq_true rfl, Nat.le_of_ble_eq_true rfl⟩, hts _ q921, trivial⟩ hK hV hb0 hP hS rfl hl.1 rfl (Nat.le_of_ble_eq_true rfl) dX3_divisor_43 ⟨by first | exact Nat.zero_le _ | (show _ + _ ≤ Z - kc K0; omega), by first | exact Nat.zero_le _ | (show _ + _ ≤ Y - ks K0; omega)⟩ (fun r_9 T1 K1 H locs h hle1 hc1 hs1 hP hS => ?_)
          obtain ⟨h, hTe, hKe⟩ := h
          rw [hTe, hKe] at hP
          refine lv_if_eq (tgt := 51) hx hb dX3_divisor_46 (by decide) (fun c_12 => ?_) (fun c_12 => ?_)
          · have h := h.1 c_12
            exact J51 _ _ _ _ h  hP hS (lv_sub hl [0, 1] rfl)
          · have h := h.2 c_12
            refine lv_iload_n hx hb dX3_divisor_49 rfl (lv_at hl 1 rfl) ?_
            exact W.iret (v := x1) hx hb hr (fun t ht hW => ⟨⟨x1, T, K, rfl, ⟨h, rfl, rfl⟩, kle.rf, rfl, rfl, by rw [ht]; exact hP, va_K.moved hW.alike hK⟩, hS.F ht⟩) hS.2.2 dX3_divisor_50
  unfold wx3_divisor at h
  refine lv_iconst (v := 0) hx hb dX3_divisor_0 (by decide) ?_
  refine lv_istore_n (lv' := [(1, .int 0), (0, .ref (b + 6))]) hx hb dX3_divisor_1 rfl hl (by decide) rfl (fun ls hl => ?_)
  exact L2 _ _ _ _ h  hP hS (lv_sub hl [1, 0] rfl)
theorem cwx_X2_dropsFirst : yX2_dropsFirst.cls = RX2 ∧ yX2_dropsFirst.cls ≠ "java/lang/invoke/MethodHandle" ∧ yX2_dropsFirst.cls ≠ "java/lang/invoke/VarHandle" ∧ (parseMethodDescriptor yX2_dropsFirst.desc).map (fun d => d.parameters.length) = some 0 := by decide +kernel
def wx2_dropsFirst (p0 : Nat) (K : XK) (T : XT) (post : XT → Prop) : Prop :=
  ∀ T_1 : XT, T_1 = xwi T p0 2 ((xi T p0 2) - 1) →
  ∃ sp_2 dp_3 n_4 : Nat, 1 = nI sp_2 ∧ 0 = nI dp_3 ∧ (xi T_1 p0 2) = nI n_4 ∧ sp_2 + n_4 ≤ kl K (p0 + 1) ∧ dp_3 + n_4 ≤ kl K (p0 + 1) ∧ ∀ T_5 : XT, T_5 = xcpy T_1 (p0 + 1) (p0 + 1) sp_2 dp_3 n_4 →
  ∃ sp_6 dp_7 n_8 : Nat, 1 = nI sp_6 ∧ 0 = nI dp_7 ∧ (xi T_5 p0 2) = nI n_8 ∧ sp_6 + n_8 ≤ kl K (p0 + 2) ∧ dp_7 + n_8 ≤ kl K (p0 + 2) ∧ ∀ T_9 : XT, T_9 = xcpy T_5 (p0 + 2) (p0 + 2) sp_6 dp_7 n_8 →
  post T_9
set_option maxHeartbeats 4000000 in
theorem mx2_dropsFirst (l : Launch) (G : XG) (b : Nat) (hole : Nat → Prop) (p0 : Nat) (K : XK) (T : XT) (hk_p0 : kd K p0 = 9) (post : XT → Prop) (h : wx2_dropsFirst p0 K T post) : Met l yX2_dropsFirst (ws_ yX2_dropsFirst cX2_dropsFirst 1 none) ({ frames := 1, cells := 0, slots := 0, locals := 60 } : Room) (xPc G b hole [.ref (b + p0)] K T) (xQ G b hole K 0 0 (ρ := Unit) eV (fun r T1 K1 => post T1 ∧ K1 = K)) 0 0 (xA b hole) := by
  refine Met.ofW (cc := cX2_dropsFirst) (maxL := 1) (ret := none) (by decide) rfl ?_
  intro p e s m args below meth c s₁ B hml hv
  obtain ⟨rfl, hP, hK, hV⟩ := hv
  have hx := B.exec
  have hb := B.bytes
  have hr := B.returns
  have hts := atoms_spec (ws := ws_ yX2_dropsFirst cX2_dropsFirst 1 none) B.pre
  have hts : ∀ w ∈ lw_all, w.before _ s = true := fun w h => hts w (List.mem_cons_of_mem _ h)
  have hown : s.vm.findClass RX2 = some m.cls := findClass_of_methodNamed B.named
  have hlocks := B.notSynchronized
  have hb0 : b ≤ s.heap.size := by rw [hP.2.2.2]; exact Nat.le_add_right _ _
  have hS : va_S (xA b hole) s.heap s.heap [] := va_S.rf
  have hl := lv_entry ([.ref (b + p0)]) (n := 1) (Nat.le_of_ble_eq_true rfl)
  rw [lg_entry_eq]
  generalize (lg_sl ([.ref (b + p0)]) ++ List.replicate (1 - (lg_sl ([.ref (b + p0)])).length) Slot.unset).toArray = ls at hl ⊢
  have hl : lv_has ls 1 [(0, .ref (b + p0))] := hl
  unfold wx2_dropsFirst at h
  refine lv_aload_n hx hb dX2_dropsFirst_0 rfl (lv_at hl 0 rfl) ?_
  refine lv_dup hx hb dX2_dropsFirst_1 rfl ?_
  refine x_get (CC := RX2) (TT := TX2) (N := 3) (ci := 1) (v := .int (xi T p0 2)) hx hb hts in_X2 hown hK hP hk_p0 (by decide) (by decide) rfl (xE_9 hk_p0) 2 (by decide) q161 rfl rfl dX2_dropsFirst_2 ?_
  refine lv_iconst (v := 1) hx hb dX2_dropsFirst_5 (by decide) ?_
  refine lv_isub hx hb dX2_dropsFirst_6 ?_
  obtain ⟨T_1, eT_1⟩ : ∃ z : XT, z = xwi T p0 2 ((xi T p0 2) - 1) := ⟨_, rfl⟩
  have h := h T_1 eT_1
  refine x_put (CC := RX2) (TT := TX2) (N := 3) (ci := 1) (T1 := T_1) (v := .int ((xi T p0 2) - 1)) (ty := .int) (fsf := fun T => fs9 (gem G) b T p0) hx hb hts in_X2 tyX2 tyX2_ok nmX2 hown hK hP hS hk_p0 (by decide) (by decide) rfl (fun _ => xE_9 hk_p0) rfl 2 (by decide) q161 rfl (Or.inl rfl) rfl rfl rfl (by rw [eT_1]; exact fw9_2 _ b T p0 ((xi T p0 2) - 1)) (by rw [eT_1]; exact fun q hq => xwi_i hq) (by rw [eT_1]; exact fun _ _ => rfl) (by rw [eT_1]; exact xwi_ty hP (by rw [hk_p0]; decide)) dX2_dropsFirst_7 (fun H locs hP hS => ?_)
  refine lv_aload_n hx hb dX2_dropsFirst_10 rfl (lv_at hl 0 rfl) ?_
  refine x_get (CC := RX2) (TT := TX2) (N := 3) (ci := 1) (v := .ref (b + (p0 + 1))) hx hb hts in_X2 hown hK hP hk_p0 (by decide) (by decide) rfl (xE_9 hk_p0) 0 (by decide) q156 rfl rfl dX2_dropsFirst_11 ?_
  refine lv_iconst (v := 1) hx hb dX2_dropsFirst_14 (by decide) ?_
  refine lv_aload_n hx hb dX2_dropsFirst_15 rfl (lv_at hl 0 rfl) ?_
  refine x_get (CC := RX2) (TT := TX2) (N := 3) (ci := 1) (v := .ref (b + (p0 + 1))) hx hb hts in_X2 hown hK hP hk_p0 (by decide) (by decide) rfl (xE_9 hk_p0) 0 (by decide) q156 rfl rfl dX2_dropsFirst_16 ?_
  refine lv_iconst (v := 0) hx hb dX2_dropsFirst_19 (by decide) ?_
  refine lv_aload_n hx hb dX2_dropsFirst_20 rfl (lv_at hl 0 rfl) ?_
  refine x_get (CC := RX2) (TT := TX2) (N := 3) (ci := 1) (v := .int (xi T_1 p0 2)) hx hb hts in_X2 hown hK hP hk_p0 (by decide) (by decide) rfl (xE_9 hk_p0) 2 (by decide) q161 rfl rfl dX2_dropsFirst_21 ?_
  obtain ⟨sp_2, dp_3, n_4, ea1, ea2, ea3, ea4, ea5, h⟩ := h
  obtain ⟨T_5, eT_5⟩ : ∃ z : XT, z = xcpy T_1 (p0 + 1) (p0 + 1) sp_2 dp_3 n_4 := ⟨_, rfl⟩
  have h := h T_5 eT_5
  refine x_copyi hx hb (hml.trans hl.1.symm) hown hts q927 q929 q928 q136 hK hP hS (hP.row hk_p0).1 (hP.row hk_p0).1 ea1 ea2 ea3 ea4 ea5 (Nat.le_of_ble_eq_true rfl) (Nat.le_of_ble_eq_true rfl) dX2_dropsFirst_24 (fun H locs hP hS => ?_)
  rw [← eT_5] at hP
  refine lv_aload_n hx hb dX2_dropsFirst_27 rfl (lv_at hl 0 rfl) ?_
  refine x_get (CC := RX2) (TT := TX2) (N := 3) (ci := 1) (v := .ref (b + (p0 + 2))) hx hb hts in_X2 hown hK hP hk_p0 (by decide) (by decide) rfl (xE_9 hk_p0) 1 (by decide) q158 rfl rfl dX2_dropsFirst_28 ?_
  refine lv_iconst (v := 1) hx hb dX2_dropsFirst_31 (by decide) ?_
  refine lv_aload_n hx hb dX2_dropsFirst_32 rfl (lv_at hl 0 rfl) ?_
  refine x_get (CC := RX2) (TT := TX2) (N := 3) (ci := 1) (v := .ref (b + (p0 + 2))) hx hb hts in_X2 hown hK hP hk_p0 (by decide) (by decide) rfl (xE_9 hk_p0) 1 (by decide) q158 rfl rfl dX2_dropsFirst_33 ?_
  refine lv_iconst (v := 0) hx hb dX2_dropsFirst_36 (by decide) ?_
  refine lv_aload_n hx hb dX2_dropsFirst_37 rfl (lv_at hl 0 rfl) ?_
  refine x_get (CC := RX2) (TT := TX2) (N := 3) (ci := 1) (v := .int (xi T_5 p0 2)) hx hb hts in_X2 hown hK hP hk_p0 (by decide) (by decide) rfl (xE_9 hk_p0) 2 (by decide) q161 rfl rfl dX2_dropsFirst_38 ?_
  obtain ⟨sp_6, dp_7, n_8, ea1, ea2, ea3, ea4, ea5, h⟩ := h
  obtain ⟨T_9, eT_9⟩ : ∃ z : XT, z = xcpy T_5 (p0 + 2) (p0 + 2) sp_6 dp_7 n_8 := ⟨_, rfl⟩
  have h := h T_9 eT_9
  refine x_copyi hx hb (hml.trans hl.1.symm) hown hts q927 q929 q928 q136 hK hP hS (hP.row hk_p0).2 (hP.row hk_p0).2 ea1 ea2 ea3 ea4 ea5 (Nat.le_of_ble_eq_true rfl) (Nat.le_of_ble_eq_true rfl) dX2_dropsFirst_41 (fun H locs hP hS => ?_)
  rw [← eT_9] at hP
  exact W.vret hx hb hr (fun t ht hW => ⟨⟨(), T_9, K, rfl, ⟨h, rfl⟩, kle.rf, rfl, rfl, by rw [ht]; exact hP, va_K.moved hW.alike hK⟩, hS.F ht⟩) hS.2.2 dX2_dropsFirst_44
theorem cwx_X1_goes : yX1_goes.cls ≠ "java/lang/invoke/MethodHandle" ∧ yX1_goes.cls ≠ "java/lang/invoke/VarHandle" ∧ (parseMethodDescriptor yX1_goes.desc).map (fun d => d.parameters.length) = some 2 := by decide +kernel
def wx1_goes_j32 (p1 : Nat) (p2 : Int32) (post : Int32 → Prop) (R2 : Int32 → Prop) (x2 : Int32) (K : XK) (T : XT) : Prop :=
        ∀ x2_1 : Int32, x2_1 = x2 + 1 →
        R2 x2_1
def wx1_goes_b2 (p1 : Nat) (p2 : Int32) (post : Int32 → Prop) (R2 : Int32 → Prop)  (x2 : Int32) (K : XK) (T : XT) : Prop :=
      ((3 ≤ x2 →
        post 1) ∧
       (¬ (3 ≤ x2) →
        wx6_isZero p1 K T (fun r_2 =>
        ((¬ r_2 = 0 →
          wx1_goes_j32 p1 p2 post R2 x2 K T) ∧
         (r_2 = 0 →
          wx6_most p1 x2 K T (fun r_5 =>
          wx1_exponent p2 x2 K T (fun r_8 =>
          (((r_5 + r_8) ≤ 15 →
            wx1_goes_j32 p1 p2 post R2 x2 K T) ∧
           (¬ ((r_5 + r_8) ≤ 15) →
            post 0)))))))))
def wx1_goes_l2 (p1 : Nat) (p2 : Int32) (post : Int32 → Prop)  (x2 : Int32) (K : XK) (T : XT) : Prop := wLoop (fun (R : ((Int32)) → Prop) (v : (Int32)) => wx1_goes_b2 p1 p2 post (fun x2 => R x2)  v K T) x2
def wx1_goes (p1 : Nat) (p2 : Int32) (K : XK) (T : XT) (post : Int32 → Prop) : Prop :=
  wx1_goes_l2 p1 p2 post 0 K T
set_option maxHeartbeats 4000000 in
theorem mx1_goes (l : Launch) (G : XG) (b : Nat) (hole : Nat → Prop) (p1 : Nat) (p2 : Int32) (K : XK) (T : XT) (hk_p1 : kd K p1 = 2) (post : Int32 → Prop) (h : wx1_goes p1 p2 K T post) : Met l yX1_goes (ws_ yX1_goes cX1_goes 3 (some .boolean)) ({ frames := 2, cells := 0, slots := 0, locals := 83 } : Room) (xPc G b hole [.ref (b + p1), .int p2] K T) (xQ G b hole K 0 0 (ρ := Int32) eI (fun r T1 K1 => post r ∧ T1 = T ∧ K1 = K)) 0 0 (xA b hole) := by
  refine Met.ofW (cc := cX1_goes) (maxL := 3) (ret := (some .boolean)) (by decide) rfl ?_
  intro p e s m args below meth c s₁ B hml hv
  obtain ⟨rfl, hP, hK, hV⟩ := hv
  have hx := B.exec
  have hb := B.bytes
  have hr := B.returns
  have hts := atoms_spec (ws := ws_ yX1_goes cX1_goes 3 (some .boolean)) B.pre
  have hts : ∀ w ∈ lw_all, w.before _ s = true := fun w h => hts w (List.mem_cons_of_mem _ h)
  have hown : s.vm.findClass RX1 = some m.cls := findClass_of_methodNamed B.named
  have hlocks := B.notSynchronized
  have hb0 : b ≤ s.heap.size := by rw [hP.2.2.2]; exact Nat.le_add_right _ _
  have hS : va_S (xA b hole) s.heap s.heap [] := va_S.rf
  have hl := lv_entry ([.ref (b + p1), .int p2]) (n := 3) (Nat.le_of_ble_eq_true rfl)
  rw [lg_entry_eq]
  generalize (lg_sl ([.ref (b + p1), .int p2]) ++ List.replicate (3 - (lg_sl ([.ref (b + p1), .int p2])).length) Slot.unset).toArray = ls at hl ⊢
  have hl : lv_has ls 3 [(0, .ref (b + p1)), (1, .int p2)] := hl
  have L2 : ∀ (x2 : Int32) (H : Heap) (locs : List Loc) (ls : Array Slot), wx1_goes_l2 p1 p2 post  x2 K T → xW G b hole K T H → va_S (xA b hole) s.heap H locs → lv_has ls 3 [(0, .ref (b + p1)), (1, .int p2), (2, .int x2)] → W p l e (headSpec (ws_ yX1_goes cX1_goes 3 (some .boolean)) ({ frames := 2, cells := 0, slots := 0, locals := 83 } : Room)).room s m ([.ref (b + p1), .int p2] : List Value).toArray below meth c H locs 0 0 (MQ below (xQ G b hole K 0 0 (ρ := Int32) eI (fun r T1 K1 => post r ∧ T1 = T ∧ K1 = K)) ([.ref (b + p1), .int p2] : List Value).toArray s 0 0 (xA b hole)) (F0 m 2 ls []) := by
    intro x2 H locs ls h hP hS hl
    obtain ⟨I2, n2, hI, hstep2⟩ := h
    induction n2 using Nat.strongRecOn generalizing x2 H locs ls with
    | ind n2 ih2 =>
      have h : wx1_goes_b2 p1 p2 post (fun x2 => ∃ mm, mm < n2 ∧ I2 mm x2)  x2 K T := hstep2 n2 _ hI
      clear hI
      have J32 : ∀ (x2 : Int32) (H : Heap) (locs : List Loc) (ls : Array Slot), wx1_goes_j32 p1 p2 post (fun x2 => ∃ mm, mm < n2 ∧ I2 mm x2) x2 K T → xW G b hole K T H → va_S (xA b hole) s.heap H locs → lv_has ls 3 [(0, .ref (b + p1)), (1, .int p2), (2, .int x2)] → W p l e (headSpec (ws_ yX1_goes cX1_goes 3 (some .boolean)) ({ frames := 2, cells := 0, slots := 0, locals := 83 } : Room)).room s m ([.ref (b + p1), .int p2] : List Value).toArray below meth c H locs 0 0 (MQ below (xQ G b hole K 0 0 (ρ := Int32) eI (fun r T1 K1 => post r ∧ T1 = T ∧ K1 = K)) ([.ref (b + p1), .int p2] : List Value).toArray s 0 0 (xA b hole)) (F0 m 32 ls []) := by
        intro x2 H locs ls h hP hS hl
        unfold wx1_goes_j32 at h
        obtain ⟨x2_1, ex2_1⟩ : ∃ y : Int32, y = x2 + 1 := ⟨_, rfl⟩
        have h := h x2_1 ex2_1
        refine lv_iinc (v := x2_1) (lv' := [(2, .int x2_1), (0, .ref (b + p1)), (1, .int p2)]) hx hb dX1_goes_32 hl (k := 2) rfl (by rw [ex2_1]; rfl) (by decide) rfl (fun ls hl => ?_)
        refine lv_goto (tgt := 2) hx hb dX1_goes_35 (by decide) ?_
        obtain ⟨mm, hmm, h⟩ := h
        exact ih2 mm hmm _ _ _ _  hP hS (lv_sub hl [1, 2, 0] rfl) h
      unfold wx1_goes_b2 at h
      refine lv_iload_n hx hb dX1_goes_2 rfl (lv_at hl 2 rfl) ?_
      refine lv_iconst (v := 3) hx hb dX1_goes_3 (by decide) ?_
      refine lv_icmp_ge (tgt := 38) hx hb dX1_goes_4 (by decide) (fun c_13 => ?_) (fun c_13 => ?_)
      · have h := h.1 c_13
        refine lv_iconst (v := 1) hx hb dX1_goes_38 (by decide) ?_
        exact W.zret (v := 1) hx hb hr rfl (fun t ht hW => ⟨⟨1, T, K, rfl, ⟨h, rfl, rfl⟩, kle.rf, rfl, rfl, by rw [ht]; exact hP, va_K.moved hW.alike hK⟩, hS.F ht⟩) hS.2.2 dX1_goes_39
      · have h := h.2 c_13
        refine lv_aload_n hx hb dX1_goes_7 rfl (lv_at hl 0 rfl) ?_
        refine x_cV (k := p1) (As := []) (rest := []) ⟨hx, hb, hml, hown, hts⟩ (mx6_isZero l G b hole p1 K T hk_p1 _ h) (cwV 0 hts (lw_V q785 q786 q787 q126 q788) rfl rfl rfl cwx_X6_isZero ⟨Nat.le_of_ble_eq_true rfl, Nat.le_of_ble_eq_true rfl⟩) (x_recv (CC := RX6) (ci := 5) hK hP hk_p1 (by decide) (by decide) rfl (xE_2 hk_p1)) hK hV hb0 hP hS rfl hl.1 rfl (Nat.le_of_ble_eq_true rfl) dX1_goes_8 ⟨by first | exact Nat.zero_le _ | (show _ + _ ≤ Z - kc K0; omega), by first | exact Nat.zero_le _ | (show _ + _ ≤ Y - ks K0; omega)⟩ (fun r_2 T1 K1 H locs h hle1 hc1 hs1 hP hS => ?_)
        obtain ⟨h, hTe, hKe⟩ := h
        rw [hTe, hKe] at hP
        refine lv_if_ne (tgt := 32) hx hb dX1_goes_11 (by decide) (fun c_12 => ?_) (fun c_12 => ?_)
        · have h := h.1 c_12
          exact J32 _ _ _ _ h  hP hS (lv_sub hl [0, 1, 2] rfl)
        · have h := h.2 c_12
          refine lv_aload_n hx hb dX1_goes_14 rfl (lv_at hl 0 rfl) ?_
          refine lv_iload_n hx hb dX1_goes_15 rfl (lv_at hl 2 rfl) ?_
          refine x_cV (k := p1) (As := [.int x2]) (rest := []) ⟨hx, hb, hml, hown, hts⟩ (mx6_most l G b hole p1 x2 K T hk_p1 _ h) (cwV 1 hts (lw_V q819 q820 q821 q126 q822) rfl rfl rfl cwx_X6_most ⟨Nat.le_of_ble_eq_true rfl, Nat.le_of_ble_eq_true rfl⟩) (x_recv (CC := RX6) (ci := 5) hK hP hk_p1 (by decide) (by decide) rfl (xE_2 hk_p1)) hK hV hb0 hP hS rfl hl.1 rfl (Nat.le_of_ble_eq_true rfl) dX1_goes_16 ⟨by first | exact Nat.zero_le _ | (show _ + _ ≤ Z - kc K0; omega), by first | exact Nat.zero_le _ | (show _ + _ ≤ Y - ks K0; omega)⟩ (fun r_5 T1 K1 H locs h hle1 hc1 hs1 hP hS => ?_)
          obtain ⟨h, hTe, hKe⟩ := h
          rw [hTe, hKe] at hP
          refine lv_iload_n hx hb dX1_goes_19 rfl (lv_at hl 1 rfl) ?_
          refine lv_iload_n hx hb dX1_goes_20 rfl (lv_at hl 2 rfl) ?_
          refine x_cS (As := [.int p2, .int x2]) (rest := [.int r_5]) ⟨hx, hb, hml, hown, hts⟩ (mx1_exponent l G b hole p2 x2 K T  _ h) (va_cwS 2 hts (lw_S q723 q724 q118 q725) rfl rfl rfl cwx_X1_exponent ⟨Nat.le_of_ble_eq_true rfl, Nat.le_of_ble_eq_true rfl⟩) hK hV hb0 hP hS rfl hl.1 rfl (Nat.le_of_ble_eq_true rfl) dX1_goes_21 ⟨by first | exact Nat.zero_le _ | (show _ + _ ≤ Z - kc K0; omega), by first | exact Nat.zero_le _ | (show _ + _ ≤ Y - ks K0; omega)⟩ (fun r_8 T1 K1 H locs h hle1 hc1 hs1 hP hS => ?_)
          obtain ⟨h, hTe, hKe⟩ := h
          rw [hTe, hKe] at hP
          refine lv_iadd hx hb dX1_goes_24 ?_
          refine lv_bipush (v := 15) hx hb dX1_goes_25 (by decide) ?_
          refine lv_icmp_le (tgt := 32) hx hb dX1_goes_27 (by decide) (fun c_11 => ?_) (fun c_11 => ?_)
          · have h := h.1 c_11
            exact J32 _ _ _ _ h  hP hS (lv_sub hl [0, 1, 2] rfl)
          · have h := h.2 c_11
            refine lv_iconst (v := 0) hx hb dX1_goes_30 (by decide) ?_
            exact W.zret (v := 0) hx hb hr rfl (fun t ht hW => ⟨⟨0, T, K, rfl, ⟨h, rfl, rfl⟩, kle.rf, rfl, rfl, by rw [ht]; exact hP, va_K.moved hW.alike hK⟩, hS.F ht⟩) hS.2.2 dX1_goes_31
  unfold wx1_goes at h
  refine lv_iconst (v := 0) hx hb dX1_goes_0 (by decide) ?_
  refine lv_istore_n (lv' := [(2, .int 0), (0, .ref (b + p1)), (1, .int p2)]) hx hb dX1_goes_1 rfl hl (by decide) rfl (fun ls hl => ?_)
  exact L2 _ _ _ _ h  hP hS (lv_sub hl [1, 2, 0] rfl)
theorem cwx_X1_merges : yX1_merges.cls = RX1 ∧ yX1_merges.cls ≠ "java/lang/invoke/MethodHandle" ∧ yX1_merges.cls ≠ "java/lang/invoke/VarHandle" ∧ (parseMethodDescriptor yX1_merges.desc).map (fun d => d.parameters.length) = some 7 := by decide +kernel
def wx1_merges_j90 (p1 : Nat) (p2 : Nat) (p3 : Nat) (p4 : Int32) (p5 : Nat) (p6 : Int32) (p7 : Int32) (post : Nat → XT → Prop) (R11 : Int32 → Int32 → XT → Prop) (x8 : Int32) (x9 : Int32) (x10 : Int32) (x11 : Int32) (K : XK) (T : XT) : Prop :=
        ((x10 ≤ x11 →
          ((x11 ≤ x10 →
            ∃ j_1 : Nat, j_1 < kl K p2 ∧ x8 = nI j_1 ∧
            ∃ j_2 : Nat, j_2 < kl K p3 ∧ x8 = nI j_2 ∧
            ∃ v_3 : Nat, xr T p5 1 = some v_3 ∧
            ∃ j_4 : Nat, j_4 < kl K v_3 ∧ x9 = nI j_4 ∧
            ¬ (xi T 0 0) = 0 ∧
            wx2_add p1 (xi T p2 j_1) (jrem ((xi T p3 j_2) + ((xi T v_3 j_4) * p6)) (xi T 0 0)) K T (fun T_6 =>
            ∀ x8_8 : Int32, x8_8 = x8 + 1 →
            ∀ x9_9 : Int32, x9_9 = x9 + 1 →
            R11 x8_8 x9_9 T_6)) ∧
           (¬ (x11 ≤ x10) →
            ∃ v_10 : Nat, xr T p5 0 = some v_10 ∧
            ∃ j_11 : Nat, j_11 < kl K v_10 ∧ x9 = nI j_11 ∧
            ∃ v_12 : Nat, xr T p5 1 = some v_12 ∧
            ∃ j_13 : Nat, j_13 < kl K v_12 ∧ x9 = nI j_13 ∧
            ¬ (xi T 0 0) = 0 ∧
            wx2_add p1 ((xi T v_10 j_11) + p7) (jrem ((xi T v_12 j_13) * p6) (xi T 0 0)) K T (fun T_15 =>
            ∀ x9_17 : Int32, x9_17 = x9 + 1 →
            R11 x8 x9_17 T_15)))) ∧
         (¬ (x10 ≤ x11) →
          ∃ j_19 : Nat, j_19 < kl K p2 ∧ x8 = nI j_19 ∧
          ∃ j_20 : Nat, j_20 < kl K p3 ∧ x8 = nI j_20 ∧
          wx2_add p1 (xi T p2 j_19) (xi T p3 j_20) K T (fun T_22 =>
          ∀ x8_24 : Int32, x8_24 = x8 + 1 →
          R11 x8_24 x9 T_22)))
def wx1_merges_j54 (p1 : Nat) (p2 : Nat) (p3 : Nat) (p4 : Int32) (p5 : Nat) (p6 : Int32) (p7 : Int32) (post : Nat → XT → Prop) (R11 : Int32 → Int32 → XT → Prop) (x8 : Int32) (x9 : Int32) (x10 : Int32) (K : XK) (T : XT) : Prop :=
        (((xi T p5 2) ≤ x9 →
          wx1_merges_j90 p1 p2 p3 p4 p5 p6 p7 post R11 x8 x9 x10 (-1) K T) ∧
         (¬ ((xi T p5 2) ≤ x9) →
          ∃ v_26 : Nat, xr T 0 4 = some v_26 ∧
          ∃ v_27 : Nat, xr T p5 0 = some v_27 ∧
          ∃ j_28 : Nat, j_28 < kl K v_27 ∧ x9 = nI j_28 ∧
          wx_key v_26 ((xi T v_27 j_28) + p7) K T (fun r_29 =>
          wx1_merges_j90 p1 p2 p3 p4 p5 p6 p7 post R11 x8 x9 x10 r_29 K T)))
def wx1_merges_j28 (p1 : Nat) (p2 : Nat) (p3 : Nat) (p4 : Int32) (p5 : Nat) (p6 : Int32) (p7 : Int32) (post : Nat → XT → Prop) (R11 : Int32 → Int32 → XT → Prop) (x8 : Int32) (x9 : Int32) (K : XK) (T : XT) : Prop :=
        ((p4 ≤ x8 →
          wx1_merges_j54 p1 p2 p3 p4 p5 p6 p7 post R11 x8 x9 (-1) K T) ∧
         (¬ (p4 ≤ x8) →
          ∃ v_31 : Nat, xr T 0 4 = some v_31 ∧
          ∃ j_32 : Nat, j_32 < kl K p2 ∧ x8 = nI j_32 ∧
          wx_key v_31 (xi T p2 j_32) K T (fun r_33 =>
          wx1_merges_j54 p1 p2 p3 p4 p5 p6 p7 post R11 x8 x9 r_33 K T)))
def wx1_merges_b11 (p1 : Nat) (p2 : Nat) (p3 : Nat) (p4 : Int32) (p5 : Nat) (p6 : Int32) (p7 : Int32) (post : Nat → XT → Prop) (R11 : Int32 → Int32 → XT → Prop)  (x8 : Int32) (x9 : Int32) (K : XK) (T : XT) : Prop :=
      ((x8 < p4 →
        wx1_merges_j28 p1 p2 p3 p4 p5 p6 p7 post R11 x8 x9 K T) ∧
       (¬ (x8 < p4) →
        (((xi T p5 2) ≤ x9 →
          post p1 T) ∧
         (¬ ((xi T p5 2) ≤ x9) →
          wx1_merges_j28 p1 p2 p3 p4 p5 p6 p7 post R11 x8 x9 K T))))
def wx1_merges_l11 (p1 : Nat) (p2 : Nat) (p3 : Nat) (p4 : Int32) (p5 : Nat) (p6 : Int32) (p7 : Int32) (post : Nat → XT → Prop)  (x8 : Int32) (x9 : Int32) (K : XK) (T : XT) : Prop := wLoop (fun (R : ((Int32) × (Int32) × (XT)) → Prop) (v : (Int32) × (Int32) × (XT)) => wx1_merges_b11 p1 p2 p3 p4 p5 p6 p7 post (fun x8 x9 T => R (x8, x9, T))  v.1 v.2.1 K v.2.2) (x8, x9, T)
def wx1_merges (p1 : Nat) (p2 : Nat) (p3 : Nat) (p4 : Int32) (p5 : Nat) (p6 : Int32) (p7 : Int32) (K : XK) (T : XT) (post : Nat → XT → Prop) : Prop :=
  wx2_begins p1 K T (fun r_37 T_38 =>
  wx1_merges_l11 p1 p2 p3 p4 p5 p6 p7 post 0 0 K T_38)
set_option maxHeartbeats 4000000 in
theorem mx1_merges (l : Launch) (G : XG) (b : Nat) (hole : Nat → Prop) (p1 : Nat) (p2 : Nat) (p3 : Nat) (p4 : Int32) (p5 : Nat) (p6 : Int32) (p7 : Int32) (K : XK) (T : XT) (hk_p1 : kd K p1 = 9) (hk_p2 : kd K p2 = 1) (hk_p3 : kd K p3 = 1) (hk_p5 : kd K p5 = 2) (post : Nat → XT → Prop) (h : wx1_merges p1 p2 p3 p4 p5 p6 p7 K T post) : Met l yX1_merges (ws_ yX1_merges cX1_merges 12 (some (.object "TermDesk$Row"))) ({ frames := 4, cells := 0, slots := 0, locals := 88 } : Room) (xPc G b hole [.ref (b + 0), .ref (b + p1), .ref (b + p2), .ref (b + p3), .int p4, .ref (b + p5), .int p6, .int p7] K T) (xQ G b hole K 0 0 (ρ := Nat) (eR b) (fun r T1 K1 => post r T1 ∧ kd K1 r = 9 ∧ K1 = K)) 0 0 (xA b hole) := by
  refine Met.ofW (cc := cX1_merges) (maxL := 12) (ret := (some (.object "TermDesk$Row"))) (by decide) rfl ?_
  intro p e s m args below meth c s₁ B hml hv
  obtain ⟨rfl, hP, hK, hV⟩ := hv
  have hx := B.exec
  have hb := B.bytes
  have hr := B.returns
  have hts := atoms_spec (ws := ws_ yX1_merges cX1_merges 12 (some (.object "TermDesk$Row"))) B.pre
  have hts : ∀ w ∈ lw_all, w.before _ s = true := fun w h => hts w (List.mem_cons_of_mem _ h)
  have hown : s.vm.findClass RX1 = some m.cls := findClass_of_methodNamed B.named
  have hlocks := B.notSynchronized
  have hb0 : b ≤ s.heap.size := by rw [hP.2.2.2]; exact Nat.le_add_right _ _
  have hS : va_S (xA b hole) s.heap s.heap [] := va_S.rf
  have hl := lv_entry ([.ref (b + 0), .ref (b + p1), .ref (b + p2), .ref (b + p3), .int p4, .ref (b + p5), .int p6, .int p7]) (n := 12) (Nat.le_of_ble_eq_true rfl)
  rw [lg_entry_eq]
  generalize (lg_sl ([.ref (b + 0), .ref (b + p1), .ref (b + p2), .ref (b + p3), .int p4, .ref (b + p5), .int p6, .int p7]) ++ List.replicate (12 - (lg_sl ([.ref (b + 0), .ref (b + p1), .ref (b + p2), .ref (b + p3), .int p4, .ref (b + p5), .int p6, .int p7])).length) Slot.unset).toArray = ls at hl ⊢
  have hl : lv_has ls 12 [(0, .ref (b + 0)), (1, .ref (b + p1)), (2, .ref (b + p2)), (3, .ref (b + p3)), (4, .int p4), (5, .ref (b + p5)), (6, .int p6), (7, .int p7)] := hl
  have L11 : ∀ (x8 : Int32) (x9 : Int32) (T : XT) (H : Heap) (locs : List Loc) (ls : Array Slot), wx1_merges_l11 p1 p2 p3 p4 p5 p6 p7 post  x8 x9 K T → xW G b hole K T H → va_S (xA b hole) s.heap H locs → lv_has ls 12 [(0, .ref (b + 0)), (1, .ref (b + p1)), (2, .ref (b + p2)), (3, .ref (b + p3)), (4, .int p4), (5, .ref (b + p5)), (6, .int p6), (7, .int p7), (8, .int x8), (9, .int x9)] → W p l e (headSpec (ws_ yX1_merges cX1_merges 12 (some (.object "TermDesk$Row"))) ({ frames := 4, cells := 0, slots := 0, locals := 88 } : Room)).room s m ([.ref (b + 0), .ref (b + p1), .ref (b + p2), .ref (b + p3), .int p4, .ref (b + p5), .int p6, .int p7] : List Value).toArray below meth c H locs 0 0 (MQ below (xQ G b hole K 0 0 (ρ := Nat) (eR b) (fun r T1 K1 => post r T1 ∧ kd K1 r = 9 ∧ K1 = K)) ([.ref (b + 0), .ref (b + p1), .ref (b + p2), .ref (b + p3), .int p4, .ref (b + p5), .int p6, .int p7] : List Value).toArray s 0 0 (xA b hole)) (F0 m 11 ls []) := by
    intro x8 x9 T H locs ls h hP hS hl
    obtain ⟨I11, n11, hI, hstep11⟩ := h
    induction n11 using Nat.strongRecOn generalizing x8 x9 T H locs ls with
    | ind n11 ih11 =>
      have h : wx1_merges_b11 p1 p2 p3 p4 p5 p6 p7 post (fun x8 x9 T => ∃ mm, mm < n11 ∧ I11 mm (x8, x9, T))  x8 x9 K T := hstep11 n11 _ hI
      clear hI
      have J90 : ∀ (x8 : Int32) (x9 : Int32) (x10 : Int32) (x11 : Int32) (T : XT) (H : Heap) (locs : List Loc) (ls : Array Slot), wx1_merges_j90 p1 p2 p3 p4 p5 p6 p7 post (fun x8 x9 T => ∃ mm, mm < n11 ∧ I11 mm (x8, x9, T)) x8 x9 x10 x11 K T → xW G b hole K T H → va_S (xA b hole) s.heap H locs → lv_has ls 12 [(0, .ref (b + 0)), (1, .ref (b + p1)), (2, .ref (b + p2)), (3, .ref (b + p3)), (4, .int p4), (5, .ref (b + p5)), (6, .int p6), (7, .int p7), (8, .int x8), (9, .int x9), (10, .int x10), (11, .int x11)] → W p l e (headSpec (ws_ yX1_merges cX1_merges 12 (some (.object "TermDesk$Row"))) ({ frames := 4, cells := 0, slots := 0, locals := 88 } : Room)).room s m ([.ref (b + 0), .ref (b + p1), .ref (b + p2), .ref (b + p3), .int p4, .ref (b + p5), .int p6, .int p7] : List Value).toArray below meth c H locs 0 0 (MQ below (xQ G b hole K 0 0 (ρ := Nat) (eR b) (fun r T1 K1 => post r T1 ∧ kd K1 r = 9 ∧ K1 = K)) ([.ref (b + 0), .ref (b + p1), .ref (b + p2), .ref (b + p3), .int p4, .ref (b + p5), .int p6, .int p7] : List Value).toArray s 0 0 (xA b hole)) (F0 m 90 ls []) := by
        intro x8 x9 x10 x11 T H locs ls h hP hS hl
        unfold wx1_merges_j90 at h
        refine lv_iload hx hb dX1_merges_90 (lv_at hl 10 rfl) ?_
        refine lv_iload hx hb dX1_merges_92 (lv_at hl 11 rfl) ?_
        refine lv_icmp_le (tgt := 115) hx hb dX1_merges_94 (by decide) (fun c_25 => ?_) (fun c_25 => ?_)
        · have h := h.1 c_25
          refine lv_iload hx hb dX1_merges_115 (lv_at hl 11 rfl) ?_
          refine lv_iload hx hb dX1_merges_117 (lv_at hl 10 rfl) ?_
          refine lv_icmp_le (tgt := 159) hx hb dX1_merges_119 (by decide) (fun c_18 => ?_) (fun c_18 => ?_)
          · have h := h.1 c_18
            refine lv_aload_n hx hb dX1_merges_159 rfl (lv_at hl 1 rfl) ?_
            refine lv_aload_n hx hb dX1_merges_160 rfl (lv_at hl 2 rfl) ?_
            refine lv_iload hx hb dX1_merges_161 (lv_at hl 8 rfl) ?_
            obtain ⟨j_1, hj_1, ej_1, h⟩ := h
            refine x_iald hx hb hK hP hk_p2 ej_1 hj_1 dX1_merges_163 ?_
            refine lv_aload_n hx hb dX1_merges_164 rfl (lv_at hl 3 rfl) ?_
            refine lv_iload hx hb dX1_merges_165 (lv_at hl 8 rfl) ?_
            obtain ⟨j_2, hj_2, ej_2, h⟩ := h
            refine x_iald hx hb hK hP hk_p3 ej_2 hj_2 dX1_merges_167 ?_
            refine lv_aload hx hb dX1_merges_168 (lv_at hl 5 rfl) ?_
            obtain ⟨v_3, ev_3, h⟩ := h
            refine x_get (CC := RX6) (TT := TX6) (N := 3) (ci := 5) (v := rfv b (xr T p5 1)) hx hb hts in_X6 hown hK hP hk_p5 (by decide) (by decide) rfl (xE_2 hk_p5) 1 (by decide) q369 rfl rfl dX1_merges_170 ?_
            refine x_some ev_3 ?_
            have hk_v_3 : kd K v_3 = 1 := hP.ty hk_p5 (by decide) ev_3
            refine lv_iload hx hb dX1_merges_173 (lv_at hl 9 rfl) ?_
            obtain ⟨j_4, hj_4, ej_4, h⟩ := h
            refine x_iald hx hb hK hP hk_v_3 ej_4 hj_4 dX1_merges_175 ?_
            refine lv_iload hx hb dX1_merges_176 (lv_at hl 6 rfl) ?_
            refine lv_imul hx hb dX1_merges_178 ?_
            refine lv_iadd hx hb dX1_merges_179 ?_
            refine lv_aload_n hx hb dX1_merges_180 rfl (lv_at hl 0 rfl) ?_
            refine x_get (CC := RX1) (TT := TX1) (N := 26) (ci := 0) (v := .int (xi T 0 0)) hx hb hts in_X1 hown hK hP (xs_0 hP) (by decide) (by decide) rfl (xE_8 (xs_0 hP)) 0 (by decide) q384 rfl rfl dX1_merges_181 ?_
            obtain ⟨hne, h⟩ := h
            refine m_irem hx hb dX1_merges_184 hne ?_
            refine x_cV (k := p1) (As := [.int (xi T p2 j_1), .int (jrem ((xi T p3 j_2) + ((xi T v_3 j_4) * p6)) (xi T 0 0))]) (rest := []) ⟨hx, hb, hml, hown, hts⟩ (mx2_add l G b hole p1 (xi T p2 j_1) (jrem ((xi T p3 j_2) + ((xi T v_3 j_4) * p6)) (xi T 0 0)) K T hk_p1 _ h) (cwV 2 hts (lw_V q938 q909 q910 q119 q911) rfl rfl rfl cwx_X2_add ⟨Nat.le_of_ble_eq_true rfl, Nat.le_of_ble_eq_true rfl⟩) (x_recv (CC := RX2) (ci := 1) hK hP hk_p1 (by decide) (by decide) rfl (xE_9 hk_p1)) hK hV hb0 hP hS rfl hl.1 rfl (Nat.le_of_ble_eq_true rfl) dX1_merges_185 ⟨by first | exact Nat.zero_le _ | (show _ + _ ≤ Z - kc K0; omega), by first | exact Nat.zero_le _ | (show _ + _ ≤ Y - ks K0; omega)⟩ (fun r_5 T1 K1 H locs h hle1 hc1 hs1 hP hS => ?_)
            obtain ⟨h, hKe⟩ := h
            rw [hKe] at hP
            generalize T1 = T_6 at h hP
            obtain ⟨x8_8, ex8_8⟩ : ∃ y : Int32, y = x8 + 1 := ⟨_, rfl⟩
            have h := h x8_8 ex8_8
            refine lv_iinc (v := x8_8) (lv' := [(8, .int x8_8), (0, .ref (b + 0)), (1, .ref (b + p1)), (2, .ref (b + p2)), (3, .ref (b + p3)), (4, .int p4), (5, .ref (b + p5)), (6, .int p6), (7, .int p7), (9, .int x9), (10, .int x10), (11, .int x11)]) hx hb dX1_merges_188 hl (k := 8) rfl (by rw [ex8_8]; rfl) (by decide) rfl (fun ls hl => ?_)
            obtain ⟨x9_9, ex9_9⟩ : ∃ y : Int32, y = x9 + 1 := ⟨_, rfl⟩
            have h := h x9_9 ex9_9
            refine lv_iinc (v := x9_9) (lv' := [(9, .int x9_9), (8, .int x8_8), (0, .ref (b + 0)), (1, .ref (b + p1)), (2, .ref (b + p2)), (3, .ref (b + p3)), (4, .int p4), (5, .ref (b + p5)), (6, .int p6), (7, .int p7), (10, .int x10), (11, .int x11)]) hx hb dX1_merges_191 hl (k := 9) rfl (by rw [ex9_9]; rfl) (by decide) rfl (fun ls hl => ?_)
            refine lv_goto (tgt := 11) hx hb dX1_merges_194 (by decide) ?_
            obtain ⟨mm, hmm, h⟩ := h
            exact ih11 mm hmm _ _ _ _ _ _  hP hS (lv_sub hl [2, 3, 4, 5, 6, 7, 8, 9, 1, 0] rfl) h
          · have h := h.2 c_18
            refine lv_aload_n hx hb dX1_merges_122 rfl (lv_at hl 1 rfl) ?_
            refine lv_aload hx hb dX1_merges_123 (lv_at hl 5 rfl) ?_
            obtain ⟨v_10, ev_10, h⟩ := h
            refine x_get (CC := RX6) (TT := TX6) (N := 3) (ci := 5) (v := rfv b (xr T p5 0)) hx hb hts in_X6 hown hK hP hk_p5 (by decide) (by decide) rfl (xE_2 hk_p5) 0 (by decide) q366 rfl rfl dX1_merges_125 ?_
            refine x_some ev_10 ?_
            have hk_v_10 : kd K v_10 = 1 := hP.ty hk_p5 (by decide) ev_10
            refine lv_iload hx hb dX1_merges_128 (lv_at hl 9 rfl) ?_
            obtain ⟨j_11, hj_11, ej_11, h⟩ := h
            refine x_iald hx hb hK hP hk_v_10 ej_11 hj_11 dX1_merges_130 ?_
            refine lv_iload hx hb dX1_merges_131 (lv_at hl 7 rfl) ?_
            refine lv_iadd hx hb dX1_merges_133 ?_
            refine lv_aload hx hb dX1_merges_134 (lv_at hl 5 rfl) ?_
            obtain ⟨v_12, ev_12, h⟩ := h
            refine x_get (CC := RX6) (TT := TX6) (N := 3) (ci := 5) (v := rfv b (xr T p5 1)) hx hb hts in_X6 hown hK hP hk_p5 (by decide) (by decide) rfl (xE_2 hk_p5) 1 (by decide) q369 rfl rfl dX1_merges_136 ?_
            refine x_some ev_12 ?_
            have hk_v_12 : kd K v_12 = 1 := hP.ty hk_p5 (by decide) ev_12
            refine lv_iload hx hb dX1_merges_139 (lv_at hl 9 rfl) ?_
            obtain ⟨j_13, hj_13, ej_13, h⟩ := h
            refine x_iald hx hb hK hP hk_v_12 ej_13 hj_13 dX1_merges_141 ?_
            refine lv_iload hx hb dX1_merges_142 (lv_at hl 6 rfl) ?_
            refine lv_imul hx hb dX1_merges_144 ?_
            refine lv_aload_n hx hb dX1_merges_145 rfl (lv_at hl 0 rfl) ?_
            refine x_get (CC := RX1) (TT := TX1) (N := 26) (ci := 0) (v := .int (xi T 0 0)) hx hb hts in_X1 hown hK hP (xs_0 hP) (by decide) (by decide) rfl (xE_8 (xs_0 hP)) 0 (by decide) q384 rfl rfl dX1_merges_146 ?_
            obtain ⟨hne, h⟩ := h
            refine m_irem hx hb dX1_merges_149 hne ?_
            refine x_cV (k := p1) (As := [.int ((xi T v_10 j_11) + p7), .int (jrem ((xi T v_12 j_13) * p6) (xi T 0 0))]) (rest := []) ⟨hx, hb, hml, hown, hts⟩ (mx2_add l G b hole p1 ((xi T v_10 j_11) + p7) (jrem ((xi T v_12 j_13) * p6) (xi T 0 0)) K T hk_p1 _ h) (cwV 2 hts (lw_V q938 q909 q910 q119 q911) rfl rfl rfl cwx_X2_add ⟨Nat.le_of_ble_eq_true rfl, Nat.le_of_ble_eq_true rfl⟩) (x_recv (CC := RX2) (ci := 1) hK hP hk_p1 (by decide) (by decide) rfl (xE_9 hk_p1)) hK hV hb0 hP hS rfl hl.1 rfl (Nat.le_of_ble_eq_true rfl) dX1_merges_150 ⟨by first | exact Nat.zero_le _ | (show _ + _ ≤ Z - kc K0; omega), by first | exact Nat.zero_le _ | (show _ + _ ≤ Y - ks K0; omega)⟩ (fun r_14 T1 K1 H locs h hle1 hc1 hs1 hP hS => ?_)
            obtain ⟨h, hKe⟩ := h
            rw [hKe] at hP
            generalize T1 = T_15 at h hP
            obtain ⟨x9_17, ex9_17⟩ : ∃ y : Int32, y = x9 + 1 := ⟨_, rfl⟩
            have h := h x9_17 ex9_17
            refine lv_iinc (v := x9_17) (lv' := [(9, .int x9_17), (0, .ref (b + 0)), (1, .ref (b + p1)), (2, .ref (b + p2)), (3, .ref (b + p3)), (4, .int p4), (5, .ref (b + p5)), (6, .int p6), (7, .int p7), (8, .int x8), (10, .int x10), (11, .int x11)]) hx hb dX1_merges_153 hl (k := 9) rfl (by rw [ex9_17]; rfl) (by decide) rfl (fun ls hl => ?_)
            refine lv_goto (tgt := 194) hx hb dX1_merges_156 (by decide) ?_
            refine lv_goto (tgt := 11) hx hb dX1_merges_194 (by decide) ?_
            obtain ⟨mm, hmm, h⟩ := h
            exact ih11 mm hmm _ _ _ _ _ _  hP hS (lv_sub hl [1, 2, 3, 4, 5, 6, 7, 8, 9, 0] rfl) h
        · have h := h.2 c_25
          refine lv_aload_n hx hb dX1_merges_97 rfl (lv_at hl 1 rfl) ?_
          refine lv_aload_n hx hb dX1_merges_98 rfl (lv_at hl 2 rfl) ?_
          refine lv_iload hx hb dX1_merges_99 (lv_at hl 8 rfl) ?_
          obtain ⟨j_19, hj_19, ej_19, h⟩ := h
          refine x_iald hx hb hK hP hk_p2 ej_19 hj_19 dX1_merges_101 ?_
          refine lv_aload_n hx hb dX1_merges_102 rfl (lv_at hl 3 rfl) ?_
          refine lv_iload hx hb dX1_merges_103 (lv_at hl 8 rfl) ?_
          obtain ⟨j_20, hj_20, ej_20, h⟩ := h
          refine x_iald hx hb hK hP hk_p3 ej_20 hj_20 dX1_merges_105 ?_
          refine x_cV (k := p1) (As := [.int (xi T p2 j_19), .int (xi T p3 j_20)]) (rest := []) ⟨hx, hb, hml, hown, hts⟩ (mx2_add l G b hole p1 (xi T p2 j_19) (xi T p3 j_20) K T hk_p1 _ h) (cwV 2 hts (lw_V q938 q909 q910 q119 q911) rfl rfl rfl cwx_X2_add ⟨Nat.le_of_ble_eq_true rfl, Nat.le_of_ble_eq_true rfl⟩) (x_recv (CC := RX2) (ci := 1) hK hP hk_p1 (by decide) (by decide) rfl (xE_9 hk_p1)) hK hV hb0 hP hS rfl hl.1 rfl (Nat.le_of_ble_eq_true rfl) dX1_merges_106 ⟨by first | exact Nat.zero_le _ | (show _ + _ ≤ Z - kc K0; omega), by first | exact Nat.zero_le _ | (show _ + _ ≤ Y - ks K0; omega)⟩ (fun r_21 T1 K1 H locs h hle1 hc1 hs1 hP hS => ?_)
          obtain ⟨h, hKe⟩ := h
          rw [hKe] at hP
          generalize T1 = T_22 at h hP
          obtain ⟨x8_24, ex8_24⟩ : ∃ y : Int32, y = x8 + 1 := ⟨_, rfl⟩
          have h := h x8_24 ex8_24
          refine lv_iinc (v := x8_24) (lv' := [(8, .int x8_24), (0, .ref (b + 0)), (1, .ref (b + p1)), (2, .ref (b + p2)), (3, .ref (b + p3)), (4, .int p4), (5, .ref (b + p5)), (6, .int p6), (7, .int p7), (9, .int x9), (10, .int x10), (11, .int x11)]) hx hb dX1_merges_109 hl (k := 8) rfl (by rw [ex8_24]; rfl) (by decide) rfl (fun ls hl => ?_)
          refine lv_goto (tgt := 194) hx hb dX1_merges_112 (by decide) ?_
          refine lv_goto (tgt := 11) hx hb dX1_merges_194 (by decide) ?_
          obtain ⟨mm, hmm, h⟩ := h
          exact ih11 mm hmm _ _ _ _ _ _  hP hS (lv_sub hl [1, 2, 3, 4, 5, 6, 7, 8, 0, 9] rfl) h
      have J54 : ∀ (x8 : Int32) (x9 : Int32) (x10 : Int32) (T : XT) (H : Heap) (locs : List Loc) (ls : Array Slot), wx1_merges_j54 p1 p2 p3 p4 p5 p6 p7 post (fun x8 x9 T => ∃ mm, mm < n11 ∧ I11 mm (x8, x9, T)) x8 x9 x10 K T → xW G b hole K T H → va_S (xA b hole) s.heap H locs → lv_has ls 12 [(0, .ref (b + 0)), (1, .ref (b + p1)), (2, .ref (b + p2)), (3, .ref (b + p3)), (4, .int p4), (5, .ref (b + p5)), (6, .int p6), (7, .int p7), (8, .int x8), (9, .int x9), (10, .int x10)] → W p l e (headSpec (ws_ yX1_merges cX1_merges 12 (some (.object "TermDesk$Row"))) ({ frames := 4, cells := 0, slots := 0, locals := 88 } : Room)).room s m ([.ref (b + 0), .ref (b + p1), .ref (b + p2), .ref (b + p3), .int p4, .ref (b + p5), .int p6, .int p7] : List Value).toArray below meth c H locs 0 0 (MQ below (xQ G b hole K 0 0 (ρ := Nat) (eR b) (fun r T1 K1 => post r T1 ∧ kd K1 r = 9 ∧ K1 = K)) ([.ref (b + 0), .ref (b + p1), .ref (b + p2), .ref (b + p3), .int p4, .ref (b + p5), .int p6, .int p7] : List Value).toArray s 0 0 (xA b hole)) (F0 m 54 ls []) := by
        intro x8 x9 x10 T H locs ls h hP hS hl
        unfold wx1_merges_j54 at h
        refine lv_iload hx hb dX1_merges_54 (lv_at hl 9 rfl) ?_
        refine lv_aload hx hb dX1_merges_56 (lv_at hl 5 rfl) ?_
        refine x_get (CC := RX6) (TT := TX6) (N := 3) (ci := 5) (v := .int (xi T p5 2)) hx hb hts in_X6 hown hK hP hk_p5 (by decide) (by decide) rfl (xE_2 hk_p5) 2 (by decide) q372 rfl rfl dX1_merges_58 ?_
        refine lv_icmp_ge (tgt := 87) hx hb dX1_merges_61 (by decide) (fun c_30 => ?_) (fun c_30 => ?_)
        · have h := h.1 c_30
          refine lv_iconst (v := (-1)) hx hb dX1_merges_87 (by decide) ?_
          refine lv_istore (lv' := [(11, .int (-1)), (0, .ref (b + 0)), (1, .ref (b + p1)), (2, .ref (b + p2)), (3, .ref (b + p3)), (4, .int p4), (5, .ref (b + p5)), (6, .int p6), (7, .int p7), (8, .int x8), (9, .int x9), (10, .int x10)]) hx hb dX1_merges_88 hl (by decide) rfl (fun ls hl => ?_)
          exact J90 _ _ _ _ _ _ _ _ h  hP hS (lv_sub hl [1, 2, 3, 4, 5, 6, 7, 8, 9, 10, 11, 0] rfl)
        · have h := h.2 c_30
          refine lv_aload_n hx hb dX1_merges_64 rfl (lv_at hl 0 rfl) ?_
          obtain ⟨v_26, ev_26, h⟩ := h
          refine x_get (CC := RX1) (TT := TX1) (N := 26) (ci := 0) (v := rfv b (xr T 0 4)) hx hb hts in_X1 hown hK hP (xs_0 hP) (by decide) (by decide) rfl (xE_8 (xs_0 hP)) 4 (by decide) q388 rfl rfl dX1_merges_65 ?_
          refine x_some ev_26 ?_
          have hk_v_26 : kd K v_26 = 16 := hP.ty (xs_0 hP) (by decide) ev_26
          refine lv_aload hx hb dX1_merges_68 (lv_at hl 5 rfl) ?_
          obtain ⟨v_27, ev_27, h⟩ := h
          refine x_get (CC := RX6) (TT := TX6) (N := 3) (ci := 5) (v := rfv b (xr T p5 0)) hx hb hts in_X6 hown hK hP hk_p5 (by decide) (by decide) rfl (xE_2 hk_p5) 0 (by decide) q366 rfl rfl dX1_merges_70 ?_
          refine x_some ev_27 ?_
          have hk_v_27 : kd K v_27 = 1 := hP.ty hk_p5 (by decide) ev_27
          refine lv_iload hx hb dX1_merges_73 (lv_at hl 9 rfl) ?_
          obtain ⟨j_28, hj_28, ej_28, h⟩ := h
          refine x_iald hx hb hK hP hk_v_27 ej_28 hj_28 dX1_merges_75 ?_
          refine lv_iload hx hb dX1_merges_76 (lv_at hl 7 rfl) ?_
          refine lv_iadd hx hb dX1_merges_78 ?_
          refine x_keyA (q := v_26) (rest := []) hx hb (hml.trans hl.1.symm) hts hown q753 hK hV hb0 hP hS hk_v_26 h (Nat.le_of_ble_eq_true rfl) (Nat.le_of_ble_eq_true rfl) (by first | exact Nat.zero_le _ | (show _ ≤ Z - kc K0; omega)) (by first | exact Nat.zero_le _ | (show _ ≤ Y - ks K0; omega)) dX1_merges_79 (fun r_29 H locs h hP hS => ?_)
          refine lv_goto (tgt := 88) hx hb dX1_merges_84 (by decide) ?_
          refine lv_istore (lv' := [(11, .int r_29), (0, .ref (b + 0)), (1, .ref (b + p1)), (2, .ref (b + p2)), (3, .ref (b + p3)), (4, .int p4), (5, .ref (b + p5)), (6, .int p6), (7, .int p7), (8, .int x8), (9, .int x9), (10, .int x10)]) hx hb dX1_merges_88 hl (by decide) rfl (fun ls hl => ?_)
          exact J90 _ _ _ _ _ _ _ _ h  hP hS (lv_sub hl [1, 2, 3, 4, 5, 6, 7, 8, 9, 10, 11, 0] rfl)
      have J28 : ∀ (x8 : Int32) (x9 : Int32) (T : XT) (H : Heap) (locs : List Loc) (ls : Array Slot), wx1_merges_j28 p1 p2 p3 p4 p5 p6 p7 post (fun x8 x9 T => ∃ mm, mm < n11 ∧ I11 mm (x8, x9, T)) x8 x9 K T → xW G b hole K T H → va_S (xA b hole) s.heap H locs → lv_has ls 12 [(0, .ref (b + 0)), (1, .ref (b + p1)), (2, .ref (b + p2)), (3, .ref (b + p3)), (4, .int p4), (5, .ref (b + p5)), (6, .int p6), (7, .int p7), (8, .int x8), (9, .int x9)] → W p l e (headSpec (ws_ yX1_merges cX1_merges 12 (some (.object "TermDesk$Row"))) ({ frames := 4, cells := 0, slots := 0, locals := 88 } : Room)).room s m ([.ref (b + 0), .ref (b + p1), .ref (b + p2), .ref (b + p3), .int p4, .ref (b + p5), .int p6, .int p7] : List Value).toArray below meth c H locs 0 0 (MQ below (xQ G b hole K 0 0 (ρ := Nat) (eR b) (fun r T1 K1 => post r T1 ∧ kd K1 r = 9 ∧ K1 = K)) ([.ref (b + 0), .ref (b + p1), .ref (b + p2), .ref (b + p3), .int p4, .ref (b + p5), .int p6, .int p7] : List Value).toArray s 0 0 (xA b hole)) (F0 m 28 ls []) := by
        intro x8 x9 T H locs ls h hP hS hl
        unfold wx1_merges_j28 at h
        refine lv_iload hx hb dX1_merges_28 (lv_at hl 8 rfl) ?_
        refine lv_iload hx hb dX1_merges_30 (lv_at hl 4 rfl) ?_
        refine lv_icmp_ge (tgt := 51) hx hb dX1_merges_32 (by decide) (fun c_34 => ?_) (fun c_34 => ?_)
        · have h := h.1 c_34
          refine lv_iconst (v := (-1)) hx hb dX1_merges_51 (by decide) ?_
          refine lv_istore (lv' := [(10, .int (-1)), (0, .ref (b + 0)), (1, .ref (b + p1)), (2, .ref (b + p2)), (3, .ref (b + p3)), (4, .int p4), (5, .ref (b + p5)), (6, .int p6), (7, .int p7), (8, .int x8), (9, .int x9)]) hx hb dX1_merges_52 hl (by decide) rfl (fun ls hl => ?_)
          exact J54 _ _ _ _ _ _ _ h  hP hS (lv_sub hl [1, 2, 3, 4, 5, 6, 7, 8, 9, 10, 0] rfl)
        · have h := h.2 c_34
          refine lv_aload_n hx hb dX1_merges_35 rfl (lv_at hl 0 rfl) ?_
          obtain ⟨v_31, ev_31, h⟩ := h
          refine x_get (CC := RX1) (TT := TX1) (N := 26) (ci := 0) (v := rfv b (xr T 0 4)) hx hb hts in_X1 hown hK hP (xs_0 hP) (by decide) (by decide) rfl (xE_8 (xs_0 hP)) 4 (by decide) q388 rfl rfl dX1_merges_36 ?_
          refine x_some ev_31 ?_
          have hk_v_31 : kd K v_31 = 16 := hP.ty (xs_0 hP) (by decide) ev_31
          refine lv_aload_n hx hb dX1_merges_39 rfl (lv_at hl 2 rfl) ?_
          refine lv_iload hx hb dX1_merges_40 (lv_at hl 8 rfl) ?_
          obtain ⟨j_32, hj_32, ej_32, h⟩ := h
          refine x_iald hx hb hK hP hk_p2 ej_32 hj_32 dX1_merges_42 ?_
          refine x_keyA (q := v_31) (rest := []) hx hb (hml.trans hl.1.symm) hts hown q753 hK hV hb0 hP hS hk_v_31 h (Nat.le_of_ble_eq_true rfl) (Nat.le_of_ble_eq_true rfl) (by first | exact Nat.zero_le _ | (show _ ≤ Z - kc K0; omega)) (by first | exact Nat.zero_le _ | (show _ ≤ Y - ks K0; omega)) dX1_merges_43 (fun r_33 H locs h hP hS => ?_)
          refine lv_goto (tgt := 52) hx hb dX1_merges_48 (by decide) ?_
          refine lv_istore (lv' := [(10, .int r_33), (0, .ref (b + 0)), (1, .ref (b + p1)), (2, .ref (b + p2)), (3, .ref (b + p3)), (4, .int p4), (5, .ref (b + p5)), (6, .int p6), (7, .int p7), (8, .int x8), (9, .int x9)]) hx hb dX1_merges_52 hl (by decide) rfl (fun ls hl => ?_)
          exact J54 _ _ _ _ _ _ _ h  hP hS (lv_sub hl [1, 2, 3, 4, 5, 6, 7, 8, 9, 10, 0] rfl)
      unfold wx1_merges_b11 at h
      refine lv_iload hx hb dX1_merges_11 (lv_at hl 8 rfl) ?_
      refine lv_iload hx hb dX1_merges_13 (lv_at hl 4 rfl) ?_
      refine lv_icmp_lt (tgt := 28) hx hb dX1_merges_15 (by decide) (fun c_36 => ?_) (fun c_36 => ?_)
      · have h := h.1 c_36
        exact J28 _ _ _ _ _ _ h  hP hS (lv_sub hl [0, 1, 2, 3, 4, 5, 6, 7, 8, 9] rfl)
      · have h := h.2 c_36
        refine lv_iload hx hb dX1_merges_18 (lv_at hl 9 rfl) ?_
        refine lv_aload hx hb dX1_merges_20 (lv_at hl 5 rfl) ?_
        refine x_get (CC := RX6) (TT := TX6) (N := 3) (ci := 5) (v := .int (xi T p5 2)) hx hb hts in_X6 hown hK hP hk_p5 (by decide) (by decide) rfl (xE_2 hk_p5) 2 (by decide) q372 rfl rfl dX1_merges_22 ?_
        refine lv_icmp_ge (tgt := 197) hx hb dX1_merges_25 (by decide) (fun c_35 => ?_) (fun c_35 => ?_)
        · have h := h.1 c_35
          refine lv_aload_n hx hb dX1_merges_197 rfl (lv_at hl 1 rfl) ?_
          exact W.aret (v := .ref (b + p1)) hx hb hr (Or.inl ⟨_, rfl⟩) (Or.inr ⟨_, rfl⟩) (fun t ht hW => ⟨⟨p1, T, K, rfl, ⟨h, hk_p1, rfl⟩, kle.rf, rfl, rfl, by rw [ht]; exact hP, va_K.moved hW.alike hK⟩, hS.F ht⟩) hS.2.2 dX1_merges_198
        · have h := h.2 c_35
          exact J28 _ _ _ _ _ _ h  hP hS (lv_sub hl [0, 1, 2, 3, 4, 5, 6, 7, 8, 9] rfl)
  unfold wx1_merges at h
  refine lv_aload_n hx hb dX1_merges_0 rfl (lv_at hl 1 rfl) ?_
  refine x_cV (k := p1) (As := []) (rest := []) ⟨hx, hb, hml, hown, hts⟩ (mx2_begins l G b hole p1 K T hk_p1 _ h) (cwV 0 hts (lw_V q937 q905 q906 q119 q907) rfl rfl rfl cwx_X2_begins ⟨Nat.le_of_ble_eq_true rfl, Nat.le_of_ble_eq_true rfl⟩) (x_recv (CC := RX2) (ci := 1) hK hP hk_p1 (by decide) (by decide) rfl (xE_9 hk_p1)) hK hV hb0 hP hS rfl hl.1 rfl (Nat.le_of_ble_eq_true rfl) dX1_merges_1 ⟨by first | exact Nat.zero_le _ | (show _ + _ ≤ Z - kc K0; omega), by first | exact Nat.zero_le _ | (show _ + _ ≤ Y - ks K0; omega)⟩ (fun r_37 T1 K1 H locs h hle1 hc1 hs1 hP hS => ?_)
  obtain ⟨h, hk_r_37, hKe⟩ := h
  rw [hKe] at hP
  generalize T1 = T_38 at h hP
  rw [hKe] at hk_r_37
  refine lv_pop hx hb dX1_merges_4 rfl ?_
  refine lv_iconst (v := 0) hx hb dX1_merges_5 (by decide) ?_
  refine lv_istore (lv' := [(8, .int 0), (0, .ref (b + 0)), (1, .ref (b + p1)), (2, .ref (b + p2)), (3, .ref (b + p3)), (4, .int p4), (5, .ref (b + p5)), (6, .int p6), (7, .int p7)]) hx hb dX1_merges_6 hl (by decide) rfl (fun ls hl => ?_)
  refine lv_iconst (v := 0) hx hb dX1_merges_8 (by decide) ?_
  refine lv_istore (lv' := [(9, .int 0), (8, .int 0), (0, .ref (b + 0)), (1, .ref (b + p1)), (2, .ref (b + p2)), (3, .ref (b + p3)), (4, .int p4), (5, .ref (b + p5)), (6, .int p6), (7, .int p7)]) hx hb dX1_merges_9 hl (by decide) rfl (fun ls hl => ?_)
  exact L11 _ _ _ _ _ _ h  hP hS (lv_sub hl [2, 3, 4, 5, 6, 7, 8, 9, 1, 0] rfl)
theorem cwx_X3_step : yX3_step.cls = RX3 ∧ yX3_step.cls ≠ "java/lang/invoke/MethodHandle" ∧ yX3_step.cls ≠ "java/lang/invoke/VarHandle" ∧ (parseMethodDescriptor yX3_step.desc).map (fun d => d.parameters.length) = some 0 := by decide +kernel
def wx3_step_j288  (post : XT → Prop)  (K : XK) (T : XT) : Prop :=
    (((xi T 6 7) = 0 →
      post T) ∧
     (¬ ((xi T 6 7) = 0) →
      ∃ v_1 : Nat, xr T 6 2 = some v_1 ∧
      ∀ T_2 : XT, T_2 = xwi T 6 6 (jmax (xi T 6 6) (xi T v_1 2)) →
      post T_2))
def wx3_step_j192  (post : XT → Prop) (x1 : Int32) (x2 : Int32) (x3 : Int32) (K : XK) (T : XT) : Prop :=
    ((¬ (xi T 6 7) = 0 →
      ∃ v_4 : Nat, xr T 6 2 = some v_4 ∧
      ∃ v_5 : Nat, xr T 6 3 = some v_5 ∧
      ∃ v_6 : Nat, xr T 6 2 = some v_6 ∧
      ∃ v_7 : Nat, xr T 6 2 = some v_7 ∧
      ∃ v_8 : Nat, xr T 6 2 = some v_8 ∧
      ∃ v_9 : Nat, xr T 0 18 = some v_9 ∧
      ∃ j_10 : Nat, j_10 < kl K v_9 ∧ x1 = nI j_10 ∧ ∃ v_11 : Nat, xr T v_9 j_10 = some v_11 ∧
      wx1_merges v_5 (v_6 + 1) (v_7 + 2) (xi T v_8 2) v_11 ((xi T 0 0) - x2) x3 K T (fun r_12 T_13 =>
      ∀ T_15 : XT, T_15 = xwr T_13 6 2 (some r_12) →
      ∀ T_16 : XT, T_16 = xwr T_15 6 3 (some v_4) →
      ∃ v_17 : Nat, xr T_16 6 2 = some v_17 ∧
      ((60 < (xi T_16 v_17 2) →
        ∀ T_18 : XT, T_18 = xwi T_16 6 7 0 →
        wx3_step_j288  post  K T_18) ∧
       (¬ (60 < (xi T_16 v_17 2)) →
        ∀ T_19 : XT, T_19 = xwi T_16 6 7 1 →
        wx3_step_j288  post  K T_19)))) ∧
     ((xi T 6 7) = 0 →
      post T))
def wx3_step  (K : XK) (T : XT) (post : XT → Prop) : Prop :=
  ∀ T_22 : XT, T_22 = xwi T 6 5 ((xi T 6 5) + 1) →
  wx3_divisor  K T_22 (fun r_23 =>
  ((¬ r_23 = (-1) →
    ∃ v_26 : Nat, xr T_22 6 2 = some v_26 ∧
    ∃ j_27 : Nat, j_27 < kl K (v_26 + 2) ∧ 0 = nI j_27 ∧
    ∃ v_28 : Nat, xr T_22 0 18 = some v_28 ∧
    ∃ j_29 : Nat, j_29 < kl K v_28 ∧ r_23 = nI j_29 ∧ ∃ v_30 : Nat, xr T_22 v_28 j_29 = some v_30 ∧
    ∃ v_31 : Nat, xr T_22 v_30 1 = some v_31 ∧
    ∃ j_32 : Nat, j_32 < kl K v_31 ∧ 0 = nI j_32 ∧
    ∃ j_33 : Nat, j_33 < 98 ∧ (xi T_22 v_31 j_32) = nI j_33 ∧
    ¬ (xi T_22 0 0) = 0 ∧
    ∀ x2_34 : Int32, x2_34 = (jrem ((xi T_22 (v_26 + 2) j_27) * (xi T_22 1 j_33)) (xi T_22 0 0)) →
    ∃ v_35 : Nat, xr T_22 6 2 = some v_35 ∧
    ∃ j_36 : Nat, j_36 < kl K (v_35 + 1) ∧ 0 = nI j_36 ∧
    ∃ v_37 : Nat, xr T_22 0 18 = some v_37 ∧
    ∃ j_38 : Nat, j_38 < kl K v_37 ∧ r_23 = nI j_38 ∧ ∃ v_39 : Nat, xr T_22 v_37 j_38 = some v_39 ∧
    ∃ v_40 : Nat, xr T_22 v_39 0 = some v_40 ∧
    ∃ j_41 : Nat, j_41 < kl K v_40 ∧ 0 = nI j_41 ∧
    ∀ x3_42 : Int32, x3_42 = ((xi T_22 (v_35 + 1) j_36) - (xi T_22 v_40 j_41)) →
    ∃ j_43 : Nat, j_43 < 8 ∧ r_23 = nI j_43 ∧ ∃ v_44 : Nat, xr T_22 7 j_43 = some v_44 ∧
    wx2_add v_44 x3_42 x2_34 K T_22 (fun T_46 =>
    ∃ v_48 : Nat, xr T_46 0 18 = some v_48 ∧
    ∃ j_49 : Nat, j_49 < kl K v_48 ∧ r_23 = nI j_49 ∧ ∃ v_50 : Nat, xr T_46 v_48 j_49 = some v_50 ∧
    wx1_goes v_50 x3_42 K T_46 (fun r_51 =>
    ((r_51 = 0 →
      ∀ T_54 : XT, T_54 = xwi T_46 6 7 0 →
      wx3_step_j192  post r_23 x2_34 x3_42 K T_54) ∧
     (¬ (r_51 = 0) →
      ∃ j_55 : Nat, j_55 < 8 ∧ r_23 = nI j_55 ∧ ∃ v_56 : Nat, xr T_46 7 j_55 = some v_56 ∧
      ((60 < (xi T_46 v_56 2) →
        ∀ T_57 : XT, T_57 = xwi T_46 6 7 0 →
        wx3_step_j192  post r_23 x2_34 x3_42 K T_57) ∧
       (¬ (60 < (xi T_46 v_56 2)) →
        ∀ T_58 : XT, T_58 = xwi T_46 6 7 1 →
        wx3_step_j192  post r_23 x2_34 x3_42 K T_58))))))) ∧
   (r_23 = (-1) →
    ∃ v_61 : Nat, xr T_22 6 2 = some v_61 ∧
    ∃ j_62 : Nat, j_62 < kl K (v_61 + 1) ∧ 0 = nI j_62 ∧
    ∃ v_63 : Nat, xr T_22 6 2 = some v_63 ∧
    ∃ j_64 : Nat, j_64 < kl K (v_63 + 2) ∧ 0 = nI j_64 ∧
    wx2_add 8 (xi T_22 (v_61 + 1) j_62) (xi T_22 (v_63 + 2) j_64) K T_22 (fun T_66 =>
    ∃ v_68 : Nat, xr T_66 6 2 = some v_68 ∧
    wx2_dropsFirst v_68 K T_66 (fun T_70 =>
    ((60 < (xi T_70 8 2) →
      ∀ T_72 : XT, T_72 = xwi T_70 6 7 0 →
      wx3_step_j288  post  K T_72) ∧
     (¬ (60 < (xi T_70 8 2)) →
      ∀ T_73 : XT, T_73 = xwi T_70 6 7 1 →
      wx3_step_j288  post  K T_73)))))))
set_option maxHeartbeats 4000000 in
theorem mx3_step (l : Launch) (G : XG) (b : Nat) (hole : Nat → Prop)  (K : XK) (T : XT)  (post : XT → Prop) (h : wx3_step  K T post) : Met l yX3_step (ws_ yX3_step cX3_step 5 none) ({ frames := 5, cells := 0, slots := 0, locals := 119 } : Room) (xPc G b hole [.ref (b + 6)] K T) (xQ G b hole K 0 0 (ρ := Unit) eV (fun r T1 K1 => post T1 ∧ K1 = K)) 0 0 (xA b hole) := by
  refine Met.ofW (cc := cX3_step) (maxL := 5) (ret := none) (by decide) rfl ?_
  intro p e s m args below meth c s₁ B hml hv
  obtain ⟨rfl, hP, hK, hV⟩ := hv
  have hx := B.exec
  have hb := B.bytes
  have hr := B.returns
  have hts := atoms_spec (ws := ws_ yX3_step cX3_step 5 none) B.pre
  have hts : ∀ w ∈ lw_all, w.before _ s = true := fun w h => hts w (List.mem_cons_of_mem _ h)
  have hown : s.vm.findClass RX3 = some m.cls := findClass_of_methodNamed B.named
  have hlocks := B.notSynchronized
  have hb0 : b ≤ s.heap.size := by rw [hP.2.2.2]; exact Nat.le_add_right _ _
  have hS : va_S (xA b hole) s.heap s.heap [] := va_S.rf
  have hl := lv_entry ([.ref (b + 6)]) (n := 5) (Nat.le_of_ble_eq_true rfl)
  rw [lg_entry_eq]
  generalize (lg_sl ([.ref (b + 6)]) ++ List.replicate (5 - (lg_sl ([.ref (b + 6)])).length) Slot.unset).toArray = ls at hl ⊢
  have hl : lv_has ls 5 [(0, .ref (b + 6))] := hl
  have J288 : ∀  (T : XT) (H : Heap) (locs : List Loc) (ls : Array Slot), wx3_step_j288  post  K T → xW G b hole K T H → va_S (xA b hole) s.heap H locs → lv_has ls 5 [(0, .ref (b + 6))] → W p l e (headSpec (ws_ yX3_step cX3_step 5 none) ({ frames := 5, cells := 0, slots := 0, locals := 119 } : Room)).room s m ([.ref (b + 6)] : List Value).toArray below meth c H locs 0 0 (MQ below (xQ G b hole K 0 0 (ρ := Unit) eV (fun r T1 K1 => post T1 ∧ K1 = K)) ([.ref (b + 6)] : List Value).toArray s 0 0 (xA b hole)) (F0 m 288 ls []) := by
    intro  T H locs ls h hP hS hl
    unfold wx3_step_j288 at h
    refine lv_aload_n hx hb dX3_step_288 rfl (lv_at hl 0 rfl) ?_
    refine x_get (CC := RX3) (TT := TX3) (N := 9) (ci := 2) (v := .int (xi T 6 7)) hx hb hts in_X3 hown hK hP (xs_6 hP) (by decide) (by decide) rfl (xE_10 (xs_6 hP)) 7 (by decide) q191 rfl rfl dX3_step_289 ?_
    refine lv_if_eq (tgt := 313) hx hb dX3_step_292 (by decide) (fun c_3 => ?_) (fun c_3 => ?_)
    · have h := h.1 c_3
      exact W.vret hx hb hr (fun t ht hW => ⟨⟨(), T, K, rfl, ⟨h, rfl⟩, kle.rf, rfl, rfl, by rw [ht]; exact hP, va_K.moved hW.alike hK⟩, hS.F ht⟩) hS.2.2 dX3_step_313
    · have h := h.2 c_3
      refine lv_aload_n hx hb dX3_step_295 rfl (lv_at hl 0 rfl) ?_
      refine lv_aload_n hx hb dX3_step_296 rfl (lv_at hl 0 rfl) ?_
      refine x_get (CC := RX3) (TT := TX3) (N := 9) (ci := 2) (v := .int (xi T 6 6)) hx hb hts in_X3 hown hK hP (xs_6 hP) (by decide) (by decide) rfl (xE_10 (xs_6 hP)) 6 (by decide) q189 rfl rfl dX3_step_297 ?_
      refine lv_aload_n hx hb dX3_step_300 rfl (lv_at hl 0 rfl) ?_
      obtain ⟨v_1, ev_1, h⟩ := h
      refine x_get (CC := RX3) (TT := TX3) (N := 9) (ci := 2) (v := rfv b (xr T 6 2)) hx hb hts in_X3 hown hK hP (xs_6 hP) (by decide) (by decide) rfl (xE_10 (xs_6 hP)) 2 (by decide) q184 rfl rfl dX3_step_301 ?_
      refine x_some ev_1 ?_
      have hk_v_1 : kd K v_1 = 9 := hP.ty (xs_6 hP) (by decide) ev_1
      refine x_getN (CC := RX2) (TT := TX2) (N := 3) (ci := 1) (v := .int (xi T v_1 2)) hx hb hts in_X2 hown hK hV.1 hP hk_v_1 (by decide) (by decide) rfl (xE_9 hk_v_1) 2 (by decide) q160 rfl rfl dX3_step_304 ?_
      refine x_mmax hx hb (hml.trans hl.1.symm) hown hts q939 q810 q134 q811 (Nat.le_of_ble_eq_true rfl) (Nat.le_of_ble_eq_true rfl) (by first | exact Nat.zero_le _ | (show _ ≤ Z - kc K0; omega)) (by first | exact Nat.zero_le _ | (show _ ≤ Y - ks K0; omega)) dX3_step_307 ?_
      obtain ⟨T_2, eT_2⟩ : ∃ z : XT, z = xwi T 6 6 (jmax (xi T 6 6) (xi T v_1 2)) := ⟨_, rfl⟩
      have h := h T_2 eT_2
      refine x_put (CC := RX3) (TT := TX3) (N := 9) (ci := 2) (T1 := T_2) (v := .int (jmax (xi T 6 6) (xi T v_1 2))) (ty := .int) (fsf := fun T => fs10 (gem G) b T 6) hx hb hts in_X3 tyX3 tyX3_ok nmX3 hown hK hP hS (xs_6 hP) (by decide) (by decide) rfl (fun _ => xE_10 (xs_6 hP)) rfl 6 (by decide) q189 rfl (Or.inl rfl) rfl rfl rfl (by rw [eT_2]; exact fw10_6 _ b T 6 (jmax (xi T 6 6) (xi T v_1 2))) (by rw [eT_2]; exact fun q hq => xwi_i hq) (by rw [eT_2]; exact fun _ _ => rfl) (by rw [eT_2]; exact xwi_ty hP (by rw [(xs_6 hP)]; decide)) dX3_step_310 (fun H locs hP hS => ?_)
      exact W.vret hx hb hr (fun t ht hW => ⟨⟨(), T_2, K, rfl, ⟨h, rfl⟩, kle.rf, rfl, rfl, by rw [ht]; exact hP, va_K.moved hW.alike hK⟩, hS.F ht⟩) hS.2.2 dX3_step_313
  have J192 : ∀ (x1 : Int32) (x2 : Int32) (x3 : Int32) (T : XT) (H : Heap) (locs : List Loc) (ls : Array Slot), wx3_step_j192  post x1 x2 x3 K T → xW G b hole K T H → va_S (xA b hole) s.heap H locs → lv_has ls 5 [(0, .ref (b + 6)), (1, .int x1), (2, .int x2), (3, .int x3)] → W p l e (headSpec (ws_ yX3_step cX3_step 5 none) ({ frames := 5, cells := 0, slots := 0, locals := 119 } : Room)).room s m ([.ref (b + 6)] : List Value).toArray below meth c H locs 0 0 (MQ below (xQ G b hole K 0 0 (ρ := Unit) eV (fun r T1 K1 => post T1 ∧ K1 = K)) ([.ref (b + 6)] : List Value).toArray s 0 0 (xA b hole)) (F0 m 192 ls []) := by
    intro x1 x2 x3 T H locs ls h hP hS hl
    unfold wx3_step_j192 at h
    refine lv_aload_n hx hb dX3_step_192 rfl (lv_at hl 0 rfl) ?_
    refine x_get (CC := RX3) (TT := TX3) (N := 9) (ci := 2) (v := .int (xi T 6 7)) hx hb hts in_X3 hown hK hP (xs_6 hP) (by decide) (by decide) rfl (xE_10 (xs_6 hP)) 7 (by decide) q191 rfl rfl dX3_step_193 ?_
    refine lv_if_ne (tgt := 200) hx hb dX3_step_196 (by decide) (fun c_21 => ?_) (fun c_21 => ?_)
    · have h := h.1 c_21
      refine lv_aload_n hx hb dX3_step_200 rfl (lv_at hl 0 rfl) ?_
      obtain ⟨v_4, ev_4, h⟩ := h
      refine x_get (CC := RX3) (TT := TX3) (N := 9) (ci := 2) (v := rfv b (xr T 6 2)) hx hb hts in_X3 hown hK hP (xs_6 hP) (by decide) (by decide) rfl (xE_10 (xs_6 hP)) 2 (by decide) q184 rfl rfl dX3_step_201 ?_
      refine x_some ev_4 ?_
      have hk_v_4 : kd K v_4 = 9 := hP.ty (xs_6 hP) (by decide) ev_4
      refine lv_astore (lv' := [(4, .ref (b + v_4)), (0, .ref (b + 6)), (1, .int x1), (2, .int x2), (3, .int x3)]) hx hb dX3_step_204 hl (by decide) rfl (fun ls hl => ?_)
      refine lv_aload_n hx hb dX3_step_206 rfl (lv_at hl 1 rfl) ?_
      refine lv_aload_n hx hb dX3_step_207 rfl (lv_at hl 1 rfl) ?_
      refine x_get (CC := RX3) (TT := TX3) (N := 9) (ci := 2) (v := .ref (b + 0)) hx hb hts in_X3 hown hK hP (xs_6 hP) (by decide) (by decide) rfl (xE_10 (xs_6 hP)) 8 (by decide) q193 rfl rfl dX3_step_208 ?_
      refine lv_aload_n hx hb dX3_step_211 rfl (lv_at hl 1 rfl) ?_
      obtain ⟨v_5, ev_5, h⟩ := h
      refine x_get (CC := RX3) (TT := TX3) (N := 9) (ci := 2) (v := rfv b (xr T 6 3)) hx hb hts in_X3 hown hK hP (xs_6 hP) (by decide) (by decide) rfl (xE_10 (xs_6 hP)) 3 (by decide) q185 rfl rfl dX3_step_212 ?_
      refine x_some ev_5 ?_
      have hk_v_5 : kd K v_5 = 9 := hP.ty (xs_6 hP) (by decide) ev_5
      refine lv_aload_n hx hb dX3_step_215 rfl (lv_at hl 1 rfl) ?_
      obtain ⟨v_6, ev_6, h⟩ := h
      refine x_get (CC := RX3) (TT := TX3) (N := 9) (ci := 2) (v := rfv b (xr T 6 2)) hx hb hts in_X3 hown hK hP (xs_6 hP) (by decide) (by decide) rfl (xE_10 (xs_6 hP)) 2 (by decide) q184 rfl rfl dX3_step_216 ?_
      refine x_some ev_6 ?_
      have hk_v_6 : kd K v_6 = 9 := hP.ty (xs_6 hP) (by decide) ev_6
      refine x_getN (CC := RX2) (TT := TX2) (N := 3) (ci := 1) (v := .ref (b + (v_6 + 1))) hx hb hts in_X2 hown hK hV.1 hP hk_v_6 (by decide) (by decide) rfl (xE_9 hk_v_6) 0 (by decide) q157 rfl rfl dX3_step_219 ?_
      refine lv_aload_n hx hb dX3_step_222 rfl (lv_at hl 1 rfl) ?_
      obtain ⟨v_7, ev_7, h⟩ := h
      refine x_get (CC := RX3) (TT := TX3) (N := 9) (ci := 2) (v := rfv b (xr T 6 2)) hx hb hts in_X3 hown hK hP (xs_6 hP) (by decide) (by decide) rfl (xE_10 (xs_6 hP)) 2 (by decide) q184 rfl rfl dX3_step_223 ?_
      refine x_some ev_7 ?_
      have hk_v_7 : kd K v_7 = 9 := hP.ty (xs_6 hP) (by decide) ev_7
      refine x_getN (CC := RX2) (TT := TX2) (N := 3) (ci := 1) (v := .ref (b + (v_7 + 2))) hx hb hts in_X2 hown hK hV.1 hP hk_v_7 (by decide) (by decide) rfl (xE_9 hk_v_7) 1 (by decide) q159 rfl rfl dX3_step_226 ?_
      refine lv_aload_n hx hb dX3_step_229 rfl (lv_at hl 1 rfl) ?_
      obtain ⟨v_8, ev_8, h⟩ := h
      refine x_get (CC := RX3) (TT := TX3) (N := 9) (ci := 2) (v := rfv b (xr T 6 2)) hx hb hts in_X3 hown hK hP (xs_6 hP) (by decide) (by decide) rfl (xE_10 (xs_6 hP)) 2 (by decide) q184 rfl rfl dX3_step_230 ?_
      refine x_some ev_8 ?_
      have hk_v_8 : kd K v_8 = 9 := hP.ty (xs_6 hP) (by decide) ev_8
      refine x_getN (CC := RX2) (TT := TX2) (N := 3) (ci := 1) (v := .int (xi T v_8 2)) hx hb hts in_X2 hown hK hV.1 hP hk_v_8 (by decide) (by decide) rfl (xE_9 hk_v_8) 2 (by decide) q160 rfl rfl dX3_step_233 ?_
      refine lv_aload_n hx hb dX3_step_236 rfl (lv_at hl 1 rfl) ?_
      refine x_get (CC := RX3) (TT := TX3) (N := 9) (ci := 2) (v := .ref (b + 0)) hx hb hts in_X3 hown hK hP (xs_6 hP) (by decide) (by decide) rfl (xE_10 (xs_6 hP)) 8 (by decide) q193 rfl rfl dX3_step_237 ?_
      obtain ⟨v_9, ev_9, h⟩ := h
      refine x_getN (CC := RX1) (TT := TX1) (N := 26) (ci := 0) (v := rfv b (xr T 0 18)) hx hb hts in_X1 hown hK hV.1 hP (xs_0 hP) (by decide) (by decide) rfl (xE_8 (xs_0 hP)) 18 (by decide) q404 rfl rfl dX3_step_240 ?_
      refine x_some ev_9 ?_
      have hk_v_9 : kd K v_9 = 3 := hP.ty (xs_0 hP) (by decide) ev_9
      refine lv_iload_n hx hb dX3_step_243 rfl (lv_at hl 2 rfl) ?_
      obtain ⟨j_10, hj_10, ej_10, v_11, ev_11, h⟩ := h
      refine x_aald3 hx hb hK hP hk_v_9 ej_10 hj_10 dX3_step_244 ?_
      refine x_some ev_11 ?_
      have hk_v_11 : kd K v_11 = 2 := hP.ty hk_v_9 (by decide) ev_11
      refine lv_aload_n hx hb dX3_step_245 rfl (lv_at hl 1 rfl) ?_
      refine x_get (CC := RX3) (TT := TX3) (N := 9) (ci := 2) (v := .ref (b + 0)) hx hb hts in_X3 hown hK hP (xs_6 hP) (by decide) (by decide) rfl (xE_10 (xs_6 hP)) 8 (by decide) q193 rfl rfl dX3_step_246 ?_
      refine x_getN (CC := RX1) (TT := TX1) (N := 26) (ci := 0) (v := .int (xi T 0 0)) hx hb hts in_X1 hown hK hV.1 hP (xs_0 hP) (by decide) (by decide) rfl (xE_8 (xs_0 hP)) 0 (by decide) q383 rfl rfl dX3_step_249 ?_
      refine lv_iload_n hx hb dX3_step_252 rfl (lv_at hl 3 rfl) ?_
      refine lv_isub hx hb dX3_step_253 ?_
      refine lv_iload_n hx hb dX3_step_254 rfl (lv_at hl 4 rfl) ?_
      refine x_cVN (host := "TermDesk") (k := 0) (As := [.ref (b + v_5), .ref (b + (v_6 + 1)), .ref (b + (v_7 + 2)), .int (xi T v_8 2), .ref (b + v_11), .int ((xi T 0 0) - x2), .int x3]) (rest := [.ref (b + 6)]) ⟨hx, hb, hml, hown, hts⟩ (mx1_merges l G b hole v_5 (v_6 + 1) (v_7 + 2) (xi T v_8 2) v_11 ((xi T 0 0) - x2) x3 K T hk_v_5 (hP.row hk_v_6).1 (hP.row hk_v_7).2 hk_v_11 _ h) ⟨va_cnB 7 hts (lw_meth q936) rfl rfl rfl (hV.1.2.1 _ _ _ _ q933) (hts _ q118) cwx_X1_merges.2 ⟨Nat.le_of_ble_eq_true rfl, Nat.le_of_ble_eq_true rfl⟩, hts _ q935, hts _ qs37⟩ (x_recv (CC := RX1) (ci := 0) hK hP (xs_0 hP) (by decide) (by decide) rfl (xE_8 (xs_0 hP))) hK hV hb0 hP hS rfl hl.1 rfl (Nat.le_of_ble_eq_true rfl) dX3_step_255 ⟨by first | exact Nat.zero_le _ | (show _ + _ ≤ Z - kc K0; omega), by first | exact Nat.zero_le _ | (show _ + _ ≤ Y - ks K0; omega)⟩ (fun r_12 T1 K1 H locs h hle1 hc1 hs1 hP hS => ?_)
      obtain ⟨h, hk_r_12, hKe⟩ := h
      rw [hKe] at hP
      generalize T1 = T_13 at h hP
      rw [hKe] at hk_r_12
      obtain ⟨T_15, eT_15⟩ : ∃ z : XT, z = xwr T_13 6 2 (some r_12) := ⟨_, rfl⟩
      have h := h T_15 eT_15
      refine x_put (CC := RX3) (TT := TX3) (N := 9) (ci := 2) (T1 := T_15) (v := .ref (b + r_12)) (ty := _) (fsf := fun T => fs10 (gem G) b T 6) hx hb hts in_X3 tyX3 tyX3_ok nmX3 hown hK hP hS (xs_6 hP) (by decide) (by decide) rfl (fun _ => xE_10 (xs_6 hP)) rfl 2 (by decide) q184 rfl (Or.inl rfl) rfl rfl rfl (by rw [eT_15]; exact fw10_2 _ b T_13 6 (some r_12)) (by rw [eT_15]; exact fun _ _ => rfl) (by rw [eT_15]; exact fun q hq => xwr_r hq) (by rw [eT_15]; exact xwr_ty hP (by rw [(xs_6 hP)]; decide) (fun p e9 => by cases e9; rw [hk_r_12, (xs_6 hP)]; exact ⟨rfl, by decide⟩)) dX3_step_258 (fun H locs hP hS => ?_)
      refine lv_aload_n hx hb dX3_step_261 rfl (lv_at hl 1 rfl) ?_
      refine lv_aload hx hb dX3_step_262 (lv_at hl 0 rfl) ?_
      obtain ⟨T_16, eT_16⟩ : ∃ z : XT, z = xwr T_15 6 3 (some v_4) := ⟨_, rfl⟩
      have h := h T_16 eT_16
      refine x_put (CC := RX3) (TT := TX3) (N := 9) (ci := 2) (T1 := T_16) (v := .ref (b + v_4)) (ty := _) (fsf := fun T => fs10 (gem G) b T 6) hx hb hts in_X3 tyX3 tyX3_ok nmX3 hown hK hP hS (xs_6 hP) (by decide) (by decide) rfl (fun _ => xE_10 (xs_6 hP)) rfl 3 (by decide) q185 rfl (Or.inl rfl) rfl rfl rfl (by rw [eT_16]; exact fw10_3 _ b T_15 6 (some v_4)) (by rw [eT_16]; exact fun _ _ => rfl) (by rw [eT_16]; exact fun q hq => xwr_r hq) (by rw [eT_16]; exact xwr_ty hP (by rw [(xs_6 hP)]; decide) (fun p e9 => by cases e9; rw [hk_v_4, (xs_6 hP)]; exact ⟨rfl, by decide⟩)) dX3_step_264 (fun H locs hP hS => ?_)
      refine lv_aload_n hx hb dX3_step_267 rfl (lv_at hl 1 rfl) ?_
      refine lv_aload_n hx hb dX3_step_268 rfl (lv_at hl 1 rfl) ?_
      obtain ⟨v_17, ev_17, h⟩ := h
      refine x_get (CC := RX3) (TT := TX3) (N := 9) (ci := 2) (v := rfv b (xr T_16 6 2)) hx hb hts in_X3 hown hK hP (xs_6 hP) (by decide) (by decide) rfl (xE_10 (xs_6 hP)) 2 (by decide) q184 rfl rfl dX3_step_269 ?_
      refine x_some ev_17 ?_
      have hk_v_17 : kd K v_17 = 9 := hP.ty (xs_6 hP) (by decide) ev_17
      refine x_getN (CC := RX2) (TT := TX2) (N := 3) (ci := 1) (v := .int (xi T_16 v_17 2)) hx hb hts in_X2 hown hK hV.1 hP hk_v_17 (by decide) (by decide) rfl (xE_9 hk_v_17) 2 (by decide) q160 rfl rfl dX3_step_272 ?_
      refine lv_bipush (v := 60) hx hb dX3_step_275 (by decide) ?_
      refine lv_icmp_gt (tgt := 284) hx hb dX3_step_277 (by decide) (fun c_20 => ?_) (fun c_20 => ?_)
      · have h := h.1 c_20
        refine lv_iconst (v := 0) hx hb dX3_step_284 (by decide) ?_
        obtain ⟨T_18, eT_18⟩ : ∃ z : XT, z = xwi T_16 6 7 0 := ⟨_, rfl⟩
        have h := h T_18 eT_18
        refine x_put (CC := RX3) (TT := TX3) (N := 9) (ci := 2) (T1 := T_18) (v := .int 0) (ty := .boolean) (fsf := fun T => fs10 (gem G) b T 6) hx hb hts in_X3 tyX3 tyX3_ok nmX3 hown hK hP hS (xs_6 hP) (by decide) (by decide) rfl (fun _ => xE_10 (xs_6 hP)) rfl 7 (by decide) q191 rfl (Or.inl rfl) rfl rfl rfl (by rw [eT_18]; exact fw10_7 _ b T_16 6 0) (by rw [eT_18]; exact fun q hq => xwi_i hq) (by rw [eT_18]; exact fun _ _ => rfl) (by rw [eT_18]; exact xwi_ty hP (by rw [(xs_6 hP)]; decide)) dX3_step_285 (fun H locs hP hS => ?_)
        exact J288 _ _ _ _ h  hP hS (lv_sub hl [1] rfl)
      · have h := h.2 c_20
        refine lv_iconst (v := 1) hx hb dX3_step_280 (by decide) ?_
        refine lv_goto (tgt := 285) hx hb dX3_step_281 (by decide) ?_
        obtain ⟨T_19, eT_19⟩ : ∃ z : XT, z = xwi T_16 6 7 1 := ⟨_, rfl⟩
        have h := h T_19 eT_19
        refine x_put (CC := RX3) (TT := TX3) (N := 9) (ci := 2) (T1 := T_19) (v := .int 1) (ty := .boolean) (fsf := fun T => fs10 (gem G) b T 6) hx hb hts in_X3 tyX3 tyX3_ok nmX3 hown hK hP hS (xs_6 hP) (by decide) (by decide) rfl (fun _ => xE_10 (xs_6 hP)) rfl 7 (by decide) q191 rfl (Or.inl rfl) rfl rfl rfl (by rw [eT_19]; exact fw10_7 _ b T_16 6 1) (by rw [eT_19]; exact fun q hq => xwi_i hq) (by rw [eT_19]; exact fun _ _ => rfl) (by rw [eT_19]; exact xwi_ty hP (by rw [(xs_6 hP)]; decide)) dX3_step_285 (fun H locs hP hS => ?_)
        exact J288 _ _ _ _ h  hP hS (lv_sub hl [1] rfl)
    · have h := h.2 c_21
      exact W.vret hx hb hr (fun t ht hW => ⟨⟨(), T, K, rfl, ⟨h, rfl⟩, kle.rf, rfl, rfl, by rw [ht]; exact hP, va_K.moved hW.alike hK⟩, hS.F ht⟩) hS.2.2 dX3_step_199
  unfold wx3_step at h
  refine lv_aload_n hx hb dX3_step_0 rfl (lv_at hl 0 rfl) ?_
  refine lv_dup hx hb dX3_step_1 rfl ?_
  refine x_get (CC := RX3) (TT := TX3) (N := 9) (ci := 2) (v := .int (xi T 6 5)) hx hb hts in_X3 hown hK hP (xs_6 hP) (by decide) (by decide) rfl (xE_10 (xs_6 hP)) 5 (by decide) q187 rfl rfl dX3_step_2 ?_
  refine lv_iconst (v := 1) hx hb dX3_step_5 (by decide) ?_
  refine lv_iadd hx hb dX3_step_6 ?_
  obtain ⟨T_22, eT_22⟩ : ∃ z : XT, z = xwi T 6 5 ((xi T 6 5) + 1) := ⟨_, rfl⟩
  have h := h T_22 eT_22
  refine x_put (CC := RX3) (TT := TX3) (N := 9) (ci := 2) (T1 := T_22) (v := .int ((xi T 6 5) + 1)) (ty := .int) (fsf := fun T => fs10 (gem G) b T 6) hx hb hts in_X3 tyX3 tyX3_ok nmX3 hown hK hP hS (xs_6 hP) (by decide) (by decide) rfl (fun _ => xE_10 (xs_6 hP)) rfl 5 (by decide) q187 rfl (Or.inl rfl) rfl rfl rfl (by rw [eT_22]; exact fw10_5 _ b T 6 ((xi T 6 5) + 1)) (by rw [eT_22]; exact fun q hq => xwi_i hq) (by rw [eT_22]; exact fun _ _ => rfl) (by rw [eT_22]; exact xwi_ty hP (by rw [(xs_6 hP)]; decide)) dX3_step_7 (fun H locs hP hS => ?_)
  refine lv_aload_n hx hb dX3_step_10 rfl (lv_at hl 0 rfl) ?_
  refine x_cV (k := 6) (As := []) (rest := []) ⟨hx, hb, hml, hown, hts⟩ (mx3_divisor l G b hole  K T_22  _ h) (cwV 0 hts (lw_V q916 q918 qs36 q120 q919) rfl rfl rfl cwx_X3_divisor ⟨Nat.le_of_ble_eq_true rfl, Nat.le_of_ble_eq_true rfl⟩) (x_recv (CC := RX3) (ci := 2) hK hP (xs_6 hP) (by decide) (by decide) rfl (xE_10 (xs_6 hP))) hK hV hb0 hP hS rfl hl.1 rfl (Nat.le_of_ble_eq_true rfl) dX3_step_11 ⟨by first | exact Nat.zero_le _ | (show _ + _ ≤ Z - kc K0; omega), by first | exact Nat.zero_le _ | (show _ + _ ≤ Y - ks K0; omega)⟩ (fun r_23 T1 K1 H locs h hle1 hc1 hs1 hP hS => ?_)
  obtain ⟨h, hTe, hKe⟩ := h
  rw [hTe, hKe] at hP
  refine lv_istore_n (lv' := [(1, .int r_23), (0, .ref (b + 6))]) hx hb dX3_step_14 rfl hl (by decide) rfl (fun ls hl => ?_)
  refine lv_iload_n hx hb dX3_step_15 rfl (lv_at hl 0 rfl) ?_
  refine lv_iconst (v := (-1)) hx hb dX3_step_16 (by decide) ?_
  refine lv_icmp_ne (tgt := 76) hx hb dX3_step_17 (by decide) (fun c_75 => ?_) (fun c_75 => ?_)
  · have h := h.1 c_75
    refine lv_aload_n hx hb dX3_step_76 rfl (lv_at hl 1 rfl) ?_
    obtain ⟨v_26, ev_26, h⟩ := h
    refine x_get (CC := RX3) (TT := TX3) (N := 9) (ci := 2) (v := rfv b (xr T_22 6 2)) hx hb hts in_X3 hown hK hP (xs_6 hP) (by decide) (by decide) rfl (xE_10 (xs_6 hP)) 2 (by decide) q184 rfl rfl dX3_step_77 ?_
    refine x_some ev_26 ?_
    have hk_v_26 : kd K v_26 = 9 := hP.ty (xs_6 hP) (by decide) ev_26
    refine x_getN (CC := RX2) (TT := TX2) (N := 3) (ci := 1) (v := .ref (b + (v_26 + 2))) hx hb hts in_X2 hown hK hV.1 hP hk_v_26 (by decide) (by decide) rfl (xE_9 hk_v_26) 1 (by decide) q159 rfl rfl dX3_step_80 ?_
    refine lv_iconst (v := 0) hx hb dX3_step_83 (by decide) ?_
    obtain ⟨j_27, hj_27, ej_27, h⟩ := h
    refine x_iald hx hb hK hP (hP.row hk_v_26).2 ej_27 hj_27 dX3_step_84 ?_
    refine lv_aload_n hx hb dX3_step_85 rfl (lv_at hl 1 rfl) ?_
    refine x_get (CC := RX3) (TT := TX3) (N := 9) (ci := 2) (v := .ref (b + 0)) hx hb hts in_X3 hown hK hP (xs_6 hP) (by decide) (by decide) rfl (xE_10 (xs_6 hP)) 8 (by decide) q193 rfl rfl dX3_step_86 ?_
    refine x_getN (CC := RX1) (TT := TX1) (N := 26) (ci := 0) (v := .ref (b + 1)) hx hb hts in_X1 hown hK hV.1 hP (xs_0 hP) (by decide) (by decide) rfl (xE_8 (xs_0 hP)) 5 (by decide) q389 rfl rfl dX3_step_89 ?_
    refine lv_aload_n hx hb dX3_step_92 rfl (lv_at hl 1 rfl) ?_
    refine x_get (CC := RX3) (TT := TX3) (N := 9) (ci := 2) (v := .ref (b + 0)) hx hb hts in_X3 hown hK hP (xs_6 hP) (by decide) (by decide) rfl (xE_10 (xs_6 hP)) 8 (by decide) q193 rfl rfl dX3_step_93 ?_
    obtain ⟨v_28, ev_28, h⟩ := h
    refine x_getN (CC := RX1) (TT := TX1) (N := 26) (ci := 0) (v := rfv b (xr T_22 0 18)) hx hb hts in_X1 hown hK hV.1 hP (xs_0 hP) (by decide) (by decide) rfl (xE_8 (xs_0 hP)) 18 (by decide) q404 rfl rfl dX3_step_96 ?_
    refine x_some ev_28 ?_
    have hk_v_28 : kd K v_28 = 3 := hP.ty (xs_0 hP) (by decide) ev_28
    refine lv_iload_n hx hb dX3_step_99 rfl (lv_at hl 0 rfl) ?_
    obtain ⟨j_29, hj_29, ej_29, v_30, ev_30, h⟩ := h
    refine x_aald3 hx hb hK hP hk_v_28 ej_29 hj_29 dX3_step_100 ?_
    refine x_some ev_30 ?_
    have hk_v_30 : kd K v_30 = 2 := hP.ty hk_v_28 (by decide) ev_30
    obtain ⟨v_31, ev_31, h⟩ := h
    refine x_get (CC := RX6) (TT := TX6) (N := 3) (ci := 5) (v := rfv b (xr T_22 v_30 1)) hx hb hts in_X6 hown hK hP hk_v_30 (by decide) (by decide) rfl (xE_2 hk_v_30) 1 (by decide) q368 rfl rfl dX3_step_101 ?_
    refine x_some ev_31 ?_
    have hk_v_31 : kd K v_31 = 1 := hP.ty hk_v_30 (by decide) ev_31
    refine lv_iconst (v := 0) hx hb dX3_step_104 (by decide) ?_
    obtain ⟨j_32, hj_32, ej_32, h⟩ := h
    refine x_iald hx hb hK hP hk_v_31 ej_32 hj_32 dX3_step_105 ?_
    obtain ⟨j_33, hj_33, ej_33, h⟩ := h
    refine x_iald hx hb hK hP (xs_1 hP) ej_33 (by rw [xl_1 hP]; exact hj_33) dX3_step_106 ?_
    refine lv_imul hx hb dX3_step_107 ?_
    refine lv_aload_n hx hb dX3_step_108 rfl (lv_at hl 1 rfl) ?_
    refine x_get (CC := RX3) (TT := TX3) (N := 9) (ci := 2) (v := .ref (b + 0)) hx hb hts in_X3 hown hK hP (xs_6 hP) (by decide) (by decide) rfl (xE_10 (xs_6 hP)) 8 (by decide) q193 rfl rfl dX3_step_109 ?_
    refine x_getN (CC := RX1) (TT := TX1) (N := 26) (ci := 0) (v := .int (xi T_22 0 0)) hx hb hts in_X1 hown hK hV.1 hP (xs_0 hP) (by decide) (by decide) rfl (xE_8 (xs_0 hP)) 0 (by decide) q383 rfl rfl dX3_step_112 ?_
    obtain ⟨hne, h⟩ := h
    refine m_irem hx hb dX3_step_115 hne ?_
    refine lv_topi (fun x2_34 ex2_34 => ?_)
    have h := h x2_34 ex2_34
    refine lv_istore_n (lv' := [(2, .int x2_34), (1, .int r_23), (0, .ref (b + 6))]) hx hb dX3_step_116 rfl hl (by decide) rfl (fun ls hl => ?_)
    refine lv_aload_n hx hb dX3_step_117 rfl (lv_at hl 2 rfl) ?_
    obtain ⟨v_35, ev_35, h⟩ := h
    refine x_get (CC := RX3) (TT := TX3) (N := 9) (ci := 2) (v := rfv b (xr T_22 6 2)) hx hb hts in_X3 hown hK hP (xs_6 hP) (by decide) (by decide) rfl (xE_10 (xs_6 hP)) 2 (by decide) q184 rfl rfl dX3_step_118 ?_
    refine x_some ev_35 ?_
    have hk_v_35 : kd K v_35 = 9 := hP.ty (xs_6 hP) (by decide) ev_35
    refine x_getN (CC := RX2) (TT := TX2) (N := 3) (ci := 1) (v := .ref (b + (v_35 + 1))) hx hb hts in_X2 hown hK hV.1 hP hk_v_35 (by decide) (by decide) rfl (xE_9 hk_v_35) 0 (by decide) q157 rfl rfl dX3_step_121 ?_
    refine lv_iconst (v := 0) hx hb dX3_step_124 (by decide) ?_
    obtain ⟨j_36, hj_36, ej_36, h⟩ := h
    refine x_iald hx hb hK hP (hP.row hk_v_35).1 ej_36 hj_36 dX3_step_125 ?_
    refine lv_aload_n hx hb dX3_step_126 rfl (lv_at hl 2 rfl) ?_
    refine x_get (CC := RX3) (TT := TX3) (N := 9) (ci := 2) (v := .ref (b + 0)) hx hb hts in_X3 hown hK hP (xs_6 hP) (by decide) (by decide) rfl (xE_10 (xs_6 hP)) 8 (by decide) q193 rfl rfl dX3_step_127 ?_
    obtain ⟨v_37, ev_37, h⟩ := h
    refine x_getN (CC := RX1) (TT := TX1) (N := 26) (ci := 0) (v := rfv b (xr T_22 0 18)) hx hb hts in_X1 hown hK hV.1 hP (xs_0 hP) (by decide) (by decide) rfl (xE_8 (xs_0 hP)) 18 (by decide) q404 rfl rfl dX3_step_130 ?_
    refine x_some ev_37 ?_
    have hk_v_37 : kd K v_37 = 3 := hP.ty (xs_0 hP) (by decide) ev_37
    refine lv_iload_n hx hb dX3_step_133 rfl (lv_at hl 1 rfl) ?_
    obtain ⟨j_38, hj_38, ej_38, v_39, ev_39, h⟩ := h
    refine x_aald3 hx hb hK hP hk_v_37 ej_38 hj_38 dX3_step_134 ?_
    refine x_some ev_39 ?_
    have hk_v_39 : kd K v_39 = 2 := hP.ty hk_v_37 (by decide) ev_39
    obtain ⟨v_40, ev_40, h⟩ := h
    refine x_get (CC := RX6) (TT := TX6) (N := 3) (ci := 5) (v := rfv b (xr T_22 v_39 0)) hx hb hts in_X6 hown hK hP hk_v_39 (by decide) (by decide) rfl (xE_2 hk_v_39) 0 (by decide) q365 rfl rfl dX3_step_135 ?_
    refine x_some ev_40 ?_
    have hk_v_40 : kd K v_40 = 1 := hP.ty hk_v_39 (by decide) ev_40
    refine lv_iconst (v := 0) hx hb dX3_step_138 (by decide) ?_
    obtain ⟨j_41, hj_41, ej_41, h⟩ := h
    refine x_iald hx hb hK hP hk_v_40 ej_41 hj_41 dX3_step_139 ?_
    refine lv_isub hx hb dX3_step_140 ?_
    refine lv_topi (fun x3_42 ex3_42 => ?_)
    have h := h x3_42 ex3_42
    refine lv_istore_n (lv' := [(3, .int x3_42), (2, .int x2_34), (1, .int r_23), (0, .ref (b + 6))]) hx hb dX3_step_141 rfl hl (by decide) rfl (fun ls hl => ?_)
    refine lv_aload_n hx hb dX3_step_142 rfl (lv_at hl 3 rfl) ?_
    refine x_get (CC := RX3) (TT := TX3) (N := 9) (ci := 2) (v := .ref (b + 7)) hx hb hts in_X3 hown hK hP (xs_6 hP) (by decide) (by decide) rfl (xE_10 (xs_6 hP)) 0 (by decide) q180 rfl rfl dX3_step_143 ?_
    refine lv_iload_n hx hb dX3_step_146 rfl (lv_at hl 2 rfl) ?_
    obtain ⟨j_43, hj_43, ej_43, v_44, ev_44, h⟩ := h
    refine x_aald5 hx hb hK hP (xs_7 hP) ej_43 (by rw [xl_7 hP]; exact hj_43) dX3_step_147 ?_
    refine x_some ev_44 ?_
    have hk_v_44 : kd K v_44 = 9 := hP.ty (xs_7 hP) (by decide) ev_44
    refine lv_iload_n hx hb dX3_step_148 rfl (lv_at hl 0 rfl) ?_
    refine lv_iload_n hx hb dX3_step_149 rfl (lv_at hl 1 rfl) ?_
    refine x_cV (k := v_44) (As := [.int x3_42, .int x2_34]) (rest := []) ⟨hx, hb, hml, hown, hts⟩ (mx2_add l G b hole v_44 x3_42 x2_34 K T_22 hk_v_44 _ h) (cwV 2 hts (lw_V q908 q909 q910 q119 q911) rfl rfl rfl cwx_X2_add ⟨Nat.le_of_ble_eq_true rfl, Nat.le_of_ble_eq_true rfl⟩) (x_recv (CC := RX2) (ci := 1) hK hP hk_v_44 (by decide) (by decide) rfl (xE_9 hk_v_44)) hK hV hb0 hP hS rfl hl.1 rfl (Nat.le_of_ble_eq_true rfl) dX3_step_150 ⟨by first | exact Nat.zero_le _ | (show _ + _ ≤ Z - kc K0; omega), by first | exact Nat.zero_le _ | (show _ + _ ≤ Y - ks K0; omega)⟩ (fun r_45 T1 K1 H locs h hle1 hc1 hs1 hP hS => ?_)
    obtain ⟨h, hKe⟩ := h
    rw [hKe] at hP
    generalize T1 = T_46 at h hP
    refine lv_aload_n hx hb dX3_step_153 rfl (lv_at hl 3 rfl) ?_
    refine lv_aload_n hx hb dX3_step_154 rfl (lv_at hl 3 rfl) ?_
    refine x_get (CC := RX3) (TT := TX3) (N := 9) (ci := 2) (v := .ref (b + 0)) hx hb hts in_X3 hown hK hP (xs_6 hP) (by decide) (by decide) rfl (xE_10 (xs_6 hP)) 8 (by decide) q193 rfl rfl dX3_step_155 ?_
    obtain ⟨v_48, ev_48, h⟩ := h
    refine x_getN (CC := RX1) (TT := TX1) (N := 26) (ci := 0) (v := rfv b (xr T_46 0 18)) hx hb hts in_X1 hown hK hV.1 hP (xs_0 hP) (by decide) (by decide) rfl (xE_8 (xs_0 hP)) 18 (by decide) q404 rfl rfl dX3_step_158 ?_
    refine x_some ev_48 ?_
    have hk_v_48 : kd K v_48 = 3 := hP.ty (xs_0 hP) (by decide) ev_48
    refine lv_iload_n hx hb dX3_step_161 rfl (lv_at hl 2 rfl) ?_
    obtain ⟨j_49, hj_49, ej_49, v_50, ev_50, h⟩ := h
    refine x_aald3 hx hb hK hP hk_v_48 ej_49 hj_49 dX3_step_162 ?_
    refine x_some ev_50 ?_
    have hk_v_50 : kd K v_50 = 2 := hP.ty hk_v_48 (by decide) ev_50
    refine lv_iload_n hx hb dX3_step_163 rfl (lv_at hl 0 rfl) ?_
    refine x_cSN (host := "TermDesk") (As := [.ref (b + v_50), .int x3_42]) (rest := [.ref (b + 6)]) ⟨hx, hb, hml, hown, hts⟩ (mx1_goes l G b hole v_50 x3_42 K T_46 hk_v_50 _ h) ⟨va_cnB 2 hts (lw_meth q932) rfl rfl rfl (hV.1.2.1 _ _ _ _ q930) (hts _ q118) cwx_X1_goes ⟨Nat.le_of_ble_eq_true rfl, Nat.le_of_ble_eq_true rfl⟩, hts _ q931, trivial⟩ hK hV hb0 hP hS rfl hl.1 rfl (Nat.le_of_ble_eq_true rfl) dX3_step_164 ⟨by first | exact Nat.zero_le _ | (show _ + _ ≤ Z - kc K0; omega), by first | exact Nat.zero_le _ | (show _ + _ ≤ Y - ks K0; omega)⟩ (fun r_51 T1 K1 H locs h hle1 hc1 hs1 hP hS => ?_)
    obtain ⟨h, hTe, hKe⟩ := h
    rw [hTe, hKe] at hP
    refine lv_if_eq (tgt := 188) hx hb dX3_step_167 (by decide) (fun c_60 => ?_) (fun c_60 => ?_)
    · have h := h.1 c_60
      refine lv_iconst (v := 0) hx hb dX3_step_188 (by decide) ?_
      obtain ⟨T_54, eT_54⟩ : ∃ z : XT, z = xwi T_46 6 7 0 := ⟨_, rfl⟩
      have h := h T_54 eT_54
      refine x_put (CC := RX3) (TT := TX3) (N := 9) (ci := 2) (T1 := T_54) (v := .int 0) (ty := .boolean) (fsf := fun T => fs10 (gem G) b T 6) hx hb hts in_X3 tyX3 tyX3_ok nmX3 hown hK hP hS (xs_6 hP) (by decide) (by decide) rfl (fun _ => xE_10 (xs_6 hP)) rfl 7 (by decide) q191 rfl (Or.inl rfl) rfl rfl rfl (by rw [eT_54]; exact fw10_7 _ b T_46 6 0) (by rw [eT_54]; exact fun q hq => xwi_i hq) (by rw [eT_54]; exact fun _ _ => rfl) (by rw [eT_54]; exact xwi_ty hP (by rw [(xs_6 hP)]; decide)) dX3_step_189 (fun H locs hP hS => ?_)
      exact J192 _ _ _ _ _ _ _ h  hP hS (lv_sub hl [3, 2, 1, 0] rfl)
    · have h := h.2 c_60
      refine lv_aload_n hx hb dX3_step_170 rfl (lv_at hl 3 rfl) ?_
      refine x_get (CC := RX3) (TT := TX3) (N := 9) (ci := 2) (v := .ref (b + 7)) hx hb hts in_X3 hown hK hP (xs_6 hP) (by decide) (by decide) rfl (xE_10 (xs_6 hP)) 0 (by decide) q180 rfl rfl dX3_step_171 ?_
      refine lv_iload_n hx hb dX3_step_174 rfl (lv_at hl 2 rfl) ?_
      obtain ⟨j_55, hj_55, ej_55, v_56, ev_56, h⟩ := h
      refine x_aald5 hx hb hK hP (xs_7 hP) ej_55 (by rw [xl_7 hP]; exact hj_55) dX3_step_175 ?_
      refine x_some ev_56 ?_
      have hk_v_56 : kd K v_56 = 9 := hP.ty (xs_7 hP) (by decide) ev_56
      refine x_getN (CC := RX2) (TT := TX2) (N := 3) (ci := 1) (v := .int (xi T_46 v_56 2)) hx hb hts in_X2 hown hK hV.1 hP hk_v_56 (by decide) (by decide) rfl (xE_9 hk_v_56) 2 (by decide) q160 rfl rfl dX3_step_176 ?_
      refine lv_bipush (v := 60) hx hb dX3_step_179 (by decide) ?_
      refine lv_icmp_gt (tgt := 188) hx hb dX3_step_181 (by decide) (fun c_59 => ?_) (fun c_59 => ?_)
      · have h := h.1 c_59
        refine lv_iconst (v := 0) hx hb dX3_step_188 (by decide) ?_
        obtain ⟨T_57, eT_57⟩ : ∃ z : XT, z = xwi T_46 6 7 0 := ⟨_, rfl⟩
        have h := h T_57 eT_57
        refine x_put (CC := RX3) (TT := TX3) (N := 9) (ci := 2) (T1 := T_57) (v := .int 0) (ty := .boolean) (fsf := fun T => fs10 (gem G) b T 6) hx hb hts in_X3 tyX3 tyX3_ok nmX3 hown hK hP hS (xs_6 hP) (by decide) (by decide) rfl (fun _ => xE_10 (xs_6 hP)) rfl 7 (by decide) q191 rfl (Or.inl rfl) rfl rfl rfl (by rw [eT_57]; exact fw10_7 _ b T_46 6 0) (by rw [eT_57]; exact fun q hq => xwi_i hq) (by rw [eT_57]; exact fun _ _ => rfl) (by rw [eT_57]; exact xwi_ty hP (by rw [(xs_6 hP)]; decide)) dX3_step_189 (fun H locs hP hS => ?_)
        exact J192 _ _ _ _ _ _ _ h  hP hS (lv_sub hl [3, 2, 1, 0] rfl)
      · have h := h.2 c_59
        refine lv_iconst (v := 1) hx hb dX3_step_184 (by decide) ?_
        refine lv_goto (tgt := 189) hx hb dX3_step_185 (by decide) ?_
        obtain ⟨T_58, eT_58⟩ : ∃ z : XT, z = xwi T_46 6 7 1 := ⟨_, rfl⟩
        have h := h T_58 eT_58
        refine x_put (CC := RX3) (TT := TX3) (N := 9) (ci := 2) (T1 := T_58) (v := .int 1) (ty := .boolean) (fsf := fun T => fs10 (gem G) b T 6) hx hb hts in_X3 tyX3 tyX3_ok nmX3 hown hK hP hS (xs_6 hP) (by decide) (by decide) rfl (fun _ => xE_10 (xs_6 hP)) rfl 7 (by decide) q191 rfl (Or.inl rfl) rfl rfl rfl (by rw [eT_58]; exact fw10_7 _ b T_46 6 1) (by rw [eT_58]; exact fun q hq => xwi_i hq) (by rw [eT_58]; exact fun _ _ => rfl) (by rw [eT_58]; exact xwi_ty hP (by rw [(xs_6 hP)]; decide)) dX3_step_189 (fun H locs hP hS => ?_)
        exact J192 _ _ _ _ _ _ _ h  hP hS (lv_sub hl [3, 2, 1, 0] rfl)
  · have h := h.2 c_75
    refine lv_aload_n hx hb dX3_step_20 rfl (lv_at hl 1 rfl) ?_
    refine x_get (CC := RX3) (TT := TX3) (N := 9) (ci := 2) (v := .ref (b + 8)) hx hb hts in_X3 hown hK hP (xs_6 hP) (by decide) (by decide) rfl (xE_10 (xs_6 hP)) 1 (by decide) q182 rfl rfl dX3_step_21 ?_
    refine lv_aload_n hx hb dX3_step_24 rfl (lv_at hl 1 rfl) ?_
    obtain ⟨v_61, ev_61, h⟩ := h
    refine x_get (CC := RX3) (TT := TX3) (N := 9) (ci := 2) (v := rfv b (xr T_22 6 2)) hx hb hts in_X3 hown hK hP (xs_6 hP) (by decide) (by decide) rfl (xE_10 (xs_6 hP)) 2 (by decide) q184 rfl rfl dX3_step_25 ?_
    refine x_some ev_61 ?_
    have hk_v_61 : kd K v_61 = 9 := hP.ty (xs_6 hP) (by decide) ev_61
    refine x_getN (CC := RX2) (TT := TX2) (N := 3) (ci := 1) (v := .ref (b + (v_61 + 1))) hx hb hts in_X2 hown hK hV.1 hP hk_v_61 (by decide) (by decide) rfl (xE_9 hk_v_61) 0 (by decide) q157 rfl rfl dX3_step_28 ?_
    refine lv_iconst (v := 0) hx hb dX3_step_31 (by decide) ?_
    obtain ⟨j_62, hj_62, ej_62, h⟩ := h
    refine x_iald hx hb hK hP (hP.row hk_v_61).1 ej_62 hj_62 dX3_step_32 ?_
    refine lv_aload_n hx hb dX3_step_33 rfl (lv_at hl 1 rfl) ?_
    obtain ⟨v_63, ev_63, h⟩ := h
    refine x_get (CC := RX3) (TT := TX3) (N := 9) (ci := 2) (v := rfv b (xr T_22 6 2)) hx hb hts in_X3 hown hK hP (xs_6 hP) (by decide) (by decide) rfl (xE_10 (xs_6 hP)) 2 (by decide) q184 rfl rfl dX3_step_34 ?_
    refine x_some ev_63 ?_
    have hk_v_63 : kd K v_63 = 9 := hP.ty (xs_6 hP) (by decide) ev_63
    refine x_getN (CC := RX2) (TT := TX2) (N := 3) (ci := 1) (v := .ref (b + (v_63 + 2))) hx hb hts in_X2 hown hK hV.1 hP hk_v_63 (by decide) (by decide) rfl (xE_9 hk_v_63) 1 (by decide) q159 rfl rfl dX3_step_37 ?_
    refine lv_iconst (v := 0) hx hb dX3_step_40 (by decide) ?_
    obtain ⟨j_64, hj_64, ej_64, h⟩ := h
    refine x_iald hx hb hK hP (hP.row hk_v_63).2 ej_64 hj_64 dX3_step_41 ?_
    refine x_cV (k := 8) (As := [.int (xi T_22 (v_61 + 1) j_62), .int (xi T_22 (v_63 + 2) j_64)]) (rest := []) ⟨hx, hb, hml, hown, hts⟩ (mx2_add l G b hole 8 (xi T_22 (v_61 + 1) j_62) (xi T_22 (v_63 + 2) j_64) K T_22 (xs_8 hP) _ h) (cwV 2 hts (lw_V q908 q909 q910 q119 q911) rfl rfl rfl cwx_X2_add ⟨Nat.le_of_ble_eq_true rfl, Nat.le_of_ble_eq_true rfl⟩) (x_recv (CC := RX2) (ci := 1) hK hP (xs_8 hP) (by decide) (by decide) rfl (xE_9 (xs_8 hP))) hK hV hb0 hP hS rfl hl.1 rfl (Nat.le_of_ble_eq_true rfl) dX3_step_42 ⟨by first | exact Nat.zero_le _ | (show _ + _ ≤ Z - kc K0; omega), by first | exact Nat.zero_le _ | (show _ + _ ≤ Y - ks K0; omega)⟩ (fun r_65 T1 K1 H locs h hle1 hc1 hs1 hP hS => ?_)
    obtain ⟨h, hKe⟩ := h
    rw [hKe] at hP
    generalize T1 = T_66 at h hP
    refine lv_aload_n hx hb dX3_step_45 rfl (lv_at hl 1 rfl) ?_
    obtain ⟨v_68, ev_68, h⟩ := h
    refine x_get (CC := RX3) (TT := TX3) (N := 9) (ci := 2) (v := rfv b (xr T_66 6 2)) hx hb hts in_X3 hown hK hP (xs_6 hP) (by decide) (by decide) rfl (xE_10 (xs_6 hP)) 2 (by decide) q184 rfl rfl dX3_step_46 ?_
    refine x_some ev_68 ?_
    have hk_v_68 : kd K v_68 = 9 := hP.ty (xs_6 hP) (by decide) ev_68
    refine x_cV (k := v_68) (As := []) (rest := []) ⟨hx, hb, hml, hown, hts⟩ (mx2_dropsFirst l G b hole v_68 K T_66 hk_v_68 _ h) (cwV 0 hts (lw_V q923 q924 q925 q119 q926) rfl rfl rfl cwx_X2_dropsFirst ⟨Nat.le_of_ble_eq_true rfl, Nat.le_of_ble_eq_true rfl⟩) (x_recv (CC := RX2) (ci := 1) hK hP hk_v_68 (by decide) (by decide) rfl (xE_9 hk_v_68)) hK hV hb0 hP hS rfl hl.1 rfl (Nat.le_of_ble_eq_true rfl) dX3_step_49 ⟨by first | exact Nat.zero_le _ | (show _ + _ ≤ Z - kc K0; omega), by first | exact Nat.zero_le _ | (show _ + _ ≤ Y - ks K0; omega)⟩ (fun r_69 T1 K1 H locs h hle1 hc1 hs1 hP hS => ?_)
    obtain ⟨h, hKe⟩ := h
    rw [hKe] at hP
    generalize T1 = T_70 at h hP
    refine lv_aload_n hx hb dX3_step_52 rfl (lv_at hl 1 rfl) ?_
    refine lv_aload_n hx hb dX3_step_53 rfl (lv_at hl 1 rfl) ?_
    refine x_get (CC := RX3) (TT := TX3) (N := 9) (ci := 2) (v := .ref (b + 8)) hx hb hts in_X3 hown hK hP (xs_6 hP) (by decide) (by decide) rfl (xE_10 (xs_6 hP)) 1 (by decide) q182 rfl rfl dX3_step_54 ?_
    refine x_getN (CC := RX2) (TT := TX2) (N := 3) (ci := 1) (v := .int (xi T_70 8 2)) hx hb hts in_X2 hown hK hV.1 hP (xs_8 hP) (by decide) (by decide) rfl (xE_9 (xs_8 hP)) 2 (by decide) q160 rfl rfl dX3_step_57 ?_
    refine lv_bipush (v := 60) hx hb dX3_step_60 (by decide) ?_
    refine lv_icmp_gt (tgt := 69) hx hb dX3_step_62 (by decide) (fun c_74 => ?_) (fun c_74 => ?_)
    · have h := h.1 c_74
      refine lv_iconst (v := 0) hx hb dX3_step_69 (by decide) ?_
      obtain ⟨T_72, eT_72⟩ : ∃ z : XT, z = xwi T_70 6 7 0 := ⟨_, rfl⟩
      have h := h T_72 eT_72
      refine x_put (CC := RX3) (TT := TX3) (N := 9) (ci := 2) (T1 := T_72) (v := .int 0) (ty := .boolean) (fsf := fun T => fs10 (gem G) b T 6) hx hb hts in_X3 tyX3 tyX3_ok nmX3 hown hK hP hS (xs_6 hP) (by decide) (by decide) rfl (fun _ => xE_10 (xs_6 hP)) rfl 7 (by decide) q191 rfl (Or.inl rfl) rfl rfl rfl (by rw [eT_72]; exact fw10_7 _ b T_70 6 0) (by rw [eT_72]; exact fun q hq => xwi_i hq) (by rw [eT_72]; exact fun _ _ => rfl) (by rw [eT_72]; exact xwi_ty hP (by rw [(xs_6 hP)]; decide)) dX3_step_70 (fun H locs hP hS => ?_)
      refine lv_goto (tgt := 288) hx hb dX3_step_73 (by decide) ?_
      exact J288 _ _ _ _ h  hP hS (lv_sub hl [1] rfl)
    · have h := h.2 c_74
      refine lv_iconst (v := 1) hx hb dX3_step_65 (by decide) ?_
      refine lv_goto (tgt := 70) hx hb dX3_step_66 (by decide) ?_
      obtain ⟨T_73, eT_73⟩ : ∃ z : XT, z = xwi T_70 6 7 1 := ⟨_, rfl⟩
      have h := h T_73 eT_73
      refine x_put (CC := RX3) (TT := TX3) (N := 9) (ci := 2) (T1 := T_73) (v := .int 1) (ty := .boolean) (fsf := fun T => fs10 (gem G) b T 6) hx hb hts in_X3 tyX3 tyX3_ok nmX3 hown hK hP hS (xs_6 hP) (by decide) (by decide) rfl (fun _ => xE_10 (xs_6 hP)) rfl 7 (by decide) q191 rfl (Or.inl rfl) rfl rfl rfl (by rw [eT_73]; exact fw10_7 _ b T_70 6 1) (by rw [eT_73]; exact fun q hq => xwi_i hq) (by rw [eT_73]; exact fun _ _ => rfl) (by rw [eT_73]; exact xwi_ty hP (by rw [(xs_6 hP)]; decide)) dX3_step_70 (fun H locs hP hS => ?_)
      refine lv_goto (tgt := 288) hx hb dX3_step_73 (by decide) ?_
      exact J288 _ _ _ _ h  hP hS (lv_sub hl [1] rfl)
theorem cwx_X3_done : yX3_done.cls = RX3 ∧ yX3_done.cls ≠ "java/lang/invoke/MethodHandle" ∧ yX3_done.cls ≠ "java/lang/invoke/VarHandle" ∧ (parseMethodDescriptor yX3_done.desc).map (fun d => d.parameters.length) = some 2 := by decide +kernel
def wx3_done_j153 (p1 : Nat) (p2 : Int32) (post : Nat → XT → Prop)  (K : XK) (T : XT) : Prop :=
    post 6 T
def wx3_done_b111 (p1 : Nat) (p2 : Int32) (post : Nat → XT → Prop) (R111 : XT → Prop)   (K : XK) (T : XT) : Prop :=
      (((xi T 6 7) = 0 →
        wx3_done_j153 p1 p2 post  K T) ∧
       (¬ ((xi T 6 7) = 0) →
        ∃ v_1 : Nat, xr T 6 2 = some v_1 ∧
        (((xi T v_1 2) ≤ 0 →
          wx3_done_j153 p1 p2 post  K T) ∧
         (¬ ((xi T v_1 2) ≤ 0) →
          ((¬ (xi T 6 5) = 500 →
            wx3_step  K T (fun T_3 =>
            R111 T_3)) ∧
           ((xi T 6 5) = 500 →
            ∀ T_5 : XT, T_5 = xwi T 6 7 0 →
            R111 T_5))))))
def wx3_done_l111 (p1 : Nat) (p2 : Int32) (post : Nat → XT → Prop)   (K : XK) (T : XT) : Prop := wLoop (fun (R : ((XT)) → Prop) (v : (XT)) => wx3_done_b111 p1 p2 post (fun T => R T)   K v) T
def wx3_done_b78 (p1 : Nat) (p2 : Int32) (post : Nat → XT → Prop) (R78 : Int32 → XT → Prop)  (x3 : Int32) (K : XK) (T : XT) : Prop :=
      (((xi T p1 2) ≤ x3 →
        wx3_done_l111 p1 p2 post  K T) ∧
       (¬ ((xi T p1 2) ≤ x3) →
        ∃ v_9 : Nat, xr T 6 2 = some v_9 ∧
        ∃ v_10 : Nat, xr T p1 0 = some v_10 ∧
        ∃ j_11 : Nat, j_11 < kl K v_10 ∧ x3 = nI j_11 ∧
        ∃ v_12 : Nat, xr T p1 1 = some v_12 ∧
        ∃ j_13 : Nat, j_13 < kl K v_12 ∧ x3 = nI j_13 ∧
        wx2_add v_9 (xi T v_10 j_11) (xi T v_12 j_13) K T (fun T_15 =>
        ∀ x3_17 : Int32, x3_17 = x3 + 1 →
        R78 x3_17 T_15)))
def wx3_done_l78 (p1 : Nat) (p2 : Int32) (post : Nat → XT → Prop)  (x3 : Int32) (K : XK) (T : XT) : Prop := wLoop (fun (R : ((Int32) × (XT)) → Prop) (v : (Int32) × (XT)) => wx3_done_b78 p1 p2 post (fun x3 T => R (x3, T))  v.1 K v.2) (x3, T)
def wx3_done_b43 (p1 : Nat) (p2 : Int32) (post : Nat → XT → Prop) (R43 : Int32 → XT → Prop) (x3 : Nat) (x4 : Int32) (x5 : Int32) (K : XK) (T : XT) : Prop :=
      ((x4 ≤ x5 →
        ∃ v_19 : Nat, xr T 6 2 = some v_19 ∧
        wx2_begins v_19 K T (fun r_20 T_21 =>
        wx3_done_l78 p1 p2 post 0 K T_21)) ∧
       (¬ (x4 ≤ x5) →
        ∃ j_23 : Nat, j_23 < kl K x3 ∧ x5 = nI j_23 ∧ ∃ v_24 : Nat, xr T x3 j_23 = some v_24 ∧
        wx2_begins v_24 K T (fun r_25 T_26 =>
        ∀ x5_28 : Int32, x5_28 = x5 + 1 →
        R43 x5_28 T_26)))
def wx3_done_l43 (p1 : Nat) (p2 : Int32) (post : Nat → XT → Prop) (x3 : Nat) (x4 : Int32) (x5 : Int32) (K : XK) (T : XT) : Prop := wLoop (fun (R : ((Int32) × (XT)) → Prop) (v : (Int32) × (XT)) => wx3_done_b43 p1 p2 post (fun x5 T => R (x5, T)) x3 x4 v.1 K v.2) (x5, T)
def wx3_done (p1 : Nat) (p2 : Int32) (K : XK) (T : XT) (post : Nat → XT → Prop) : Prop :=
  ∀ T_30 : XT, T_30 = xwi T 6 4 p2 →
  ∀ T_31 : XT, T_31 = xwi T_30 6 5 0 →
  ∀ T_32 : XT, T_32 = xwi T_31 6 6 (xi T_31 p1 2) →
  ∀ T_33 : XT, T_33 = xwi T_32 6 7 1 →
  wx2_begins 8 K T_33 (fun r_34 T_35 =>
  ∀ x4_37 : Int32, x4_37 = (nI 8) →
  wx3_done_l43 p1 p2 post 7 x4_37 0 K T_35)
set_option maxHeartbeats 4000000 in
theorem mx3_done (l : Launch) (G : XG) (b : Nat) (hole : Nat → Prop) (p1 : Nat) (p2 : Int32) (K : XK) (T : XT) (hk_p1 : kd K p1 = 2) (post : Nat → XT → Prop) (h : wx3_done p1 p2 K T post) : Met l yX3_done (ws_ yX3_done cX3_done 7 (some (.object "TermDesk$Division"))) ({ frames := 6, cells := 0, slots := 0, locals := 143 } : Room) (xPc G b hole [.ref (b + 6), .ref (b + p1), .int p2] K T) (xQ G b hole K 0 0 (ρ := Nat) (eR b) (fun r T1 K1 => post r T1 ∧ kd K1 r = 10 ∧ K1 = K)) 0 0 (xA b hole) := by
  refine Met.ofW (cc := cX3_done) (maxL := 7) (ret := (some (.object "TermDesk$Division"))) (by decide) rfl ?_
  intro p e s m args below meth c s₁ B hml hv
  obtain ⟨rfl, hP, hK, hV⟩ := hv
  have hx := B.exec
  have hb := B.bytes
  have hr := B.returns
  have hts := atoms_spec (ws := ws_ yX3_done cX3_done 7 (some (.object "TermDesk$Division"))) B.pre
  have hts : ∀ w ∈ lw_all, w.before _ s = true := fun w h => hts w (List.mem_cons_of_mem _ h)
  have hown : s.vm.findClass RX3 = some m.cls := findClass_of_methodNamed B.named
  have hlocks := B.notSynchronized
  have hb0 : b ≤ s.heap.size := by rw [hP.2.2.2]; exact Nat.le_add_right _ _
  have hS : va_S (xA b hole) s.heap s.heap [] := va_S.rf
  have hl := lv_entry ([.ref (b + 6), .ref (b + p1), .int p2]) (n := 7) (Nat.le_of_ble_eq_true rfl)
  rw [lg_entry_eq]
  generalize (lg_sl ([.ref (b + 6), .ref (b + p1), .int p2]) ++ List.replicate (7 - (lg_sl ([.ref (b + 6), .ref (b + p1), .int p2])).length) Slot.unset).toArray = ls at hl ⊢
  have hl : lv_has ls 7 [(0, .ref (b + 6)), (1, .ref (b + p1)), (2, .int p2)] := hl
  have J153 : ∀  (T : XT) (H : Heap) (locs : List Loc) (ls : Array Slot), wx3_done_j153 p1 p2 post  K T → xW G b hole K T H → va_S (xA b hole) s.heap H locs → lv_has ls 7 [(0, .ref (b + 6))] → W p l e (headSpec (ws_ yX3_done cX3_done 7 (some (.object "TermDesk$Division"))) ({ frames := 6, cells := 0, slots := 0, locals := 143 } : Room)).room s m ([.ref (b + 6), .ref (b + p1), .int p2] : List Value).toArray below meth c H locs 0 0 (MQ below (xQ G b hole K 0 0 (ρ := Nat) (eR b) (fun r T1 K1 => post r T1 ∧ kd K1 r = 10 ∧ K1 = K)) ([.ref (b + 6), .ref (b + p1), .int p2] : List Value).toArray s 0 0 (xA b hole)) (F0 m 153 ls []) := by
    intro  T H locs ls h hP hS hl
    unfold wx3_done_j153 at h
    refine lv_aload_n hx hb dX3_done_153 rfl (lv_at hl 0 rfl) ?_
    exact W.aret (v := .ref (b + 6)) hx hb hr (Or.inl ⟨_, rfl⟩) (Or.inr ⟨_, rfl⟩) (fun t ht hW => ⟨⟨6, T, K, rfl, ⟨h, (xs_6 hP), rfl⟩, kle.rf, rfl, rfl, by rw [ht]; exact hP, va_K.moved hW.alike hK⟩, hS.F ht⟩) hS.2.2 dX3_done_154
  have L111 : ∀  (T : XT) (H : Heap) (locs : List Loc) (ls : Array Slot), wx3_done_l111 p1 p2 post   K T → xW G b hole K T H → va_S (xA b hole) s.heap H locs → lv_has ls 7 [(0, .ref (b + 6))] → W p l e (headSpec (ws_ yX3_done cX3_done 7 (some (.object "TermDesk$Division"))) ({ frames := 6, cells := 0, slots := 0, locals := 143 } : Room)).room s m ([.ref (b + 6), .ref (b + p1), .int p2] : List Value).toArray below meth c H locs 0 0 (MQ below (xQ G b hole K 0 0 (ρ := Nat) (eR b) (fun r T1 K1 => post r T1 ∧ kd K1 r = 10 ∧ K1 = K)) ([.ref (b + 6), .ref (b + p1), .int p2] : List Value).toArray s 0 0 (xA b hole)) (F0 m 111 ls []) := by
    intro  T H locs ls h hP hS hl
    obtain ⟨I111, n111, hI, hstep111⟩ := h
    induction n111 using Nat.strongRecOn generalizing T H locs ls with
    | ind n111 ih111 =>
      have h : wx3_done_b111 p1 p2 post (fun T => ∃ mm, mm < n111 ∧ I111 mm T)   K T := hstep111 n111 _ hI
      clear hI
      unfold wx3_done_b111 at h
      refine lv_aload_n hx hb dX3_done_111 rfl (lv_at hl 0 rfl) ?_
      refine x_get (CC := RX3) (TT := TX3) (N := 9) (ci := 2) (v := .int (xi T 6 7)) hx hb hts in_X3 hown hK hP (xs_6 hP) (by decide) (by decide) rfl (xE_10 (xs_6 hP)) 7 (by decide) q191 rfl rfl dX3_done_112 ?_
      refine lv_if_eq (tgt := 153) hx hb dX3_done_115 (by decide) (fun c_8 => ?_) (fun c_8 => ?_)
      · have h := h.1 c_8
        exact J153 _ _ _ _ h  hP hS (lv_sub hl [0] rfl)
      · have h := h.2 c_8
        refine lv_aload_n hx hb dX3_done_118 rfl (lv_at hl 0 rfl) ?_
        obtain ⟨v_1, ev_1, h⟩ := h
        refine x_get (CC := RX3) (TT := TX3) (N := 9) (ci := 2) (v := rfv b (xr T 6 2)) hx hb hts in_X3 hown hK hP (xs_6 hP) (by decide) (by decide) rfl (xE_10 (xs_6 hP)) 2 (by decide) q184 rfl rfl dX3_done_119 ?_
        refine x_some ev_1 ?_
        have hk_v_1 : kd K v_1 = 9 := hP.ty (xs_6 hP) (by decide) ev_1
        refine x_getN (CC := RX2) (TT := TX2) (N := 3) (ci := 1) (v := .int (xi T v_1 2)) hx hb hts in_X2 hown hK hV.1 hP hk_v_1 (by decide) (by decide) rfl (xE_9 hk_v_1) 2 (by decide) q160 rfl rfl dX3_done_122 ?_
        refine lv_if_le (tgt := 153) hx hb dX3_done_125 (by decide) (fun c_7 => ?_) (fun c_7 => ?_)
        · have h := h.1 c_7
          exact J153 _ _ _ _ h  hP hS (lv_sub hl [0] rfl)
        · have h := h.2 c_7
          refine lv_aload_n hx hb dX3_done_128 rfl (lv_at hl 0 rfl) ?_
          refine x_get (CC := RX3) (TT := TX3) (N := 9) (ci := 2) (v := .int (xi T 6 5)) hx hb hts in_X3 hown hK hP (xs_6 hP) (by decide) (by decide) rfl (xE_10 (xs_6 hP)) 5 (by decide) q187 rfl rfl dX3_done_129 ?_
          refine lv_sipush (v := 500) hx hb dX3_done_132 (by decide) ?_
          refine lv_icmp_ne (tgt := 146) hx hb dX3_done_135 (by decide) (fun c_6 => ?_) (fun c_6 => ?_)
          · have h := h.1 c_6
            refine lv_aload_n hx hb dX3_done_146 rfl (lv_at hl 0 rfl) ?_
            refine x_cV (k := 6) (As := []) (rest := []) ⟨hx, hb, hml, hown, hts⟩ (mx3_step l G b hole  K T  _ h) (cwV 0 hts (lw_V q912 q914 qs35 q120 q915) rfl rfl rfl cwx_X3_step ⟨Nat.le_of_ble_eq_true rfl, Nat.le_of_ble_eq_true rfl⟩) (x_recv (CC := RX3) (ci := 2) hK hP (xs_6 hP) (by decide) (by decide) rfl (xE_10 (xs_6 hP))) hK hV hb0 hP hS rfl hl.1 rfl (Nat.le_of_ble_eq_true rfl) dX3_done_147 ⟨by first | exact Nat.zero_le _ | (show _ + _ ≤ Z - kc K0; omega), by first | exact Nat.zero_le _ | (show _ + _ ≤ Y - ks K0; omega)⟩ (fun r_2 T1 K1 H locs h hle1 hc1 hs1 hP hS => ?_)
            obtain ⟨h, hKe⟩ := h
            rw [hKe] at hP
            generalize T1 = T_3 at h hP
            refine lv_goto (tgt := 111) hx hb dX3_done_150 (by decide) ?_
            obtain ⟨mm, hmm, h⟩ := h
            exact ih111 mm hmm _ _ _ _  hP hS (lv_sub hl [0] rfl) h
          · have h := h.2 c_6
            refine lv_aload_n hx hb dX3_done_138 rfl (lv_at hl 0 rfl) ?_
            refine lv_iconst (v := 0) hx hb dX3_done_139 (by decide) ?_
            obtain ⟨T_5, eT_5⟩ : ∃ z : XT, z = xwi T 6 7 0 := ⟨_, rfl⟩
            have h := h T_5 eT_5
            refine x_put (CC := RX3) (TT := TX3) (N := 9) (ci := 2) (T1 := T_5) (v := .int 0) (ty := .boolean) (fsf := fun T => fs10 (gem G) b T 6) hx hb hts in_X3 tyX3 tyX3_ok nmX3 hown hK hP hS (xs_6 hP) (by decide) (by decide) rfl (fun _ => xE_10 (xs_6 hP)) rfl 7 (by decide) q191 rfl (Or.inl rfl) rfl rfl rfl (by rw [eT_5]; exact fw10_7 _ b T 6 0) (by rw [eT_5]; exact fun q hq => xwi_i hq) (by rw [eT_5]; exact fun _ _ => rfl) (by rw [eT_5]; exact xwi_ty hP (by rw [(xs_6 hP)]; decide)) dX3_done_140 (fun H locs hP hS => ?_)
            refine lv_goto (tgt := 111) hx hb dX3_done_143 (by decide) ?_
            obtain ⟨mm, hmm, h⟩ := h
            exact ih111 mm hmm _ _ _ _  hP hS (lv_sub hl [0] rfl) h
  have L78 : ∀ (x3 : Int32) (T : XT) (H : Heap) (locs : List Loc) (ls : Array Slot), wx3_done_l78 p1 p2 post  x3 K T → xW G b hole K T H → va_S (xA b hole) s.heap H locs → lv_has ls 7 [(0, .ref (b + 6)), (1, .ref (b + p1)), (3, .int x3)] → W p l e (headSpec (ws_ yX3_done cX3_done 7 (some (.object "TermDesk$Division"))) ({ frames := 6, cells := 0, slots := 0, locals := 143 } : Room)).room s m ([.ref (b + 6), .ref (b + p1), .int p2] : List Value).toArray below meth c H locs 0 0 (MQ below (xQ G b hole K 0 0 (ρ := Nat) (eR b) (fun r T1 K1 => post r T1 ∧ kd K1 r = 10 ∧ K1 = K)) ([.ref (b + 6), .ref (b + p1), .int p2] : List Value).toArray s 0 0 (xA b hole)) (F0 m 78 ls []) := by
    intro x3 T H locs ls h hP hS hl
    obtain ⟨I78, n78, hI, hstep78⟩ := h
    induction n78 using Nat.strongRecOn generalizing x3 T H locs ls with
    | ind n78 ih78 =>
      have h : wx3_done_b78 p1 p2 post (fun x3 T => ∃ mm, mm < n78 ∧ I78 mm (x3, T))  x3 K T := hstep78 n78 _ hI
      clear hI
      unfold wx3_done_b78 at h
      refine lv_iload_n hx hb dX3_done_78 rfl (lv_at hl 2 rfl) ?_
      refine lv_aload_n hx hb dX3_done_79 rfl (lv_at hl 1 rfl) ?_
      refine x_get (CC := RX6) (TT := TX6) (N := 3) (ci := 5) (v := .int (xi T p1 2)) hx hb hts in_X6 hown hK hP hk_p1 (by decide) (by decide) rfl (xE_2 hk_p1) 2 (by decide) q371 rfl rfl dX3_done_80 ?_
      refine lv_icmp_ge (tgt := 111) hx hb dX3_done_83 (by decide) (fun c_18 => ?_) (fun c_18 => ?_)
      · have h := h.1 c_18
        exact L111 _ _ _ _ h  hP hS (lv_sub hl [0] rfl)
      · have h := h.2 c_18
        refine lv_aload_n hx hb dX3_done_86 rfl (lv_at hl 0 rfl) ?_
        obtain ⟨v_9, ev_9, h⟩ := h
        refine x_get (CC := RX3) (TT := TX3) (N := 9) (ci := 2) (v := rfv b (xr T 6 2)) hx hb hts in_X3 hown hK hP (xs_6 hP) (by decide) (by decide) rfl (xE_10 (xs_6 hP)) 2 (by decide) q184 rfl rfl dX3_done_87 ?_
        refine x_some ev_9 ?_
        have hk_v_9 : kd K v_9 = 9 := hP.ty (xs_6 hP) (by decide) ev_9
        refine lv_aload_n hx hb dX3_done_90 rfl (lv_at hl 1 rfl) ?_
        obtain ⟨v_10, ev_10, h⟩ := h
        refine x_get (CC := RX6) (TT := TX6) (N := 3) (ci := 5) (v := rfv b (xr T p1 0)) hx hb hts in_X6 hown hK hP hk_p1 (by decide) (by decide) rfl (xE_2 hk_p1) 0 (by decide) q365 rfl rfl dX3_done_91 ?_
        refine x_some ev_10 ?_
        have hk_v_10 : kd K v_10 = 1 := hP.ty hk_p1 (by decide) ev_10
        refine lv_iload_n hx hb dX3_done_94 rfl (lv_at hl 2 rfl) ?_
        obtain ⟨j_11, hj_11, ej_11, h⟩ := h
        refine x_iald hx hb hK hP hk_v_10 ej_11 hj_11 dX3_done_95 ?_
        refine lv_aload_n hx hb dX3_done_96 rfl (lv_at hl 1 rfl) ?_
        obtain ⟨v_12, ev_12, h⟩ := h
        refine x_get (CC := RX6) (TT := TX6) (N := 3) (ci := 5) (v := rfv b (xr T p1 1)) hx hb hts in_X6 hown hK hP hk_p1 (by decide) (by decide) rfl (xE_2 hk_p1) 1 (by decide) q368 rfl rfl dX3_done_97 ?_
        refine x_some ev_12 ?_
        have hk_v_12 : kd K v_12 = 1 := hP.ty hk_p1 (by decide) ev_12
        refine lv_iload_n hx hb dX3_done_100 rfl (lv_at hl 2 rfl) ?_
        obtain ⟨j_13, hj_13, ej_13, h⟩ := h
        refine x_iald hx hb hK hP hk_v_12 ej_13 hj_13 dX3_done_101 ?_
        refine x_cV (k := v_9) (As := [.int (xi T v_10 j_11), .int (xi T v_12 j_13)]) (rest := []) ⟨hx, hb, hml, hown, hts⟩ (mx2_add l G b hole v_9 (xi T v_10 j_11) (xi T v_12 j_13) K T hk_v_9 _ h) (cwV 2 hts (lw_V q908 q909 q910 q119 q911) rfl rfl rfl cwx_X2_add ⟨Nat.le_of_ble_eq_true rfl, Nat.le_of_ble_eq_true rfl⟩) (x_recv (CC := RX2) (ci := 1) hK hP hk_v_9 (by decide) (by decide) rfl (xE_9 hk_v_9)) hK hV hb0 hP hS rfl hl.1 rfl (Nat.le_of_ble_eq_true rfl) dX3_done_102 ⟨by first | exact Nat.zero_le _ | (show _ + _ ≤ Z - kc K0; omega), by first | exact Nat.zero_le _ | (show _ + _ ≤ Y - ks K0; omega)⟩ (fun r_14 T1 K1 H locs h hle1 hc1 hs1 hP hS => ?_)
        obtain ⟨h, hKe⟩ := h
        rw [hKe] at hP
        generalize T1 = T_15 at h hP
        obtain ⟨x3_17, ex3_17⟩ : ∃ y : Int32, y = x3 + 1 := ⟨_, rfl⟩
        have h := h x3_17 ex3_17
        refine lv_iinc (v := x3_17) (lv' := [(3, .int x3_17), (0, .ref (b + 6)), (1, .ref (b + p1))]) hx hb dX3_done_105 hl (k := 2) rfl (by rw [ex3_17]; rfl) (by decide) rfl (fun ls hl => ?_)
        refine lv_goto (tgt := 78) hx hb dX3_done_108 (by decide) ?_
        obtain ⟨mm, hmm, h⟩ := h
        exact ih78 mm hmm _ _ _ _ _  hP hS (lv_sub hl [1, 2, 0] rfl) h
  have L43 : ∀ (x3 : Nat) (x4 : Int32) (x5 : Int32) (T : XT) (H : Heap) (locs : List Loc) (ls : Array Slot), wx3_done_l43 p1 p2 post x3 x4 x5 K T → (kd K x3 = 5) → xW G b hole K T H → va_S (xA b hole) s.heap H locs → lv_has ls 7 [(0, .ref (b + 6)), (1, .ref (b + p1)), (3, .ref (b + x3)), (4, .int x4), (5, .int x5)] → W p l e (headSpec (ws_ yX3_done cX3_done 7 (some (.object "TermDesk$Division"))) ({ frames := 6, cells := 0, slots := 0, locals := 143 } : Room)).room s m ([.ref (b + 6), .ref (b + p1), .int p2] : List Value).toArray below meth c H locs 0 0 (MQ below (xQ G b hole K 0 0 (ρ := Nat) (eR b) (fun r T1 K1 => post r T1 ∧ kd K1 r = 10 ∧ K1 = K)) ([.ref (b + 6), .ref (b + p1), .int p2] : List Value).toArray s 0 0 (xA b hole)) (F0 m 43 ls []) := by
    intro x3 x4 x5 T H locs ls h hk_x3 hP hS hl
    obtain ⟨I43, n43, hI, hstep43⟩ := h
    induction n43 using Nat.strongRecOn generalizing x5 T H locs ls with
    | ind n43 ih43 =>
      have h : wx3_done_b43 p1 p2 post (fun x5 T => ∃ mm, mm < n43 ∧ I43 mm (x5, T)) x3 x4 x5 K T := hstep43 n43 _ hI
      clear hI
      unfold wx3_done_b43 at h
      refine lv_iload hx hb dX3_done_43 (lv_at hl 4 rfl) ?_
      refine lv_iload hx hb dX3_done_45 (lv_at hl 3 rfl) ?_
      refine lv_icmp_ge (tgt := 68) hx hb dX3_done_47 (by decide) (fun c_29 => ?_) (fun c_29 => ?_)
      · have h := h.1 c_29
        refine lv_aload_n hx hb dX3_done_68 rfl (lv_at hl 0 rfl) ?_
        obtain ⟨v_19, ev_19, h⟩ := h
        refine x_get (CC := RX3) (TT := TX3) (N := 9) (ci := 2) (v := rfv b (xr T 6 2)) hx hb hts in_X3 hown hK hP (xs_6 hP) (by decide) (by decide) rfl (xE_10 (xs_6 hP)) 2 (by decide) q184 rfl rfl dX3_done_69 ?_
        refine x_some ev_19 ?_
        have hk_v_19 : kd K v_19 = 9 := hP.ty (xs_6 hP) (by decide) ev_19
        refine x_cV (k := v_19) (As := []) (rest := []) ⟨hx, hb, hml, hown, hts⟩ (mx2_begins l G b hole v_19 K T hk_v_19 _ h) (cwV 0 hts (lw_V q904 q905 q906 q119 q907) rfl rfl rfl cwx_X2_begins ⟨Nat.le_of_ble_eq_true rfl, Nat.le_of_ble_eq_true rfl⟩) (x_recv (CC := RX2) (ci := 1) hK hP hk_v_19 (by decide) (by decide) rfl (xE_9 hk_v_19)) hK hV hb0 hP hS rfl hl.1 rfl (Nat.le_of_ble_eq_true rfl) dX3_done_72 ⟨by first | exact Nat.zero_le _ | (show _ + _ ≤ Z - kc K0; omega), by first | exact Nat.zero_le _ | (show _ + _ ≤ Y - ks K0; omega)⟩ (fun r_20 T1 K1 H locs h hle1 hc1 hs1 hP hS => ?_)
        obtain ⟨h, hk_r_20, hKe⟩ := h
        rw [hKe] at hP
        generalize T1 = T_21 at h hP
        rw [hKe] at hk_r_20
        refine lv_pop hx hb dX3_done_75 rfl ?_
        refine lv_iconst (v := 0) hx hb dX3_done_76 (by decide) ?_
        refine lv_istore_n (lv' := [(3, .int 0), (0, .ref (b + 6)), (1, .ref (b + p1)), (4, .int x4), (5, .int x5)]) hx hb dX3_done_77 rfl hl (by decide) rfl (fun ls hl => ?_)
        exact L78 _ _ _ _ _ h  hP hS (lv_sub hl [1, 2, 0] rfl)
      · have h := h.2 c_29
        refine lv_aload_n hx hb dX3_done_50 rfl (lv_at hl 2 rfl) ?_
        refine lv_iload hx hb dX3_done_51 (lv_at hl 4 rfl) ?_
        obtain ⟨j_23, hj_23, ej_23, v_24, ev_24, h⟩ := h
        refine x_aald5 hx hb hK hP hk_x3 ej_23 hj_23 dX3_done_53 ?_
        refine x_some ev_24 ?_
        have hk_v_24 : kd K v_24 = 9 := hP.ty hk_x3 (by decide) ev_24
        refine lv_astore (lv' := [(6, .ref (b + v_24)), (0, .ref (b + 6)), (1, .ref (b + p1)), (3, .ref (b + x3)), (4, .int x4), (5, .int x5)]) hx hb dX3_done_54 hl (by decide) rfl (fun ls hl => ?_)
        refine lv_aload hx hb dX3_done_56 (lv_at hl 0 rfl) ?_
        refine x_cV (k := v_24) (As := []) (rest := []) ⟨hx, hb, hml, hown, hts⟩ (mx2_begins l G b hole v_24 K T hk_v_24 _ h) (cwV 0 hts (lw_V q904 q905 q906 q119 q907) rfl rfl rfl cwx_X2_begins ⟨Nat.le_of_ble_eq_true rfl, Nat.le_of_ble_eq_true rfl⟩) (x_recv (CC := RX2) (ci := 1) hK hP hk_v_24 (by decide) (by decide) rfl (xE_9 hk_v_24)) hK hV hb0 hP hS rfl hl.1 rfl (Nat.le_of_ble_eq_true rfl) dX3_done_58 ⟨by first | exact Nat.zero_le _ | (show _ + _ ≤ Z - kc K0; omega), by first | exact Nat.zero_le _ | (show _ + _ ≤ Y - ks K0; omega)⟩ (fun r_25 T1 K1 H locs h hle1 hc1 hs1 hP hS => ?_)
        obtain ⟨h, hk_r_25, hKe⟩ := h
        rw [hKe] at hP
        generalize T1 = T_26 at h hP
        rw [hKe] at hk_r_25
        refine lv_pop hx hb dX3_done_61 rfl ?_
        obtain ⟨x5_28, ex5_28⟩ : ∃ y : Int32, y = x5 + 1 := ⟨_, rfl⟩
        have h := h x5_28 ex5_28
        refine lv_iinc (v := x5_28) (lv' := [(5, .int x5_28), (6, .ref (b + v_24)), (0, .ref (b + 6)), (1, .ref (b + p1)), (3, .ref (b + x3)), (4, .int x4)]) hx hb dX3_done_62 hl (k := 5) rfl (by rw [ex5_28]; rfl) (by decide) rfl (fun ls hl => ?_)
        refine lv_goto (tgt := 43) hx hb dX3_done_65 (by decide) ?_
        obtain ⟨mm, hmm, h⟩ := h
        exact ih43 mm hmm _ _ _ _ _  hP hS (lv_sub hl [2, 3, 4, 5, 0] rfl) h
  unfold wx3_done at h
  refine lv_aload_n hx hb dX3_done_0 rfl (lv_at hl 0 rfl) ?_
  refine lv_iload_n hx hb dX3_done_1 rfl (lv_at hl 2 rfl) ?_
  obtain ⟨T_30, eT_30⟩ : ∃ z : XT, z = xwi T 6 4 p2 := ⟨_, rfl⟩
  have h := h T_30 eT_30
  refine x_put (CC := RX3) (TT := TX3) (N := 9) (ci := 2) (T1 := T_30) (v := .int p2) (ty := .int) (fsf := fun T => fs10 (gem G) b T 6) hx hb hts in_X3 tyX3 tyX3_ok nmX3 hown hK hP hS (xs_6 hP) (by decide) (by decide) rfl (fun _ => xE_10 (xs_6 hP)) rfl 4 (by decide) q186 rfl (Or.inl rfl) rfl rfl rfl (by rw [eT_30]; exact fw10_4 _ b T 6 p2) (by rw [eT_30]; exact fun q hq => xwi_i hq) (by rw [eT_30]; exact fun _ _ => rfl) (by rw [eT_30]; exact xwi_ty hP (by rw [(xs_6 hP)]; decide)) dX3_done_2 (fun H locs hP hS => ?_)
  refine lv_aload_n hx hb dX3_done_5 rfl (lv_at hl 0 rfl) ?_
  refine lv_iconst (v := 0) hx hb dX3_done_6 (by decide) ?_
  obtain ⟨T_31, eT_31⟩ : ∃ z : XT, z = xwi T_30 6 5 0 := ⟨_, rfl⟩
  have h := h T_31 eT_31
  refine x_put (CC := RX3) (TT := TX3) (N := 9) (ci := 2) (T1 := T_31) (v := .int 0) (ty := .int) (fsf := fun T => fs10 (gem G) b T 6) hx hb hts in_X3 tyX3 tyX3_ok nmX3 hown hK hP hS (xs_6 hP) (by decide) (by decide) rfl (fun _ => xE_10 (xs_6 hP)) rfl 5 (by decide) q187 rfl (Or.inl rfl) rfl rfl rfl (by rw [eT_31]; exact fw10_5 _ b T_30 6 0) (by rw [eT_31]; exact fun q hq => xwi_i hq) (by rw [eT_31]; exact fun _ _ => rfl) (by rw [eT_31]; exact xwi_ty hP (by rw [(xs_6 hP)]; decide)) dX3_done_7 (fun H locs hP hS => ?_)
  refine lv_aload_n hx hb dX3_done_10 rfl (lv_at hl 0 rfl) ?_
  refine lv_aload_n hx hb dX3_done_11 rfl (lv_at hl 1 rfl) ?_
  refine x_get (CC := RX6) (TT := TX6) (N := 3) (ci := 5) (v := .int (xi T_31 p1 2)) hx hb hts in_X6 hown hK hP hk_p1 (by decide) (by decide) rfl (xE_2 hk_p1) 2 (by decide) q371 rfl rfl dX3_done_12 ?_
  obtain ⟨T_32, eT_32⟩ : ∃ z : XT, z = xwi T_31 6 6 (xi T_31 p1 2) := ⟨_, rfl⟩
  have h := h T_32 eT_32
  refine x_put (CC := RX3) (TT := TX3) (N := 9) (ci := 2) (T1 := T_32) (v := .int (xi T_31 p1 2)) (ty := .int) (fsf := fun T => fs10 (gem G) b T 6) hx hb hts in_X3 tyX3 tyX3_ok nmX3 hown hK hP hS (xs_6 hP) (by decide) (by decide) rfl (fun _ => xE_10 (xs_6 hP)) rfl 6 (by decide) q189 rfl (Or.inl rfl) rfl rfl rfl (by rw [eT_32]; exact fw10_6 _ b T_31 6 (xi T_31 p1 2)) (by rw [eT_32]; exact fun q hq => xwi_i hq) (by rw [eT_32]; exact fun _ _ => rfl) (by rw [eT_32]; exact xwi_ty hP (by rw [(xs_6 hP)]; decide)) dX3_done_15 (fun H locs hP hS => ?_)
  refine lv_aload_n hx hb dX3_done_18 rfl (lv_at hl 0 rfl) ?_
  refine lv_iconst (v := 1) hx hb dX3_done_19 (by decide) ?_
  obtain ⟨T_33, eT_33⟩ : ∃ z : XT, z = xwi T_32 6 7 1 := ⟨_, rfl⟩
  have h := h T_33 eT_33
  refine x_put (CC := RX3) (TT := TX3) (N := 9) (ci := 2) (T1 := T_33) (v := .int 1) (ty := .boolean) (fsf := fun T => fs10 (gem G) b T 6) hx hb hts in_X3 tyX3 tyX3_ok nmX3 hown hK hP hS (xs_6 hP) (by decide) (by decide) rfl (fun _ => xE_10 (xs_6 hP)) rfl 7 (by decide) q191 rfl (Or.inl rfl) rfl rfl rfl (by rw [eT_33]; exact fw10_7 _ b T_32 6 1) (by rw [eT_33]; exact fun q hq => xwi_i hq) (by rw [eT_33]; exact fun _ _ => rfl) (by rw [eT_33]; exact xwi_ty hP (by rw [(xs_6 hP)]; decide)) dX3_done_20 (fun H locs hP hS => ?_)
  refine lv_aload_n hx hb dX3_done_23 rfl (lv_at hl 0 rfl) ?_
  refine x_get (CC := RX3) (TT := TX3) (N := 9) (ci := 2) (v := .ref (b + 8)) hx hb hts in_X3 hown hK hP (xs_6 hP) (by decide) (by decide) rfl (xE_10 (xs_6 hP)) 1 (by decide) q182 rfl rfl dX3_done_24 ?_
  refine x_cV (k := 8) (As := []) (rest := []) ⟨hx, hb, hml, hown, hts⟩ (mx2_begins l G b hole 8 K T_33 (xs_8 hP) _ h) (cwV 0 hts (lw_V q904 q905 q906 q119 q907) rfl rfl rfl cwx_X2_begins ⟨Nat.le_of_ble_eq_true rfl, Nat.le_of_ble_eq_true rfl⟩) (x_recv (CC := RX2) (ci := 1) hK hP (xs_8 hP) (by decide) (by decide) rfl (xE_9 (xs_8 hP))) hK hV hb0 hP hS rfl hl.1 rfl (Nat.le_of_ble_eq_true rfl) dX3_done_27 ⟨by first | exact Nat.zero_le _ | (show _ + _ ≤ Z - kc K0; omega), by first | exact Nat.zero_le _ | (show _ + _ ≤ Y - ks K0; omega)⟩ (fun r_34 T1 K1 H locs h hle1 hc1 hs1 hP hS => ?_)
  obtain ⟨h, hk_r_34, hKe⟩ := h
  rw [hKe] at hP
  generalize T1 = T_35 at h hP
  rw [hKe] at hk_r_34
  refine lv_pop hx hb dX3_done_30 rfl ?_
  refine lv_aload_n hx hb dX3_done_31 rfl (lv_at hl 0 rfl) ?_
  refine x_get (CC := RX3) (TT := TX3) (N := 9) (ci := 2) (v := .ref (b + 7)) hx hb hts in_X3 hown hK hP (xs_6 hP) (by decide) (by decide) rfl (xE_10 (xs_6 hP)) 0 (by decide) q180 rfl rfl dX3_done_32 ?_
  refine lv_astore_n (lv' := [(3, .ref (b + 7)), (0, .ref (b + 6)), (1, .ref (b + p1)), (2, .int p2)]) hx hb dX3_done_35 rfl hl (by decide) rfl (fun ls hl => ?_)
  refine lv_aload_n hx hb dX3_done_36 rfl (lv_at hl 0 rfl) ?_
  refine x_alen5 hx hb hK hP (xs_7 hP) dX3_done_37 ?_
  rw [xl_7 hP]
  refine lv_topi (fun x4_37 ex4_37 => ?_)
  have h := h x4_37 ex4_37
  refine lv_istore (lv' := [(4, .int x4_37), (3, .ref (b + 7)), (0, .ref (b + 6)), (1, .ref (b + p1)), (2, .int p2)]) hx hb dX3_done_38 hl (by decide) rfl (fun ls hl => ?_)
  refine lv_iconst (v := 0) hx hb dX3_done_40 (by decide) ?_
  refine lv_istore (lv' := [(5, .int 0), (4, .int x4_37), (3, .ref (b + 7)), (0, .ref (b + 6)), (1, .ref (b + p1)), (2, .int p2)]) hx hb dX3_done_41 hl (by decide) rfl (fun ls hl => ?_)
  exact L43 _ _ _ _ _ _ _ h (xs_7 hP) hP hS (lv_sub hl [3, 4, 2, 1, 0] rfl)
theorem cwx_X1_divides : yX1_divides.cls = RX1 ∧ yX1_divides.cls ≠ "java/lang/invoke/MethodHandle" ∧ yX1_divides.cls ≠ "java/lang/invoke/VarHandle" ∧ (parseMethodDescriptor yX1_divides.desc).map (fun d => d.parameters.length) = some 2 := by decide +kernel
def wx1_divides (p1 : Nat) (p2 : Int32) (K : XK) (T : XT) (post : Int32 → XT → Prop) : Prop :=
  wx1_hasZero p2 K T (fun r_1 =>
  ((r_1 = 0 →
    wx3_done p1 p2 K T (fun r_4 T_5 =>
    (((xi T_5 r_4 7) = 0 →
      post 3 T_5) ∧
     (¬ ((xi T_5 r_4 7) = 0) →
      post 0 T_5)))) ∧
   (¬ (r_1 = 0) →
    post 5 T)))
set_option maxHeartbeats 4000000 in
theorem mx1_divides (l : Launch) (G : XG) (b : Nat) (hole : Nat → Prop) (p1 : Nat) (p2 : Int32) (K : XK) (T : XT) (hk_p1 : kd K p1 = 2) (post : Int32 → XT → Prop) (h : wx1_divides p1 p2 K T post) : Met l yX1_divides (ws_ yX1_divides cX1_divides 3 (some .int)) ({ frames := 7, cells := 0, slots := 0, locals := 169 } : Room) (xPc G b hole [.ref (b + 0), .ref (b + p1), .int p2] K T) (xQ G b hole K 0 0 (ρ := Int32) eI (fun r T1 K1 => post r T1 ∧ K1 = K)) 0 0 (xA b hole) := by
  refine Met.ofW (cc := cX1_divides) (maxL := 3) (ret := (some .int)) (by decide) rfl ?_
  intro p e s m args below meth c s₁ B hml hv
  obtain ⟨rfl, hP, hK, hV⟩ := hv
  have hx := B.exec
  have hb := B.bytes
  have hr := B.returns
  have hts := atoms_spec (ws := ws_ yX1_divides cX1_divides 3 (some .int)) B.pre
  have hts : ∀ w ∈ lw_all, w.before _ s = true := fun w h => hts w (List.mem_cons_of_mem _ h)
  have hown : s.vm.findClass RX1 = some m.cls := findClass_of_methodNamed B.named
  have hlocks := B.notSynchronized
  have hb0 : b ≤ s.heap.size := by rw [hP.2.2.2]; exact Nat.le_add_right _ _
  have hS : va_S (xA b hole) s.heap s.heap [] := va_S.rf
  have hl := lv_entry ([.ref (b + 0), .ref (b + p1), .int p2]) (n := 3) (Nat.le_of_ble_eq_true rfl)
  rw [lg_entry_eq]
  generalize (lg_sl ([.ref (b + 0), .ref (b + p1), .int p2]) ++ List.replicate (3 - (lg_sl ([.ref (b + 0), .ref (b + p1), .int p2])).length) Slot.unset).toArray = ls at hl ⊢
  have hl : lv_has ls 3 [(0, .ref (b + 0)), (1, .ref (b + p1)), (2, .int p2)] := hl
  unfold wx1_divides at h
  refine lv_aload_n hx hb dX1_divides_0 rfl (lv_at hl 0 rfl) ?_
  refine lv_iload_n hx hb dX1_divides_1 rfl (lv_at hl 2 rfl) ?_
  refine x_cV (k := 0) (As := [.int p2]) (rest := []) ⟨hx, hb, hml, hown, hts⟩ (mx1_hasZero l G b hole p2 K T  _ h) (cwV 1 hts (lw_V q896 q898 qs34 q118 q899) rfl rfl rfl cwx_X1_hasZero ⟨Nat.le_of_ble_eq_true rfl, Nat.le_of_ble_eq_true rfl⟩) (x_recv (CC := RX1) (ci := 0) hK hP (xs_0 hP) (by decide) (by decide) rfl (xE_8 (xs_0 hP))) hK hV hb0 hP hS rfl hl.1 rfl (Nat.le_of_ble_eq_true rfl) dX1_divides_2 ⟨by first | exact Nat.zero_le _ | (show _ + _ ≤ Z - kc K0; omega), by first | exact Nat.zero_le _ | (show _ + _ ≤ Y - ks K0; omega)⟩ (fun r_1 T1 K1 H locs h hle1 hc1 hs1 hP hS => ?_)
  obtain ⟨h, hTe, hKe⟩ := h
  rw [hTe, hKe] at hP
  refine lv_if_eq (tgt := 10) hx hb dX1_divides_5 (by decide) (fun c_8 => ?_) (fun c_8 => ?_)
  · have h := h.1 c_8
    refine lv_aload_n hx hb dX1_divides_10 rfl (lv_at hl 0 rfl) ?_
    refine x_get (CC := RX1) (TT := TX1) (N := 26) (ci := 0) (v := .ref (b + 6)) hx hb hts in_X1 hown hK hP (xs_0 hP) (by decide) (by decide) rfl (xE_8 (xs_0 hP)) 8 (by decide) q393 rfl rfl dX1_divides_11 ?_
    refine lv_aload_n hx hb dX1_divides_14 rfl (lv_at hl 1 rfl) ?_
    refine lv_iload_n hx hb dX1_divides_15 rfl (lv_at hl 2 rfl) ?_
    refine x_cV (k := 6) (As := [.ref (b + p1), .int p2]) (rest := []) ⟨hx, hb, hml, hown, hts⟩ (mx3_done l G b hole p1 p2 K T hk_p1 _ h) (cwV 2 hts (lw_V q900 q901 q902 q120 q903) rfl rfl rfl cwx_X3_done ⟨Nat.le_of_ble_eq_true rfl, Nat.le_of_ble_eq_true rfl⟩) (x_recv (CC := RX3) (ci := 2) hK hP (xs_6 hP) (by decide) (by decide) rfl (xE_10 (xs_6 hP))) hK hV hb0 hP hS rfl hl.1 rfl (Nat.le_of_ble_eq_true rfl) dX1_divides_16 ⟨by first | exact Nat.zero_le _ | (show _ + _ ≤ Z - kc K0; omega), by first | exact Nat.zero_le _ | (show _ + _ ≤ Y - ks K0; omega)⟩ (fun r_4 T1 K1 H locs h hle1 hc1 hs1 hP hS => ?_)
    obtain ⟨h, hk_r_4, hKe⟩ := h
    rw [hKe] at hP
    generalize T1 = T_5 at h hP
    rw [hKe] at hk_r_4
    refine x_getN (CC := RX3) (TT := TX3) (N := 9) (ci := 2) (v := .int (xi T_5 r_4 7)) hx hb hts in_X3 hown hK hV.1 hP hk_r_4 (by decide) (by decide) rfl (xE_10 hk_r_4) 7 (by decide) q192 rfl rfl dX1_divides_19 ?_
    refine lv_if_eq (tgt := 29) hx hb dX1_divides_22 (by decide) (fun c_7 => ?_) (fun c_7 => ?_)
    · have h := h.1 c_7
      refine lv_iconst (v := 3) hx hb dX1_divides_29 (by decide) ?_
      exact W.iret (v := 3) hx hb hr (fun t ht hW => ⟨⟨3, T_5, K, rfl, ⟨h, rfl⟩, kle.rf, rfl, rfl, by rw [ht]; exact hP, va_K.moved hW.alike hK⟩, hS.F ht⟩) hS.2.2 dX1_divides_30
    · have h := h.2 c_7
      refine lv_iconst (v := 0) hx hb dX1_divides_25 (by decide) ?_
      refine lv_goto (tgt := 30) hx hb dX1_divides_26 (by decide) ?_
      exact W.iret (v := 0) hx hb hr (fun t ht hW => ⟨⟨0, T_5, K, rfl, ⟨h, rfl⟩, kle.rf, rfl, rfl, by rw [ht]; exact hP, va_K.moved hW.alike hK⟩, hS.F ht⟩) hS.2.2 dX1_divides_30
  · have h := h.2 c_8
    refine lv_iconst (v := 5) hx hb dX1_divides_8 (by decide) ?_
    exact W.iret (v := 5) hx hb hr (fun t ht hW => ⟨⟨5, T, K, rfl, ⟨h, rfl⟩, kle.rf, rfl, rfl, by rw [ht]; exact hP, va_K.moved hW.alike hK⟩, hS.F ht⟩) hS.2.2 dX1_divides_9
