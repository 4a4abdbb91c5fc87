set_option maxRecDepth 100000
theorem cwx_X1_where : yX1_where.cls = RX1 ∧ yX1_where.cls ≠ "java/lang/invoke/MethodHandle" ∧ yX1_where.cls ≠ "java/lang/invoke/VarHandle" ∧ (parseMethodDescriptor yX1_where.desc).map (fun d => d.parameters.length) = some 0 := by decide +kernel
def wx1_where  (K : XK) (T : XT) (post : Int32 → Prop) : Prop :=
  ((¬ (xi T 0 23) = 4 →
    post (-1)) ∧
   ((xi T 0 23) = 4 →
    post (xi T 0 25)))
set_option maxHeartbeats 4000000 in
theorem mx1_where (l : Launch) (G : XG) (b : Nat) (hole : Nat → Prop)  (K : XK) (T : XT)  (post : Int32 → Prop) (h : wx1_where  K T post) : Met l yX1_where (ws_ yX1_where cX1_where 1 (some .int)) ({ frames := 0, cells := 0, slots := 0, locals := 0 } : Room) (xPc G b hole [.ref (b + 0)] K T) (xQ G b hole K 0 0 (ρ := Int32) eI (fun r T1 K1 => post r ∧ T1 = T ∧ K1 = K)) 0 0 (xA b hole) := by
  refine Met.ofW (cc := cX1_where) (maxL := 1) (ret := (some .int)) (by decide) rfl ?_
  intro p e s m args below meth c s₁ B hml hv
  obtain ⟨rfl, hP, hK, hV⟩ := hv
  have hx := B.exec
  have hb := B.bytes
  have hr := B.returns
  have hts := atoms_spec (ws := ws_ yX1_where cX1_where 1 (some .int)) B.pre
  have hts : ∀ w ∈ lw_all, w.before _ s = true := fun w h => hts w (List.mem_cons_of_mem _ h)
  have hown : s.vm.findClass RX1 = some m.cls := findClass_of_methodNamed B.named
  have hlocks := B.notSynchronized
  have hb0 : b ≤ s.heap.size := by rw [hP.2.2.2]; exact Nat.le_add_right _ _
  have hS : va_S (xA b hole) s.heap s.heap [] := va_S.rf
  have hl := lv_entry ([.ref (b + 0)]) (n := 1) (Nat.le_of_ble_eq_true rfl)
  rw [lg_entry_eq]
  generalize (lg_sl ([.ref (b + 0)]) ++ List.replicate (1 - (lg_sl ([.ref (b + 0)])).length) Slot.unset).toArray = ls at hl ⊢
  have hl : lv_has ls 1 [(0, .ref (b + 0))] := hl
  unfold wx1_where at h
  refine lv_aload_n hx hb dX1_where_0 rfl (lv_at hl 0 rfl) ?_
  refine x_get (CC := RX1) (TT := TX1) (N := 26) (ci := 0) (v := .int (xi T 0 23)) hx hb hts in_X1 hown hK hP (xs_0 hP) (by decide) (by decide) rfl (xE_8 (xs_0 hP)) 23 (by decide) q410 rfl rfl dX1_where_1 ?_
  refine lv_iconst (v := 4) hx hb dX1_where_4 (by decide) ?_
  refine lv_icmp_ne (tgt := 15) hx hb dX1_where_5 (by decide) (fun c_1 => ?_) (fun c_1 => ?_)
  · have h := h.1 c_1
    refine lv_iconst (v := (-1)) hx hb dX1_where_15 (by decide) ?_
    exact W.iret (v := (-1)) hx hb hr (fun t ht hW => ⟨⟨(-1), T, K, rfl, ⟨h, rfl, rfl⟩, kle.rf, rfl, rfl, by rw [ht]; exact hP, va_K.moved hW.alike hK⟩, hS.F ht⟩) hS.2.2 dX1_where_16
  · have h := h.2 c_1
    refine lv_aload_n hx hb dX1_where_8 rfl (lv_at hl 0 rfl) ?_
    refine x_get (CC := RX1) (TT := TX1) (N := 26) (ci := 0) (v := .int (xi T 0 25)) hx hb hts in_X1 hown hK hP (xs_0 hP) (by decide) (by decide) rfl (xE_8 (xs_0 hP)) 25 (by decide) q412 rfl rfl dX1_where_9 ?_
    refine lv_goto (tgt := 16) hx hb dX1_where_12 (by decide) ?_
    exact W.iret (v := (xi T 0 25)) hx hb hr (fun t ht hW => ⟨⟨(xi T 0 25), T, K, rfl, ⟨h, rfl, rfl⟩, kle.rf, rfl, rfl, by rw [ht]; exact hP, va_K.moved hW.alike hK⟩, hS.F ht⟩) hS.2.2 dX1_where_16
theorem cwx_X1_why_2 : yX1_why_2.cls = RX1 ∧ yX1_why_2.cls ≠ "java/lang/invoke/MethodHandle" ∧ yX1_why_2.cls ≠ "java/lang/invoke/VarHandle" ∧ (parseMethodDescriptor yX1_why_2.desc).map (fun d => d.parameters.length) = some 2 := by decide +kernel
def wx1_why_2_j11 (p1 : Int32) (p2 : Int32) (post : Int32 → Prop)  (K : XK) (T : XT) : Prop :=
    post 1
def wx1_why_2 (p1 : Int32) (p2 : Int32) (K : XK) (T : XT) (post : Int32 → Prop) : Prop :=
  (((xi T 0 21) = 0 →
    wx1_why_2_j11 p1 p2 post  K T) ∧
   (¬ ((xi T 0 21) = 0) →
    ((¬ p1 = 0 →
      ((p2 = 0 →
        post 2) ∧
       (¬ (p2 = 0) →
        post 0))) ∧
     (p1 = 0 →
      wx1_why_2_j11 p1 p2 post  K T))))
set_option maxHeartbeats 4000000 in
theorem mx1_why_2 (l : Launch) (G : XG) (b : Nat) (hole : Nat → Prop) (p1 : Int32) (p2 : Int32) (K : XK) (T : XT)  (post : Int32 → Prop) (h : wx1_why_2 p1 p2 K T post) : Met l yX1_why_2 (ws_ yX1_why_2 cX1_why_2 3 (some .int)) ({ frames := 0, cells := 0, slots := 0, locals := 0 } : Room) (xPc G b hole [.ref (b + 0), .int p1, .int p2] K T) (xQ G b hole K 0 0 (ρ := Int32) eI (fun r T1 K1 => post r ∧ T1 = T ∧ K1 = K)) 0 0 (xA b hole) := by
  refine Met.ofW (cc := cX1_why_2) (maxL := 3) (ret := (some .int)) (by decide) rfl ?_
  intro p e s m args below meth c s₁ B hml hv
  obtain ⟨rfl, hP, hK, hV⟩ := hv
  have hx := B.exec
  have hb := B.bytes
  have hr := B.returns
  have hts := atoms_spec (ws := ws_ yX1_why_2 cX1_why_2 3 (some .int)) B.pre
  have hts : ∀ w ∈ lw_all, w.before _ s = true := fun w h => hts w (List.mem_cons_of_mem _ h)
  have hown : s.vm.findClass RX1 = some m.cls := findClass_of_methodNamed B.named
  have hlocks := B.notSynchronized
  have hb0 : b ≤ s.heap.size := by rw [hP.2.2.2]; exact Nat.le_add_right _ _
  have hS : va_S (xA b hole) s.heap s.heap [] := va_S.rf
  have hl := lv_entry ([.ref (b + 0), .int p1, .int p2]) (n := 3) (Nat.le_of_ble_eq_true rfl)
  rw [lg_entry_eq]
  generalize (lg_sl ([.ref (b + 0), .int p1, .int p2]) ++ List.replicate (3 - (lg_sl ([.ref (b + 0), .int p1, .int p2])).length) Slot.unset).toArray = ls at hl ⊢
  have hl : lv_has ls 3 [(0, .ref (b + 0)), (1, .int p1), (2, .int p2)] := hl
  have J11 : ∀  (H : Heap) (locs : List Loc) (ls : Array Slot), wx1_why_2_j11 p1 p2 post  K T → xW G b hole K T H → va_S (xA b hole) s.heap H locs → lv_has ls 3 [(0, .ref (b + 0))] → W p l e (headSpec (ws_ yX1_why_2 cX1_why_2 3 (some .int)) ({ frames := 0, cells := 0, slots := 0, locals := 0 } : Room)).room s m ([.ref (b + 0), .int p1, .int p2] : List Value).toArray below meth c H locs 0 0 (MQ below (xQ G b hole K 0 0 (ρ := Int32) eI (fun r T1 K1 => post r ∧ T1 = T ∧ K1 = K)) ([.ref (b + 0), .int p1, .int p2] : List Value).toArray s 0 0 (xA b hole)) (F0 m 11 ls []) := by
    intro  H locs ls h hP hS hl
    unfold wx1_why_2_j11 at h
    refine lv_iconst (v := 1) hx hb dX1_why_2_11 (by decide) ?_
    refine lv_goto (tgt := 24) hx hb dX1_why_2_12 (by decide) ?_
    exact W.iret (v := 1) hx hb hr (fun t ht hW => ⟨⟨1, T, K, rfl, ⟨h, rfl, rfl⟩, kle.rf, rfl, rfl, by rw [ht]; exact hP, va_K.moved hW.alike hK⟩, hS.F ht⟩) hS.2.2 dX1_why_2_24
  unfold wx1_why_2 at h
  refine lv_aload_n hx hb dX1_why_2_0 rfl (lv_at hl 0 rfl) ?_
  refine x_get (CC := RX1) (TT := TX1) (N := 26) (ci := 0) (v := .int (xi T 0 21)) hx hb hts in_X1 hown hK hP (xs_0 hP) (by decide) (by decide) rfl (xE_8 (xs_0 hP)) 21 (by decide) q408 rfl rfl dX1_why_2_1 ?_
  refine lv_if_eq (tgt := 11) hx hb dX1_why_2_4 (by decide) (fun c_3 => ?_) (fun c_3 => ?_)
  · have h := h.1 c_3
    exact J11  _ _ _ h  hP hS (lv_sub hl [0] rfl)
  · have h := h.2 c_3
    refine lv_iload_n hx hb dX1_why_2_7 rfl (lv_at hl 1 rfl) ?_
    refine lv_if_ne (tgt := 15) hx hb dX1_why_2_8 (by decide) (fun c_2 => ?_) (fun c_2 => ?_)
    · have h := h.1 c_2
      refine lv_iload_n hx hb dX1_why_2_15 rfl (lv_at hl 2 rfl) ?_
      refine lv_if_eq (tgt := 23) hx hb dX1_why_2_16 (by decide) (fun c_1 => ?_) (fun c_1 => ?_)
      · have h := h.1 c_1
        refine lv_iconst (v := 2) hx hb dX1_why_2_23 (by decide) ?_
        exact W.iret (v := 2) hx hb hr (fun t ht hW => ⟨⟨2, T, K, rfl, ⟨h, rfl, rfl⟩, kle.rf, rfl, rfl, by rw [ht]; exact hP, va_K.moved hW.alike hK⟩, hS.F ht⟩) hS.2.2 dX1_why_2_24
      · have h := h.2 c_1
        refine lv_iconst (v := 0) hx hb dX1_why_2_19 (by decide) ?_
        refine lv_goto (tgt := 24) hx hb dX1_why_2_20 (by decide) ?_
        exact W.iret (v := 0) hx hb hr (fun t ht hW => ⟨⟨0, T, K, rfl, ⟨h, rfl, rfl⟩, kle.rf, rfl, rfl, by rw [ht]; exact hP, va_K.moved hW.alike hK⟩, hS.F ht⟩) hS.2.2 dX1_why_2_24
    · have h := h.2 c_2
      exact J11  _ _ _ h  hP hS (lv_sub hl [0] rfl)
theorem cwx_X1_why : yX1_why.cls = RX1 ∧ yX1_why.cls ≠ "java/lang/invoke/MethodHandle" ∧ yX1_why.cls ≠ "java/lang/invoke/VarHandle" ∧ (parseMethodDescriptor yX1_why.desc).map (fun d => d.parameters.length) = some 1 := by decide +kernel
def wx1_why (p1 : Int32) (K : XK) (T : XT) (post : Int32 → Prop) : Prop :=
  wx1_why_2 p1 1 K T (fun r_1 =>
  post r_1)
set_option maxHeartbeats 4000000 in
theorem mx1_why (l : Launch) (G : XG) (b : Nat) (hole : Nat → Prop) (p1 : Int32) (K : XK) (T : XT)  (post : Int32 → Prop) (h : wx1_why p1 K T post) : Met l yX1_why (ws_ yX1_why cX1_why 2 (some .int)) ({ frames := 1, cells := 0, slots := 0, locals := 22 } : Room) (xPc G b hole [.ref (b + 0), .int p1] K T) (xQ G b hole K 0 0 (ρ := Int32) eI (fun r T1 K1 => post r ∧ T1 = T ∧ K1 = K)) 0 0 (xA b hole) := by
  refine Met.ofW (cc := cX1_why) (maxL := 2) (ret := (some .int)) (by decide) rfl ?_
  intro p e s m args below meth c s₁ B hml hv
  obtain ⟨rfl, hP, hK, hV⟩ := hv
  have hx := B.exec
  have hb := B.bytes
  have hr := B.returns
  have hts := atoms_spec (ws := ws_ yX1_why cX1_why 2 (some .int)) B.pre
  have hts : ∀ w ∈ lw_all, w.before _ s = true := fun w h => hts w (List.mem_cons_of_mem _ h)
  have hown : s.vm.findClass RX1 = some m.cls := findClass_of_methodNamed B.named
  have hlocks := B.notSynchronized
  have hb0 : b ≤ s.heap.size := by rw [hP.2.2.2]; exact Nat.le_add_right _ _
  have hS : va_S (xA b hole) s.heap s.heap [] := va_S.rf
  have hl := lv_entry ([.ref (b + 0), .int p1]) (n := 2) (Nat.le_of_ble_eq_true rfl)
  rw [lg_entry_eq]
  generalize (lg_sl ([.ref (b + 0), .int p1]) ++ List.replicate (2 - (lg_sl ([.ref (b + 0), .int p1])).length) Slot.unset).toArray = ls at hl ⊢
  have hl : lv_has ls 2 [(0, .ref (b + 0)), (1, .int p1)] := hl
  unfold wx1_why at h
  refine lv_aload_n hx hb dX1_why_0 rfl (lv_at hl 0 rfl) ?_
  refine lv_iload_n hx hb dX1_why_1 rfl (lv_at hl 1 rfl) ?_
  refine lv_iconst (v := 1) hx hb dX1_why_2 (by decide) ?_
  refine x_cV (k := 0) (As := [.int p1, .int 1]) (rest := []) ⟨hx, hb, hml, hown, hts⟩ (mx1_why_2 l G b hole p1 1 K T  _ h) (cwV 2 hts (lw_V q773 q775 qs25 q118 q776) rfl rfl rfl cwx_X1_why_2 ⟨Nat.le_of_ble_eq_true rfl, Nat.le_of_ble_eq_true rfl⟩) (x_recv (CC := RX1) (ci := 0) hK hP (xs_0 hP) (by decide) (by decide) rfl (xE_8 (xs_0 hP))) hK hV hb0 hP hS rfl hl.1 rfl (Nat.le_of_ble_eq_true rfl) dX1_why_3 ⟨by first | exact Nat.zero_le _ | (show _ + _ ≤ Z - kc K0; omega), by first | exact Nat.zero_le _ | (show _ + _ ≤ Y - ks K0; omega)⟩ (fun r_1 T1 K1 H locs h hle1 hc1 hs1 hP hS => ?_)
  obtain ⟨h, hTe, hKe⟩ := h
  rw [hTe, hKe] at hP
  exact W.iret (v := r_1) hx hb hr (fun t ht hW => ⟨⟨r_1, T, K, rfl, ⟨h, rfl, rfl⟩, kle.rf, rfl, rfl, by rw [ht]; exact hP, va_K.moved hW.alike hK⟩, hS.F ht⟩) hS.2.2 dX1_why_6
theorem cwx_X1_isRefused : yX1_isRefused.cls = RX1 ∧ yX1_isRefused.cls ≠ "java/lang/invoke/MethodHandle" ∧ yX1_isRefused.cls ≠ "java/lang/invoke/VarHandle" ∧ (parseMethodDescriptor yX1_isRefused.desc).map (fun d => d.parameters.length) = some 1 := by decide +kernel
def wx1_isRefused (p1 : Int32) (K : XK) (T : XT) (post : Int32 → XT → Prop) : Prop :=
  wx1_anew  K T (fun T_2 =>
  ∀ T_4 : XT, T_4 = xwi T_2 0 23 p1 →
  ((p1 = 0 →
    post 0 T_4) ∧
   (¬ (p1 = 0) →
    post 1 T_4)))
set_option maxHeartbeats 4000000 in
theorem mx1_isRefused (l : Launch) (G : XG) (b : Nat) (hole : Nat → Prop) (p1 : Int32) (K : XK) (T : XT)  (post : Int32 → XT → Prop) (h : wx1_isRefused p1 K T post) : Met l yX1_isRefused (ws_ yX1_isRefused cX1_isRefused 2 (some .boolean)) ({ frames := 1, cells := 0, slots := 0, locals := 20 } : Room) (xPc G b hole [.ref (b + 0), .int p1] K T) (xQ G b hole K 0 0 (ρ := Int32) eI (fun r T1 K1 => post r T1 ∧ K1 = K)) 0 0 (xA b hole) := by
  refine Met.ofW (cc := cX1_isRefused) (maxL := 2) (ret := (some .boolean)) (by decide) rfl ?_
  intro p e s m args below meth c s₁ B hml hv
  obtain ⟨rfl, hP, hK, hV⟩ := hv
  have hx := B.exec
  have hb := B.bytes
  have hr := B.returns
  have hts := atoms_spec (ws := ws_ yX1_isRefused cX1_isRefused 2 (some .boolean)) B.pre
  have hts : ∀ w ∈ lw_all, w.before _ s = true := fun w h => hts w (List.mem_cons_of_mem _ h)
  have hown : s.vm.findClass RX1 = some m.cls := findClass_of_methodNamed B.named
  have hlocks := B.notSynchronized
  have hb0 : b ≤ s.heap.size := by rw [hP.2.2.2]; exact Nat.le_add_right _ _
  have hS : va_S (xA b hole) s.heap s.heap [] := va_S.rf
  have hl := lv_entry ([.ref (b + 0), .int p1]) (n := 2) (Nat.le_of_ble_eq_true rfl)
  rw [lg_entry_eq]
  generalize (lg_sl ([.ref (b + 0), .int p1]) ++ List.replicate (2 - (lg_sl ([.ref (b + 0), .int p1])).length) Slot.unset).toArray = ls at hl ⊢
  have hl : lv_has ls 2 [(0, .ref (b + 0)), (1, .int p1)] := hl
  unfold wx1_isRefused at h
  refine lv_aload_n hx hb dX1_isRefused_0 rfl (lv_at hl 0 rfl) ?_
  refine x_cV (k := 0) (As := []) (rest := []) ⟨hx, hb, hml, hown, hts⟩ (mx1_anew l G b hole  K T  _ h) (cwV 0 hts (lw_V q479 q481 qs2 q118 q482) rfl rfl rfl cwx_X1_anew ⟨Nat.le_of_ble_eq_true rfl, Nat.le_of_ble_eq_true rfl⟩) (x_recv (CC := RX1) (ci := 0) hK hP (xs_0 hP) (by decide) (by decide) rfl (xE_8 (xs_0 hP))) hK hV hb0 hP hS rfl hl.1 rfl (Nat.le_of_ble_eq_true rfl) dX1_isRefused_1 ⟨by first | exact Nat.zero_le _ | (show _ + _ ≤ Z - kc K0; omega), by first | exact Nat.zero_le _ | (show _ + _ ≤ Y - ks K0; omega)⟩ (fun r_1 T1 K1 H locs h hle1 hc1 hs1 hP hS => ?_)
  obtain ⟨h, hKe⟩ := h
  rw [hKe] at hP
  generalize T1 = T_2 at h hP
  refine lv_aload_n hx hb dX1_isRefused_4 rfl (lv_at hl 0 rfl) ?_
  refine lv_iload_n hx hb dX1_isRefused_5 rfl (lv_at hl 1 rfl) ?_
  obtain ⟨T_4, eT_4⟩ : ∃ z : XT, z = xwi T_2 0 23 p1 := ⟨_, rfl⟩
  have h := h T_4 eT_4
  refine x_put (CC := RX1) (TT := TX1) (N := 26) (ci := 0) (T1 := T_4) (v := .int p1) (ty := .int) (fsf := fun T => fs8 (gem G) b T 0) hx hb hts in_X1 tyX1 tyX1_ok nmX1 hown hK hP hS (xs_0 hP) (by decide) (by decide) rfl (fun _ => xE_8 (xs_0 hP)) rfl 23 (by decide) q410 rfl (Or.inl rfl) rfl rfl rfl (by rw [eT_4]; exact fw8_23 _ b T_2 0 p1) (by rw [eT_4]; exact fun q hq => xwi_i hq) (by rw [eT_4]; exact fun _ _ => rfl) (by rw [eT_4]; exact xwi_ty hP (by rw [(xs_0 hP)]; decide)) dX1_isRefused_6 (fun H locs hP hS => ?_)
  refine lv_iload_n hx hb dX1_isRefused_9 rfl (lv_at hl 1 rfl) ?_
  refine lv_if_eq (tgt := 17) hx hb dX1_isRefused_10 (by decide) (fun c_5 => ?_) (fun c_5 => ?_)
  · have h := h.1 c_5
    refine lv_iconst (v := 0) hx hb dX1_isRefused_17 (by decide) ?_
    exact W.zret (v := 0) hx hb hr rfl (fun t ht hW => ⟨⟨0, T_4, K, rfl, ⟨h, rfl⟩, kle.rf, rfl, rfl, by rw [ht]; exact hP, va_K.moved hW.alike hK⟩, hS.F ht⟩) hS.2.2 dX1_isRefused_18
  · have h := h.2 c_5
    refine lv_iconst (v := 1) hx hb dX1_isRefused_13 (by decide) ?_
    refine lv_goto (tgt := 18) hx hb dX1_isRefused_14 (by decide) ?_
    exact W.zret (v := 1) hx hb hr rfl (fun t ht hW => ⟨⟨1, T_4, K, rfl, ⟨h, rfl⟩, kle.rf, rfl, rfl, by rw [ht]; exact hP, va_K.moved hW.alike hK⟩, hS.F ht⟩) hS.2.2 dX1_isRefused_18
theorem cwx_X6_isZero : yX6_isZero.cls = RX6 ∧ yX6_isZero.cls ≠ "java/lang/invoke/MethodHandle" ∧ yX6_isZero.cls ≠ "java/lang/invoke/VarHandle" ∧ (parseMethodDescriptor yX6_isZero.desc).map (fun d => d.parameters.length) = some 0 := by decide +kernel
def wx6_isZero (p0 : Nat) (K : XK) (T : XT) (post : Int32 → Prop) : Prop :=
  ((¬ (xi T p0 2) = 0 →
    post 0) ∧
   ((xi T p0 2) = 0 →
    post 1))
set_option maxHeartbeats 4000000 in
theorem mx6_isZero (l : Launch) (G : XG) (b : Nat) (hole : Nat → Prop) (p0 : Nat) (K : XK) (T : XT) (hk_p0 : kd K p0 = 2) (post : Int32 → Prop) (h : wx6_isZero p0 K T post) : Met l yX6_isZero (ws_ yX6_isZero cX6_isZero 1 (some .boolean)) ({ frames := 0, cells := 0, slots := 0, locals := 0 } : Room) (xPc G b hole [.ref (b + p0)] K T) (xQ G b hole K 0 0 (ρ := Int32) eI (fun r T1 K1 => post r ∧ T1 = T ∧ K1 = K)) 0 0 (xA b hole) := by
  refine Met.ofW (cc := cX6_isZero) (maxL := 1) (ret := (some .boolean)) (by decide) rfl ?_
  intro p e s m args below meth c s₁ B hml hv
  obtain ⟨rfl, hP, hK, hV⟩ := hv
  have hx := B.exec
  have hb := B.bytes
  have hr := B.returns
  have hts := atoms_spec (ws := ws_ yX6_isZero cX6_isZero 1 (some .boolean)) B.pre
  have hts : ∀ w ∈ lw_all, w.before _ s = true := fun w h => hts w (List.mem_cons_of_mem _ h)
  have hown : s.vm.findClass RX6 = some m.cls := findClass_of_methodNamed B.named
  have hlocks := B.notSynchronized
  have hb0 : b ≤ s.heap.size := by rw [hP.2.2.2]; exact Nat.le_add_right _ _
  have hS : va_S (xA b hole) s.heap s.heap [] := va_S.rf
  have hl := lv_entry ([.ref (b + p0)]) (n := 1) (Nat.le_of_ble_eq_true rfl)
  rw [lg_entry_eq]
  generalize (lg_sl ([.ref (b + p0)]) ++ List.replicate (1 - (lg_sl ([.ref (b + p0)])).length) Slot.unset).toArray = ls at hl ⊢
  have hl : lv_has ls 1 [(0, .ref (b + p0))] := hl
  unfold wx6_isZero at h
  refine lv_aload_n hx hb dX6_isZero_0 rfl (lv_at hl 0 rfl) ?_
  refine x_get (CC := RX6) (TT := TX6) (N := 3) (ci := 5) (v := .int (xi T p0 2)) hx hb hts in_X6 hown hK hP hk_p0 (by decide) (by decide) rfl (xE_2 hk_p0) 2 (by decide) q370 rfl rfl dX6_isZero_1 ?_
  refine lv_if_ne (tgt := 11) hx hb dX6_isZero_4 (by decide) (fun c_1 => ?_) (fun c_1 => ?_)
  · have h := h.1 c_1
    refine lv_iconst (v := 0) hx hb dX6_isZero_11 (by decide) ?_
    exact W.zret (v := 0) hx hb hr rfl (fun t ht hW => ⟨⟨0, T, K, rfl, ⟨h, rfl, rfl⟩, kle.rf, rfl, rfl, by rw [ht]; exact hP, va_K.moved hW.alike hK⟩, hS.F ht⟩) hS.2.2 dX6_isZero_12
  · have h := h.2 c_1
    refine lv_iconst (v := 1) hx hb dX6_isZero_7 (by decide) ?_
    refine lv_goto (tgt := 12) hx hb dX6_isZero_8 (by decide) ?_
    exact W.zret (v := 1) hx hb hr rfl (fun t ht hW => ⟨⟨1, T, K, rfl, ⟨h, rfl, rfl⟩, kle.rf, rfl, rfl, by rw [ht]; exact hP, va_K.moved hW.alike hK⟩, hS.F ht⟩) hS.2.2 dX6_isZero_12
theorem cwx_X1_filled : yX1_filled.cls = RX1 ∧ yX1_filled.cls ≠ "java/lang/invoke/MethodHandle" ∧ yX1_filled.cls ≠ "java/lang/invoke/VarHandle" ∧ (parseMethodDescriptor yX1_filled.desc).map (fun d => d.parameters.length) = some 0 := by decide +kernel
def wx1_filled_j41  (post : Int32 → Prop) (R13 : Int32 → Int32 → Prop) (x1 : Int32) (x2 : Nat) (x3 : Int32) (x4 : Int32) (K : XK) (T : XT) : Prop :=
        ∀ x4_1 : Int32, x4_1 = x4 + 1 →
        R13 x1 x4_1
def wx1_filled_b13  (post : Int32 → Prop) (R13 : Int32 → Int32 → Prop) (x2 : Nat) (x3 : Int32) (x1 : Int32) (x4 : Int32) (K : XK) (T : XT) : Prop :=
      ((x3 ≤ x4 →
        post x1) ∧
       (¬ (x3 ≤ x4) →
        ∃ j_2 : Nat, j_2 < kl K x2 ∧ x4 = nI j_2 ∧ ∃ v_3 : Nat, xr T x2 j_2 = some v_3 ∧
        wx6_isZero v_3 K T (fun r_4 =>
        ((r_4 = 0 →
          ∀ x1_7 : Int32, x1_7 = (x1 + 1) →
          wx1_filled_j41  post R13 x1_7 x2 x3 x4 K T) ∧
         (¬ (r_4 = 0) →
          ∀ x1_8 : Int32, x1_8 = (x1 + 0) →
          wx1_filled_j41  post R13 x1_8 x2 x3 x4 K T)))))
def wx1_filled_l13  (post : Int32 → Prop) (x2 : Nat) (x3 : Int32) (x1 : Int32) (x4 : Int32) (K : XK) (T : XT) : Prop := wLoop (fun (R : ((Int32) × (Int32)) → Prop) (v : (Int32) × (Int32)) => wx1_filled_b13  post (fun x1 x4 => R (x1, x4)) x2 x3 v.1 v.2 K T) (x1, x4)
def wx1_filled  (K : XK) (T : XT) (post : Int32 → Prop) : Prop :=
  ∃ v_11 : Nat, xr T 0 18 = some v_11 ∧
  ∀ x3_12 : Int32, x3_12 = (nI (kl K v_11)) →
  wx1_filled_l13  post v_11 x3_12 0 0 K T
set_option maxHeartbeats 4000000 in
theorem mx1_filled (l : Launch) (G : XG) (b : Nat) (hole : Nat → Prop)  (K : XK) (T : XT)  (post : Int32 → Prop) (h : wx1_filled  K T post) : Met l yX1_filled (ws_ yX1_filled cX1_filled 6 (some .int)) ({ frames := 1, cells := 0, slots := 0, locals := 20 } : Room) (xPc G b hole [.ref (b + 0)] K T) (xQ G b hole K 0 0 (ρ := Int32) eI (fun r T1 K1 => post r ∧ T1 = T ∧ K1 = K)) 0 0 (xA b hole) := by
  refine Met.ofW (cc := cX1_filled) (maxL := 6) (ret := (some .int)) (by decide) rfl ?_
  intro p e s m args below meth c s₁ B hml hv
  obtain ⟨rfl, hP, hK, hV⟩ := hv
  have hx := B.exec
  have hb := B.bytes
  have hr := B.returns
  have hts := atoms_spec (ws := ws_ yX1_filled cX1_filled 6 (some .int)) B.pre
  have hts : ∀ w ∈ lw_all, w.before _ s = true := fun w h => hts w (List.mem_cons_of_mem _ h)
  have hown : s.vm.findClass RX1 = some m.cls := findClass_of_methodNamed B.named
  have hlocks := B.notSynchronized
  have hb0 : b ≤ s.heap.size := by rw [hP.2.2.2]; exact Nat.le_add_right _ _
  have hS : va_S (xA b hole) s.heap s.heap [] := va_S.rf
  have hl := lv_entry ([.ref (b + 0)]) (n := 6) (Nat.le_of_ble_eq_true rfl)
  rw [lg_entry_eq]
  generalize (lg_sl ([.ref (b + 0)]) ++ List.replicate (6 - (lg_sl ([.ref (b + 0)])).length) Slot.unset).toArray = ls at hl ⊢
  have hl : lv_has ls 6 [(0, .ref (b + 0))] := hl
  have L13 : ∀ (x2 : Nat) (x3 : Int32) (x1 : Int32) (x4 : Int32) (H : Heap) (locs : List Loc) (ls : Array Slot), wx1_filled_l13  post x2 x3 x1 x4 K T → (kd K x2 = 3) → xW G b hole K T H → va_S (xA b hole) s.heap H locs → lv_has ls 6 [(0, .ref (b + 0)), (1, .int x1), (2, .ref (b + x2)), (3, .int x3), (4, .int x4)] → W p l e (headSpec (ws_ yX1_filled cX1_filled 6 (some .int)) ({ frames := 1, cells := 0, slots := 0, locals := 20 } : Room)).room s m ([.ref (b + 0)] : List Value).toArray below meth c H locs 0 0 (MQ below (xQ G b hole K 0 0 (ρ := Int32) eI (fun r T1 K1 => post r ∧ T1 = T ∧ K1 = K)) ([.ref (b + 0)] : List Value).toArray s 0 0 (xA b hole)) (F0 m 13 ls []) := by
    intro x2 x3 x1 x4 H locs ls h hk_x2 hP hS hl
    obtain ⟨I13, n13, hI, hstep13⟩ := h
    induction n13 using Nat.strongRecOn generalizing x1 x4 H locs ls with
    | ind n13 ih13 =>
      have h : wx1_filled_b13  post (fun x1 x4 => ∃ mm, mm < n13 ∧ I13 mm (x1, x4)) x2 x3 x1 x4 K T := hstep13 n13 _ hI
      clear hI
      have J41 : ∀ (x1 : Int32) (x4 : Int32) (H : Heap) (locs : List Loc) (ls : Array Slot), wx1_filled_j41  post (fun x1 x4 => ∃ mm, mm < n13 ∧ I13 mm (x1, x4)) x1 x2 x3 x4 K T → xW G b hole K T H → va_S (xA b hole) s.heap H locs → lv_has ls 6 [(0, .ref (b + 0)), (1, .int x1), (2, .ref (b + x2)), (3, .int x3), (4, .int x4)] → W p l e (headSpec (ws_ yX1_filled cX1_filled 6 (some .int)) ({ frames := 1, cells := 0, slots := 0, locals := 20 } : Room)).room s m ([.ref (b + 0)] : List Value).toArray below meth c H locs 0 0 (MQ below (xQ G b hole K 0 0 (ρ := Int32) eI (fun r T1 K1 => post r ∧ T1 = T ∧ K1 = K)) ([.ref (b + 0)] : List Value).toArray s 0 0 (xA b hole)) (F0 m 41 ls []) := by
        intro x1 x4 H locs ls h hP hS hl
        unfold wx1_filled_j41 at h
        obtain ⟨x4_1, ex4_1⟩ : ∃ y : Int32, y = x4 + 1 := ⟨_, rfl⟩
        have h := h x4_1 ex4_1
        refine lv_iinc (v := x4_1) (lv' := [(4, .int x4_1), (0, .ref (b + 0)), (1, .int x1), (2, .ref (b + x2)), (3, .int x3)]) hx hb dX1_filled_41 hl (k := 4) rfl (by rw [ex4_1]; rfl) (by decide) rfl (fun ls hl => ?_)
        refine lv_goto (tgt := 13) hx hb dX1_filled_44 (by decide) ?_
        obtain ⟨mm, hmm, h⟩ := h
        exact ih13 mm hmm _ _ _ _ _  hP hS (lv_sub hl [1, 2, 3, 4, 0] rfl) h
      unfold wx1_filled_b13 at h
      refine lv_iload hx hb dX1_filled_13 (lv_at hl 4 rfl) ?_
      refine lv_iload_n hx hb dX1_filled_15 rfl (lv_at hl 3 rfl) ?_
      refine lv_icmp_ge (tgt := 47) hx hb dX1_filled_16 (by decide) (fun c_10 => ?_) (fun c_10 => ?_)
      · have h := h.1 c_10
        refine lv_iload_n hx hb dX1_filled_47 rfl (lv_at hl 1 rfl) ?_
        exact W.iret (v := x1) hx hb hr (fun t ht hW => ⟨⟨x1, T, K, rfl, ⟨h, rfl, rfl⟩, kle.rf, rfl, rfl, by rw [ht]; exact hP, va_K.moved hW.alike hK⟩, hS.F ht⟩) hS.2.2 dX1_filled_48
      · have h := h.2 c_10
        refine lv_aload_n hx hb dX1_filled_19 rfl (lv_at hl 2 rfl) ?_
        refine lv_iload hx hb dX1_filled_20 (lv_at hl 4 rfl) ?_
        obtain ⟨j_2, hj_2, ej_2, v_3, ev_3, h⟩ := h
        refine x_aald3 hx hb hK hP hk_x2 ej_2 hj_2 dX1_filled_22 ?_
        refine x_some ev_3 ?_
        have hk_v_3 : kd K v_3 = 2 := hP.ty hk_x2 (by decide) ev_3
        refine lv_astore (lv' := [(5, .ref (b + v_3)), (0, .ref (b + 0)), (1, .int x1), (2, .ref (b + x2)), (3, .int x3), (4, .int x4)]) hx hb dX1_filled_23 hl (by decide) rfl (fun ls hl => ?_)
        refine lv_iload_n hx hb dX1_filled_25 rfl (lv_at hl 2 rfl) ?_
        refine lv_aload hx hb dX1_filled_26 (lv_at hl 0 rfl) ?_
        refine x_cV (k := v_3) (As := []) (rest := [.int x1]) ⟨hx, hb, hml, hown, hts⟩ (mx6_isZero l G b hole v_3 K T hk_v_3 _ h) (cwV 0 hts (lw_V q785 q786 q787 q126 q788) rfl rfl rfl cwx_X6_isZero ⟨Nat.le_of_ble_eq_true rfl, Nat.le_of_ble_eq_true rfl⟩) (x_recv (CC := RX6) (ci := 5) hK hP hk_v_3 (by decide) (by decide) rfl (xE_2 hk_v_3)) hK hV hb0 hP hS rfl hl.1 rfl (Nat.le_of_ble_eq_true rfl) dX1_filled_28 ⟨by first | exact Nat.zero_le _ | (show _ + _ ≤ Z - kc K0; omega), by first | exact Nat.zero_le _ | (show _ + _ ≤ Y - ks K0; omega)⟩ (fun r_4 T1 K1 H locs h hle1 hc1 hs1 hP hS => ?_)
        obtain ⟨h, hTe, hKe⟩ := h
        rw [hTe, hKe] at hP
        refine lv_if_eq (tgt := 38) hx hb dX1_filled_31 (by decide) (fun c_9 => ?_) (fun c_9 => ?_)
        · have h := h.1 c_9
          refine lv_iconst (v := 1) hx hb dX1_filled_38 (by decide) ?_
          refine lv_iadd hx hb dX1_filled_39 ?_
          refine lv_topi (fun x1_7 ex1_7 => ?_)
          have h := h x1_7 ex1_7
          refine lv_istore_n (lv' := [(1, .int x1_7), (5, .ref (b + v_3)), (0, .ref (b + 0)), (2, .ref (b + x2)), (3, .int x3), (4, .int x4)]) hx hb dX1_filled_40 rfl hl (by decide) rfl (fun ls hl => ?_)
          exact J41 _ _ _ _ _ h  hP hS (lv_sub hl [2, 0, 3, 4, 5] rfl)
        · have h := h.2 c_9
          refine lv_iconst (v := 0) hx hb dX1_filled_34 (by decide) ?_
          refine lv_goto (tgt := 39) hx hb dX1_filled_35 (by decide) ?_
          refine lv_iadd hx hb dX1_filled_39 ?_
          refine lv_topi (fun x1_8 ex1_8 => ?_)
          have h := h x1_8 ex1_8
          refine lv_istore_n (lv' := [(1, .int x1_8), (5, .ref (b + v_3)), (0, .ref (b + 0)), (2, .ref (b + x2)), (3, .int x3), (4, .int x4)]) hx hb dX1_filled_40 rfl hl (by decide) rfl (fun ls hl => ?_)
          exact J41 _ _ _ _ _ h  hP hS (lv_sub hl [2, 0, 3, 4, 5] rfl)
  unfold wx1_filled at h
  refine lv_iconst (v := 0) hx hb dX1_filled_0 (by decide) ?_
  refine lv_istore_n (lv' := [(1, .int 0), (0, .ref (b + 0))]) hx hb dX1_filled_1 rfl hl (by decide) rfl (fun ls hl => ?_)
  refine lv_aload_n hx hb dX1_filled_2 rfl (lv_at hl 1 rfl) ?_
  obtain ⟨v_11, ev_11, h⟩ := h
  refine x_get (CC := RX1) (TT := TX1) (N := 26) (ci := 0) (v := rfv b (xr T 0 18)) hx hb hts in_X1 hown hK hP (xs_0 hP) (by decide) (by decide) rfl (xE_8 (xs_0 hP)) 18 (by decide) q405 rfl rfl dX1_filled_3 ?_
  refine x_some ev_11 ?_
  have hk_v_11 : kd K v_11 = 3 := hP.ty (xs_0 hP) (by decide) ev_11
  refine lv_astore_n (lv' := [(2, .ref (b + v_11)), (1, .int 0), (0, .ref (b + 0))]) hx hb dX1_filled_6 rfl hl (by decide) rfl (fun ls hl => ?_)
  refine lv_aload_n hx hb dX1_filled_7 rfl (lv_at hl 0 rfl) ?_
  refine x_alen3 hx hb hK hP hk_v_11 dX1_filled_8 ?_
  refine lv_topi (fun x3_12 ex3_12 => ?_)
  have h := h x3_12 ex3_12
  refine lv_istore_n (lv' := [(3, .int x3_12), (2, .ref (b + v_11)), (1, .int 0), (0, .ref (b + 0))]) hx hb dX1_filled_9 rfl hl (by decide) rfl (fun ls hl => ?_)
  refine lv_iconst (v := 0) hx hb dX1_filled_10 (by decide) ?_
  refine lv_istore (lv' := [(4, .int 0), (3, .int x3_12), (2, .ref (b + v_11)), (1, .int 0), (0, .ref (b + 0))]) hx hb dX1_filled_11 hl (by decide) rfl (fun ls hl => ?_)
  exact L13 _ _ _ _ _ _ _ h hk_v_11 hP hS (lv_sub hl [4, 3, 2, 1, 0] rfl)
theorem cwx_X1_about : yX1_about.cls = RX1 ∧ yX1_about.cls ≠ "java/lang/invoke/MethodHandle" ∧ yX1_about.cls ≠ "java/lang/invoke/VarHandle" ∧ (parseMethodDescriptor yX1_about.desc).map (fun d => d.parameters.length) = some 1 := by decide +kernel
def wx1_about (p1 : Int32) (K : XK) (T : XT) (post : Int32 → XT → Prop) : Prop :=
  wx1_in p1 0 5 K T (fun r_1 =>
  wx1_why r_1 K T (fun r_4 =>
  wx1_isRefused r_4 K T (fun r_7 T_8 =>
  ((r_7 = 0 →
    ((p1.toInt = 0 →
      post (xi T_8 0 0) T_8) ∧
     (p1.toInt = 1 →
      post (xi T_8 0 1) T_8) ∧
     (p1.toInt = 2 →
      post (xi T_8 0 2) T_8) ∧
     (p1.toInt = 3 →
      post (xi T_8 0 3) T_8) ∧
     (p1.toInt = 4 →
      post ((3 - (xi T_8 0 2)) - (xi T_8 0 3)) T_8) ∧
     (p1.toInt < 0 ∨ 4 < p1.toInt →
      wx1_filled  K T_8 (fun r_10 =>
      post r_10 T_8)))) ∧
   (¬ (r_7 = 0) →
    post (-1) T_8)))))
set_option maxHeartbeats 4000000 in
theorem mx1_about (l : Launch) (G : XG) (b : Nat) (hole : Nat → Prop) (p1 : Int32) (K : XK) (T : XT)  (post : Int32 → XT → Prop) (h : wx1_about p1 K T post) : Met l yX1_about (ws_ yX1_about cX1_about 2 (some .int)) ({ frames := 2, cells := 0, slots := 0, locals := 45 } : Room) (xPc G b hole [.ref (b + 0), .int p1] K T) (xQ G b hole K 0 0 (ρ := Int32) eI (fun r T1 K1 => post r T1 ∧ K1 = K)) 0 0 (xA b hole) := by
  refine Met.ofW (cc := cX1_about) (maxL := 2) (ret := (some .int)) (by decide) rfl ?_
  intro p e s m args below meth c s₁ B hml hv
  obtain ⟨rfl, hP, hK, hV⟩ := hv
  have hx := B.exec
  have hb := B.bytes
  have hr := B.returns
  have hts := atoms_spec (ws := ws_ yX1_about cX1_about 2 (some .int)) B.pre
  have hts : ∀ w ∈ lw_all, w.before _ s = true := fun w h => hts w (List.mem_cons_of_mem _ h)
  have hown : s.vm.findClass RX1 = some m.cls := findClass_of_methodNamed B.named
  have hlocks := B.notSynchronized
  have hb0 : b ≤ s.heap.size := by rw [hP.2.2.2]; exact Nat.le_add_right _ _
  have hS : va_S (xA b hole) s.heap s.heap [] := va_S.rf
  have hl := lv_entry ([.ref (b + 0), .int p1]) (n := 2) (Nat.le_of_ble_eq_true rfl)
  rw [lg_entry_eq]
  generalize (lg_sl ([.ref (b + 0), .int p1]) ++ List.replicate (2 - (lg_sl ([.ref (b + 0), .int p1])).length) Slot.unset).toArray = ls at hl ⊢
  have hl : lv_has ls 2 [(0, .ref (b + 0)), (1, .int p1)] := hl
  unfold wx1_about at h
  refine lv_aload_n hx hb dX1_about_0 rfl (lv_at hl 0 rfl) ?_
  refine lv_aload_n hx hb dX1_about_1 rfl (lv_at hl 0 rfl) ?_
  refine lv_iload_n hx hb dX1_about_2 rfl (lv_at hl 1 rfl) ?_
  refine lv_iconst (v := 0) hx hb dX1_about_3 (by decide) ?_
  refine lv_iconst (v := 5) hx hb dX1_about_4 (by decide) ?_
  refine x_cS (As := [.int p1, .int 0, .int 5]) (rest := [.ref (b + 0), .ref (b + 0)]) ⟨hx, hb, hml, hown, hts⟩ (mx1_in l G b hole p1 0 5 K T  _ h) (va_cwS 3 hts (lw_S q483 q484 q118 q485) rfl rfl rfl cwx_X1_in ⟨Nat.le_of_ble_eq_true rfl, Nat.le_of_ble_eq_true rfl⟩) hK hV hb0 hP hS rfl hl.1 rfl (Nat.le_of_ble_eq_true rfl) dX1_about_5 ⟨by first | exact Nat.zero_le _ | (show _ + _ ≤ Z - kc K0; omega), by first | exact Nat.zero_le _ | (show _ + _ ≤ Y - ks K0; omega)⟩ (fun r_1 T1 K1 H locs h hle1 hc1 hs1 hP hS => ?_)
  obtain ⟨h, hTe, hKe⟩ := h
  rw [hTe, hKe] at hP
  refine x_cV (k := 0) (As := [.int r_1]) (rest := [.ref (b + 0)]) ⟨hx, hb, hml, hown, hts⟩ (mx1_why l G b hole r_1 K T  _ h) (cwV 1 hts (lw_V q769 q771 qs24 q118 q772) rfl rfl rfl cwx_X1_why ⟨Nat.le_of_ble_eq_true rfl, Nat.le_of_ble_eq_true rfl⟩) (x_recv (CC := RX1) (ci := 0) hK hP (xs_0 hP) (by decide) (by decide) rfl (xE_8 (xs_0 hP))) hK hV hb0 hP hS rfl hl.1 rfl (Nat.le_of_ble_eq_true rfl) dX1_about_8 ⟨by first | exact Nat.zero_le _ | (show _ + _ ≤ Z - kc K0; omega), by first | exact Nat.zero_le _ | (show _ + _ ≤ Y - ks K0; omega)⟩ (fun r_4 T1 K1 H locs h hle1 hc1 hs1 hP hS => ?_)
  obtain ⟨h, hTe, hKe⟩ := h
  rw [hTe, hKe] at hP
  refine x_cV (k := 0) (As := [.int r_4]) (rest := []) ⟨hx, hb, hml, hown, hts⟩ (mx1_isRefused l G b hole r_4 K T  _ h) (cwV 1 hts (lw_V q777 q779 qs26 q118 q780) rfl rfl rfl cwx_X1_isRefused ⟨Nat.le_of_ble_eq_true rfl, Nat.le_of_ble_eq_true rfl⟩) (x_recv (CC := RX1) (ci := 0) hK hP (xs_0 hP) (by decide) (by decide) rfl (xE_8 (xs_0 hP))) hK hV hb0 hP hS rfl hl.1 rfl (Nat.le_of_ble_eq_true rfl) dX1_about_11 ⟨by first | exact Nat.zero_le _ | (show _ + _ ≤ Z - kc K0; omega), by first | exact Nat.zero_le _ | (show _ + _ ≤ Y - ks K0; omega)⟩ (fun r_7 T1 K1 H locs h hle1 hc1 hs1 hP hS => ?_)
  obtain ⟨h, hKe⟩ := h
  rw [hKe] at hP
  generalize T1 = T_8 at h hP
  refine lv_if_eq (tgt := 19) hx hb dX1_about_14 (by decide) (fun c_14 => ?_) (fun c_14 => ?_)
  · have h := h.1 c_14
    refine lv_iload_n hx hb dX1_about_19 rfl (lv_at hl 1 rfl) ?_
    obtain ⟨ht0, ht1, ht2, ht3, ht4, ht5⟩ := h
    by_cases c_13 : p1.toInt < 0 ∨ 4 < p1.toInt
    · have h := ht5 c_13
      refine lv_tableOut (tgt := 88) hx hb dX1_about_20 c_13 (by decide) ?_
      refine lv_aload_n hx hb dX1_about_88 rfl (lv_at hl 0 rfl) ?_
      refine x_cV (k := 0) (As := []) (rest := []) ⟨hx, hb, hml, hown, hts⟩ (mx1_filled l G b hole  K T_8  _ h) (cwV 0 hts (lw_V q781 q783 qs27 q118 q784) rfl rfl rfl cwx_X1_filled ⟨Nat.le_of_ble_eq_true rfl, Nat.le_of_ble_eq_true rfl⟩) (x_recv (CC := RX1) (ci := 0) hK hP (xs_0 hP) (by decide) (by decide) rfl (xE_8 (xs_0 hP))) hK hV hb0 hP hS rfl hl.1 rfl (Nat.le_of_ble_eq_true rfl) dX1_about_89 ⟨by first | exact Nat.zero_le _ | (show _ + _ ≤ Z - kc K0; omega), by first | exact Nat.zero_le _ | (show _ + _ ≤ Y - ks K0; omega)⟩ (fun r_10 T1 K1 H locs h hle1 hc1 hs1 hP hS => ?_)
      obtain ⟨h, hTe, hKe⟩ := h
      rw [hTe, hKe] at hP
      exact W.iret (v := r_10) hx hb hr (fun t ht hW => ⟨⟨r_10, T_8, K, rfl, ⟨h, rfl⟩, kle.rf, rfl, rfl, by rw [ht]; exact hP, va_K.moved hW.alike hK⟩, hS.F ht⟩) hS.2.2 dX1_about_92
    have c_13x : p1.toInt = 0 ∨ p1.toInt = 1 ∨ p1.toInt = 2 ∨ p1.toInt = 3 ∨ p1.toInt = 4 := by omega
    rcases c_13x with c_13x | c_13x | c_13x | c_13x | c_13x
    · have h := ht0 c_13x
      refine lv_tableIn (off := 36) (tgt := 56) hx hb dX1_about_20 (by omega) (by omega) (by rw [c_13x]; rfl) (by decide) ?_
      refine lv_aload_n hx hb dX1_about_56 rfl (lv_at hl 0 rfl) ?_
      refine x_get (CC := RX1) (TT := TX1) (N := 26) (ci := 0) (v := .int (xi T_8 0 0)) hx hb hts in_X1 hown hK hP (xs_0 hP) (by decide) (by decide) rfl (xE_8 (xs_0 hP)) 0 (by decide) q384 rfl rfl dX1_about_57 ?_
      exact W.iret (v := (xi T_8 0 0)) hx hb hr (fun t ht hW => ⟨⟨(xi T_8 0 0), T_8, K, rfl, ⟨h, rfl⟩, kle.rf, rfl, rfl, by rw [ht]; exact hP, va_K.moved hW.alike hK⟩, hS.F ht⟩) hS.2.2 dX1_about_60
    · have h := ht1 c_13x
      refine lv_tableIn (off := 41) (tgt := 61) hx hb dX1_about_20 (by omega) (by omega) (by rw [c_13x]; rfl) (by decide) ?_
      refine lv_aload_n hx hb dX1_about_61 rfl (lv_at hl 0 rfl) ?_
      refine x_get (CC := RX1) (TT := TX1) (N := 26) (ci := 0) (v := .int (xi T_8 0 1)) hx hb hts in_X1 hown hK hP (xs_0 hP) (by decide) (by decide) rfl (xE_8 (xs_0 hP)) 1 (by decide) q385 rfl rfl dX1_about_62 ?_
      exact W.iret (v := (xi T_8 0 1)) hx hb hr (fun t ht hW => ⟨⟨(xi T_8 0 1), T_8, K, rfl, ⟨h, rfl⟩, kle.rf, rfl, rfl, by rw [ht]; exact hP, va_K.moved hW.alike hK⟩, hS.F ht⟩) hS.2.2 dX1_about_65
    · have h := ht2 c_13x
      refine lv_tableIn (off := 46) (tgt := 66) hx hb dX1_about_20 (by omega) (by omega) (by rw [c_13x]; rfl) (by decide) ?_
      refine lv_aload_n hx hb dX1_about_66 rfl (lv_at hl 0 rfl) ?_
      refine x_get (CC := RX1) (TT := TX1) (N := 26) (ci := 0) (v := .int (xi T_8 0 2)) hx hb hts in_X1 hown hK hP (xs_0 hP) (by decide) (by decide) rfl (xE_8 (xs_0 hP)) 2 (by decide) q386 rfl rfl dX1_about_67 ?_
      exact W.iret (v := (xi T_8 0 2)) hx hb hr (fun t ht hW => ⟨⟨(xi T_8 0 2), T_8, K, rfl, ⟨h, rfl⟩, kle.rf, rfl, rfl, by rw [ht]; exact hP, va_K.moved hW.alike hK⟩, hS.F ht⟩) hS.2.2 dX1_about_70
    · have h := ht3 c_13x
      refine lv_tableIn (off := 51) (tgt := 71) hx hb dX1_about_20 (by omega) (by omega) (by rw [c_13x]; rfl) (by decide) ?_
      refine lv_aload_n hx hb dX1_about_71 rfl (lv_at hl 0 rfl) ?_
      refine x_get (CC := RX1) (TT := TX1) (N := 26) (ci := 0) (v := .int (xi T_8 0 3)) hx hb hts in_X1 hown hK hP (xs_0 hP) (by decide) (by decide) rfl (xE_8 (xs_0 hP)) 3 (by decide) q387 rfl rfl dX1_about_72 ?_
      exact W.iret (v := (xi T_8 0 3)) hx hb hr (fun t ht hW => ⟨⟨(xi T_8 0 3), T_8, K, rfl, ⟨h, rfl⟩, kle.rf, rfl, rfl, by rw [ht]; exact hP, va_K.moved hW.alike hK⟩, hS.F ht⟩) hS.2.2 dX1_about_75
    · have h := ht4 c_13x
      refine lv_tableIn (off := 56) (tgt := 76) hx hb dX1_about_20 (by omega) (by omega) (by rw [c_13x]; rfl) (by decide) ?_
      refine lv_iconst (v := 3) hx hb dX1_about_76 (by decide) ?_
      refine lv_aload_n hx hb dX1_about_77 rfl (lv_at hl 0 rfl) ?_
      refine x_get (CC := RX1) (TT := TX1) (N := 26) (ci := 0) (v := .int (xi T_8 0 2)) hx hb hts in_X1 hown hK hP (xs_0 hP) (by decide) (by decide) rfl (xE_8 (xs_0 hP)) 2 (by decide) q386 rfl rfl dX1_about_78 ?_
      refine lv_isub hx hb dX1_about_81 ?_
      refine lv_aload_n hx hb dX1_about_82 rfl (lv_at hl 0 rfl) ?_
      refine x_get (CC := RX1) (TT := TX1) (N := 26) (ci := 0) (v := .int (xi T_8 0 3)) hx hb hts in_X1 hown hK hP (xs_0 hP) (by decide) (by decide) rfl (xE_8 (xs_0 hP)) 3 (by decide) q387 rfl rfl dX1_about_83 ?_
      refine lv_isub hx hb dX1_about_86 ?_
      exact W.iret (v := ((3 - (xi T_8 0 2)) - (xi T_8 0 3))) hx hb hr (fun t ht hW => ⟨⟨((3 - (xi T_8 0 2)) - (xi T_8 0 3)), T_8, K, rfl, ⟨h, rfl⟩, kle.rf, rfl, rfl, by rw [ht]; exact hP, va_K.moved hW.alike hK⟩, hS.F ht⟩) hS.2.2 dX1_about_87
  · have h := h.2 c_14
    refine lv_iconst (v := (-1)) hx hb dX1_about_17 (by decide) ?_
    exact W.iret (v := (-1)) hx hb hr (fun t ht hW => ⟨⟨(-1), T_8, K, rfl, ⟨h, rfl⟩, kle.rf, rfl, rfl, by rw [ht]; exact hP, va_K.moved hW.alike hK⟩, hS.F ht⟩) hS.2.2 dX1_about_18
theorem cwx_X1_is : yX1_is.cls ≠ "java/lang/invoke/MethodHandle" ∧ yX1_is.cls ≠ "java/lang/invoke/VarHandle" ∧ (parseMethodDescriptor yX1_is.desc).map (fun d => d.parameters.length) = some 1 := by decide +kernel
def wx1_is_b7 (p1 : Nat) (post : Int32 → Prop) (R7 : Int32 → Prop) (x1 : Nat) (x2 : Int32) (x3 : Int32) (K : XK) (T : XT) : Prop :=
      ((x2 ≤ x3 →
        post 1) ∧
       (¬ (x2 ≤ x3) →
        ∃ j_1 : Nat, j_1 < kl K x1 ∧ x3 = nI j_1 ∧
        wx1_in (xi T x1 j_1) 0 7 K T (fun r_2 =>
        ((¬ r_2 = 0 →
          ∀ x3_5 : Int32, x3_5 = x3 + 1 →
          R7 x3_5) ∧
         (r_2 = 0 →
          post 0)))))
def wx1_is_l7 (p1 : Nat) (post : Int32 → Prop) (x1 : Nat) (x2 : Int32) (x3 : Int32) (K : XK) (T : XT) : Prop := wLoop (fun (R : ((Int32)) → Prop) (v : (Int32)) => wx1_is_b7 p1 post (fun x3 => R x3) x1 x2 v K T) x3
def wx1_is (p1 : Nat) (K : XK) (T : XT) (post : Int32 → Prop) : Prop :=
  ∀ x2_8 : Int32, x2_8 = (nI (kl K p1)) →
  wx1_is_l7 p1 post p1 x2_8 0 K T
set_option maxHeartbeats 4000000 in
theorem mx1_is (l : Launch) (G : XG) (b : Nat) (hole : Nat → Prop) (p1 : Nat) (K : XK) (T : XT) (hk_p1 : kd K p1 = 1) (post : Int32 → Prop) (h : wx1_is p1 K T post) : Met l yX1_is (ws_ yX1_is cX1_is 5 (some .boolean)) ({ frames := 1, cells := 0, slots := 0, locals := 22 } : Room) (xPc G b hole [.ref (b + p1)] K T) (xQ G b hole K 0 0 (ρ := Int32) eI (fun r T1 K1 => post r ∧ T1 = T ∧ K1 = K)) 0 0 (xA b hole) := by
  refine Met.ofW (cc := cX1_is) (maxL := 5) (ret := (some .boolean)) (by decide) rfl ?_
  intro p e s m args below meth c s₁ B hml hv
  obtain ⟨rfl, hP, hK, hV⟩ := hv
  have hx := B.exec
  have hb := B.bytes
  have hr := B.returns
  have hts := atoms_spec (ws := ws_ yX1_is cX1_is 5 (some .boolean)) B.pre
  have hts : ∀ w ∈ lw_all, w.before _ s = true := fun w h => hts w (List.mem_cons_of_mem _ h)
  have hown : s.vm.findClass RX1 = some m.cls := findClass_of_methodNamed B.named
  have hlocks := B.notSynchronized
  have hb0 : b ≤ s.heap.size := by rw [hP.2.2.2]; exact Nat.le_add_right _ _
  have hS : va_S (xA b hole) s.heap s.heap [] := va_S.rf
  have hl := lv_entry ([.ref (b + p1)]) (n := 5) (Nat.le_of_ble_eq_true rfl)
  rw [lg_entry_eq]
  generalize (lg_sl ([.ref (b + p1)]) ++ List.replicate (5 - (lg_sl ([.ref (b + p1)])).length) Slot.unset).toArray = ls at hl ⊢
  have hl : lv_has ls 5 [(0, .ref (b + p1))] := hl
  have L7 : ∀ (x1 : Nat) (x2 : Int32) (x3 : Int32) (H : Heap) (locs : List Loc) (ls : Array Slot), wx1_is_l7 p1 post x1 x2 x3 K T → (kd K x1 = 1) → xW G b hole K T H → va_S (xA b hole) s.heap H locs → lv_has ls 5 [(1, .ref (b + x1)), (2, .int x2), (3, .int x3)] → W p l e (headSpec (ws_ yX1_is cX1_is 5 (some .boolean)) ({ frames := 1, cells := 0, slots := 0, locals := 22 } : Room)).room s m ([.ref (b + p1)] : List Value).toArray below meth c H locs 0 0 (MQ below (xQ G b hole K 0 0 (ρ := Int32) eI (fun r T1 K1 => post r ∧ T1 = T ∧ K1 = K)) ([.ref (b + p1)] : List Value).toArray s 0 0 (xA b hole)) (F0 m 7 ls []) := by
    intro x1 x2 x3 H locs ls h hk_x1 hP hS hl
    obtain ⟨I7, n7, hI, hstep7⟩ := h
    induction n7 using Nat.strongRecOn generalizing x3 H locs ls with
    | ind n7 ih7 =>
      have h : wx1_is_b7 p1 post (fun x3 => ∃ mm, mm < n7 ∧ I7 mm x3) x1 x2 x3 K T := hstep7 n7 _ hI
      clear hI
      unfold wx1_is_b7 at h
      refine lv_iload_n hx hb dX1_is_7 rfl (lv_at hl 2 rfl) ?_
      refine lv_iload_n hx hb dX1_is_8 rfl (lv_at hl 1 rfl) ?_
      refine lv_icmp_ge (tgt := 36) hx hb dX1_is_9 (by decide) (fun c_7 => ?_) (fun c_7 => ?_)
      · have h := h.1 c_7
        refine lv_iconst (v := 1) hx hb dX1_is_36 (by decide) ?_
        exact W.zret (v := 1) hx hb hr rfl (fun t ht hW => ⟨⟨1, T, K, rfl, ⟨h, rfl, rfl⟩, kle.rf, rfl, rfl, by rw [ht]; exact hP, va_K.moved hW.alike hK⟩, hS.F ht⟩) hS.2.2 dX1_is_37
      · have h := h.2 c_7
        refine lv_aload_n hx hb dX1_is_12 rfl (lv_at hl 0 rfl) ?_
        refine lv_iload_n hx hb dX1_is_13 rfl (lv_at hl 2 rfl) ?_
        obtain ⟨j_1, hj_1, ej_1, h⟩ := h
        refine x_iald hx hb hK hP hk_x1 ej_1 hj_1 dX1_is_14 ?_
        refine lv_istore (lv' := [(4, .int (xi T x1 j_1)), (1, .ref (b + x1)), (2, .int x2), (3, .int x3)]) hx hb dX1_is_15 hl (by decide) rfl (fun ls hl => ?_)
        refine lv_iload hx hb dX1_is_17 (lv_at hl 0 rfl) ?_
        refine lv_iconst (v := 0) hx hb dX1_is_19 (by decide) ?_
        refine lv_bipush (v := 7) hx hb dX1_is_20 (by decide) ?_
        refine x_cS (As := [.int (xi T x1 j_1), .int 0, .int 7]) (rest := []) ⟨hx, hb, hml, hown, hts⟩ (mx1_in l G b hole (xi T x1 j_1) 0 7 K T  _ h) (va_cwS 3 hts (lw_S q483 q484 q118 q485) rfl rfl rfl cwx_X1_in ⟨Nat.le_of_ble_eq_true rfl, Nat.le_of_ble_eq_true rfl⟩) hK hV hb0 hP hS rfl hl.1 rfl (Nat.le_of_ble_eq_true rfl) dX1_is_22 ⟨by first | exact Nat.zero_le _ | (show _ + _ ≤ Z - kc K0; omega), by first | exact Nat.zero_le _ | (show _ + _ ≤ Y - ks K0; omega)⟩ (fun r_2 T1 K1 H locs h hle1 hc1 hs1 hP hS => ?_)
        obtain ⟨h, hTe, hKe⟩ := h
        rw [hTe, hKe] at hP
        refine lv_if_ne (tgt := 30) hx hb dX1_is_25 (by decide) (fun c_6 => ?_) (fun c_6 => ?_)
        · have h := h.1 c_6
          obtain ⟨x3_5, ex3_5⟩ : ∃ y : Int32, y = x3 + 1 := ⟨_, rfl⟩
          have h := h x3_5 ex3_5
          refine lv_iinc (v := x3_5) (lv' := [(3, .int x3_5), (4, .int (xi T x1 j_1)), (1, .ref (b + x1)), (2, .int x2)]) hx hb dX1_is_30 hl (k := 3) rfl (by rw [ex3_5]; rfl) (by decide) rfl (fun ls hl => ?_)
          refine lv_goto (tgt := 7) hx hb dX1_is_33 (by decide) ?_
          obtain ⟨mm, hmm, h⟩ := h
          exact ih7 mm hmm _ _ _ _  hP hS (lv_sub hl [2, 3, 0] rfl) h
        · have h := h.2 c_6
          refine lv_iconst (v := 0) hx hb dX1_is_28 (by decide) ?_
          exact W.zret (v := 0) hx hb hr rfl (fun t ht hW => ⟨⟨0, T, K, rfl, ⟨h, rfl, rfl⟩, kle.rf, rfl, rfl, by rw [ht]; exact hP, va_K.moved hW.alike hK⟩, hS.F ht⟩) hS.2.2 dX1_is_29
  unfold wx1_is at h
  refine lv_aload_n hx hb dX1_is_0 rfl (lv_at hl 0 rfl) ?_
  refine lv_astore_n (lv' := [(1, .ref (b + p1)), (0, .ref (b + p1))]) hx hb dX1_is_1 rfl hl (by decide) rfl (fun ls hl => ?_)
  refine lv_aload_n hx hb dX1_is_2 rfl (lv_at hl 0 rfl) ?_
  refine x_alen1 hx hb hK hP hk_p1 dX1_is_3 ?_
  refine lv_topi (fun x2_8 ex2_8 => ?_)
  have h := h x2_8 ex2_8
  refine lv_istore_n (lv' := [(2, .int x2_8), (1, .ref (b + p1)), (0, .ref (b + p1))]) hx hb dX1_is_4 rfl hl (by decide) rfl (fun ls hl => ?_)
  refine lv_iconst (v := 0) hx hb dX1_is_5 (by decide) ?_
  refine lv_istore_n (lv' := [(3, .int 0), (2, .int x2_8), (1, .ref (b + p1)), (0, .ref (b + p1))]) hx hb dX1_is_6 rfl hl (by decide) rfl (fun ls hl => ?_)
  exact L7 _ _ _ _ _ _ h hk_p1 hP hS (lv_sub hl [2, 1, 0] rfl)
theorem cwx_X1_terms : yX1_terms.cls = RX1 ∧ yX1_terms.cls ≠ "java/lang/invoke/MethodHandle" ∧ yX1_terms.cls ≠ "java/lang/invoke/VarHandle" ∧ (parseMethodDescriptor yX1_terms.desc).map (fun d => d.parameters.length) = some 1 := by decide +kernel
def wx1_terms (p1 : Int32) (K0 : XK) (T : XT) (Z Y : Nat) (post : Int32 → XT → XK → Prop) : Prop :=
  kc K0 + 1 ≤ Z ∧ ks K0 + 1 ≤ Y ∧ ∀ K_1 : XK, K_1 = knew K0 1 1 1 → ∀ T_2 : XT, T_2 = xnil T (kz K0) →
  ∃ j_3 : Nat, j_3 < kl K_1 (kz K0) ∧ 0 = nI j_3 ∧ ∀ T_4 : XT, T_4 = xwi T_2 (kz K0) j_3 p1 →
  wx1_is (kz K0) K_1 T_4 (fun r_5 =>
  wx1_why r_5 K_1 T_4 (fun r_8 =>
  wx1_isRefused r_8 K_1 T_4 (fun r_11 T_12 =>
  ((r_11 = 0 →
    ∃ v_14 : Nat, xr T_12 0 18 = some v_14 ∧
    ∃ j_15 : Nat, j_15 < kl K_1 v_14 ∧ p1 = nI j_15 ∧ ∃ v_16 : Nat, xr T_12 v_14 j_15 = some v_16 ∧
    post (xi T_12 v_16 2) T_12 (kset K_1 Z Y)) ∧
   (¬ (r_11 = 0) →
    post (-1) T_12 (kset K_1 Z Y))))))
set_option maxHeartbeats 4000000 in
theorem mx1_terms (l : Launch) (G : XG) (b : Nat) (hole : Nat → Prop) (p1 : Int32) (K0 : XK) (T : XT) (Z Y : Nat) (hZ : kc K0 ≤ Z) (hY : ks K0 ≤ Y)  (post : Int32 → XT → XK → Prop) (h : wx1_terms p1 K0 T Z Y post) : Met l yX1_terms (ws_ yX1_terms cX1_terms 2 (some .int)) ({ frames := 2, cells := (Z - kc K0), slots := (Y - ks K0), locals := 46 } : Room) (xPc G b hole [.ref (b + 0), .int p1] K0 T) (xQ G b hole K0 (Z - kc K0) (Y - ks K0) (ρ := Int32) eI (fun r T1 K1 => post r T1 K1)) (Z - kc K0) (Y - ks K0) (xA b hole) := by
  refine Met.ofW (cc := cX1_terms) (maxL := 2) (ret := (some .int)) (by decide) rfl ?_
  intro p e s m args below meth c s₁ B hml hv
  obtain ⟨rfl, hP, hK, hV⟩ := hv
  have hx := B.exec
  have hb := B.bytes
  have hr := B.returns
  have hts := atoms_spec (ws := ws_ yX1_terms cX1_terms 2 (some .int)) B.pre
  have hts : ∀ w ∈ lw_all, w.before _ s = true := fun w h => hts w (List.mem_cons_of_mem _ h)
  have hown : s.vm.findClass RX1 = some m.cls := findClass_of_methodNamed B.named
  have hlocks := B.notSynchronized
  have hb0 : b ≤ s.heap.size := by rw [hP.2.2.2]; exact Nat.le_add_right _ _
  have hS : va_S (xA b hole) s.heap s.heap [] := va_S.rf
  have hl := lv_entry ([.ref (b + 0), .int p1]) (n := 2) (Nat.le_of_ble_eq_true rfl)
  rw [lg_entry_eq]
  generalize (lg_sl ([.ref (b + 0), .int p1]) ++ List.replicate (2 - (lg_sl ([.ref (b + 0), .int p1])).length) Slot.unset).toArray = ls at hl ⊢
  have hl : lv_has ls 2 [(0, .ref (b + 0)), (1, .int p1)] := hl
  have hle0 : kle K0 K0 := kle.rf
  have hcn : kc K0 + 0 = kc K0 := rfl
  have hsn : ks K0 + 0 = ks K0 := rfl
  have hzz := hZ
  have hyy := hY
  unfold wx1_terms at h
  refine lv_aload_n hx hb dX1_terms_0 rfl (lv_at hl 0 rfl) ?_
  refine lv_aload_n hx hb dX1_terms_1 rfl (lv_at hl 0 rfl) ?_
  refine lv_iconst (v := 1) hx hb dX1_terms_2 (by decide) ?_
  obtain ⟨hc1, hs1, h⟩ := h
  obtain ⟨K_1, eK_1⟩ : ∃ z : XK, z = knew K0 1 1 1 := ⟨_, rfl⟩
  obtain ⟨T_2, eT_2⟩ : ∃ z : XT, z = xnil T (kz K0) := ⟨_, rfl⟩
  have h := h K_1 eK_1 T_2 eT_2
  have hle1 : kle K0 K_1 := by rw [eK_1]; exact kle.new hP.2.2.1 _ _ _
  refine x_newai (N := 1) hx hb hts q170 hK hP hS (by decide) (by decide) (by show _ + 1 ≤ Z - kc K0; omega) (by show _ + _ ≤ Y - ks K0; omega) dX1_terms_3 (fun H hP hS => ?_)
  rw [← eK_1, ← eT_2] at hP
  have hk_n1 : kd K_1 (kz K0) = 1 := by rw [eK_1]; exact knew_kd
  have hle0 := hle0.tr hle1
  have hcn : kc K0 + (0 + 1) = kc K_1 := by rw [eK_1]; show _ = kc K0 + 1; omega
  have hsn : ks K0 + (0 + 1) = ks K_1 := by rw [eK_1]; show _ = ks K0 + 1; omega
  have hzz : kc K_1 ≤ Z := by rw [eK_1]; exact hc1
  have hyy : ks K_1 ≤ Y := by rw [eK_1]; exact hs1
  refine lv_dup hx hb dX1_terms_5 rfl ?_
  refine lv_iconst (v := 0) hx hb dX1_terms_6 (by decide) ?_
  refine lv_iload_n hx hb dX1_terms_7 rfl (lv_at hl 1 rfl) ?_
  obtain ⟨j_3, hj_3, ej_3, h⟩ := h
  obtain ⟨T_4, eT_4⟩ : ∃ z : XT, z = xwi T_2 (kz K0) j_3 p1 := ⟨_, rfl⟩
  have h := h T_4 eT_4
  refine x_iast hx hb hK hP hS hk_n1 ej_3 hj_3 dX1_terms_8 (fun H locs hP hS => ?_)
  rw [← eT_4] at hP
  refine x_cS (As := [.ref (b + (kz K0))]) (rest := [.ref (b + 0), .ref (b + 0)]) ⟨hx, hb, hml, hown, hts⟩ (mx1_is l G b hole (kz K0) K_1 T_4 hk_n1 _ h) (va_cwS 1 hts (lw_S q793 q794 q118 q795) rfl rfl rfl cwx_X1_is ⟨Nat.le_of_ble_eq_true rfl, Nat.le_of_ble_eq_true rfl⟩) hK hV hb0 hP hS rfl hl.1 rfl (Nat.le_of_ble_eq_true rfl) dX1_terms_9 ⟨by first | exact Nat.zero_le _ | (show _ + _ ≤ Z - kc K0; omega), by first | exact Nat.zero_le _ | (show _ + _ ≤ Y - ks K0; omega)⟩ (fun r_5 T1 K1 H locs h hle1 hc1 hs1 hP hS => ?_)
  obtain ⟨h, hTe, hKe⟩ := h
  rw [hTe, hKe] at hP
  refine x_cV (k := 0) (As := [.int r_5]) (rest := [.ref (b + 0)]) ⟨hx, hb, hml, hown, hts⟩ (mx1_why l G b hole r_5 K_1 T_4  _ h) (cwV 1 hts (lw_V q769 q771 qs24 q118 q772) rfl rfl rfl cwx_X1_why ⟨Nat.le_of_ble_eq_true rfl, Nat.le_of_ble_eq_true rfl⟩) (x_recv (CC := RX1) (ci := 0) hK hP (xs_0 hP) (by decide) (by decide) rfl (xE_8 (xs_0 hP))) hK hV hb0 hP hS rfl hl.1 rfl (Nat.le_of_ble_eq_true rfl) dX1_terms_12 ⟨by first | exact Nat.zero_le _ | (show _ + _ ≤ Z - kc K0; omega), by first | exact Nat.zero_le _ | (show _ + _ ≤ Y - ks K0; omega)⟩ (fun r_8 T1 K1 H locs h hle1 hc1 hs1 hP hS => ?_)
  obtain ⟨h, hTe, hKe⟩ := h
  rw [hTe, hKe] at hP
  refine x_cV (k := 0) (As := [.int r_8]) (rest := []) ⟨hx, hb, hml, hown, hts⟩ (mx1_isRefused l G b hole r_8 K_1 T_4  _ h) (cwV 1 hts (lw_V q777 q779 qs26 q118 q780) rfl rfl rfl cwx_X1_isRefused ⟨Nat.le_of_ble_eq_true rfl, Nat.le_of_ble_eq_true rfl⟩) (x_recv (CC := RX1) (ci := 0) hK hP (xs_0 hP) (by decide) (by decide) rfl (xE_8 (xs_0 hP))) hK hV hb0 hP hS rfl hl.1 rfl (Nat.le_of_ble_eq_true rfl) dX1_terms_15 ⟨by first | exact Nat.zero_le _ | (show _ + _ ≤ Z - kc K0; omega), by first | exact Nat.zero_le _ | (show _ + _ ≤ Y - ks K0; omega)⟩ (fun r_11 T1 K1 H locs h hle1 hc1 hs1 hP hS => ?_)
  obtain ⟨h, hKe⟩ := h
  rw [hKe] at hP
  generalize T1 = T_12 at h hP
  refine lv_if_eq (tgt := 25) hx hb dX1_terms_18 (by decide) (fun c_17 => ?_) (fun c_17 => ?_)
  · have h := h.1 c_17
    refine lv_aload_n hx hb dX1_terms_25 rfl (lv_at hl 0 rfl) ?_
    obtain ⟨v_14, ev_14, h⟩ := h
    refine x_get (CC := RX1) (TT := TX1) (N := 26) (ci := 0) (v := rfv b (xr T_12 0 18)) hx hb hts in_X1 hown hK hP (xs_0 hP) (by decide) (by decide) rfl (xE_8 (xs_0 hP)) 18 (by decide) q405 rfl rfl dX1_terms_26 ?_
    refine x_some ev_14 ?_
    have hk_v_14 : kd K_1 v_14 = 3 := hP.ty (xs_0 hP) (by decide) ev_14
    refine lv_iload_n hx hb dX1_terms_29 rfl (lv_at hl 1 rfl) ?_
    obtain ⟨j_15, hj_15, ej_15, v_16, ev_16, h⟩ := h
    refine x_aald3 hx hb hK hP hk_v_14 ej_15 hj_15 dX1_terms_30 ?_
    refine x_some ev_16 ?_
    have hk_v_16 : kd K_1 v_16 = 2 := hP.ty hk_v_14 (by decide) ev_16
    refine x_get (CC := RX6) (TT := TX6) (N := 3) (ci := 5) (v := .int (xi T_12 v_16 2)) hx hb hts in_X6 hown hK hP hk_v_16 (by decide) (by decide) rfl (xE_2 hk_v_16) 2 (by decide) q372 rfl rfl dX1_terms_31 ?_
    refine W.widen (k := Z - kc K0) (n := Y - ks K0) (by omega) (by omega) ?_
    exact W.iret (v := (xi T_12 v_16 2)) hx hb hr (fun t ht hW => ⟨⟨(xi T_12 v_16 2), T_12, (kset K_1 Z Y), rfl, h, hle0, (by show Z = _; omega), (by show Y = _; omega), by rw [ht]; exact hP, va_K.moved hW.alike hK⟩, hS.F ht⟩) hS.2.2 dX1_terms_34
  · have h := h.2 c_17
    refine lv_iconst (v := (-1)) hx hb dX1_terms_21 (by decide) ?_
    refine lv_goto (tgt := 34) hx hb dX1_terms_22 (by decide) ?_
    refine W.widen (k := Z - kc K0) (n := Y - ks K0) (by omega) (by omega) ?_
    exact W.iret (v := (-1)) hx hb hr (fun t ht hW => ⟨⟨(-1), T_12, (kset K_1 Z Y), rfl, h, hle0, (by show Z = _; omega), (by show Y = _; omega), by rw [ht]; exact hP, va_K.moved hW.alike hK⟩, hS.F ht⟩) hS.2.2 dX1_terms_34
theorem cwx_X1_term : yX1_term.cls = RX1 ∧ yX1_term.cls ≠ "java/lang/invoke/MethodHandle" ∧ yX1_term.cls ≠ "java/lang/invoke/VarHandle" ∧ (parseMethodDescriptor yX1_term.desc).map (fun d => d.parameters.length) = some 3 := by decide +kernel
def wx1_term_j59 (p1 : Int32) (p2 : Int32) (p3 : Int32) (Z Y : Nat) (post : Int32 → XT → XK → Prop)  (K : XK) (T : XT) : Prop :=
    ∃ v_1 : Nat, xr T 0 18 = some v_1 ∧
    ∃ j_2 : Nat, j_2 < kl K v_1 ∧ p1 = nI j_2 ∧ ∃ v_3 : Nat, xr T v_1 j_2 = some v_3 ∧
    ((¬ p3 = 0 →
      ((¬ p3 = 4 →
        ∃ v_4 : Nat, xr T v_3 0 = some v_4 ∧
        ∃ j_5 : Nat, j_5 < kl K v_4 ∧ p2 = nI j_5 ∧
        wx1_exponent (xi T v_4 j_5) (p3 - 1) K T (fun r_6 =>
        post r_6 T (kset K Z Y))) ∧
       (p3 = 4 →
        ∃ v_9 : Nat, xr T v_3 0 = some v_9 ∧
        ∃ j_10 : Nat, j_10 < kl K v_9 ∧ p2 = nI j_10 ∧
        wx1_sum (xi T v_9 j_10) K T (fun r_11 =>
        post r_11 T (kset K Z Y))))) ∧
     (p3 = 0 →
      ∃ v_15 : Nat, xr T v_3 1 = some v_15 ∧
      ∃ j_16 : Nat, j_16 < kl K v_15 ∧ p2 = nI j_16 ∧
      post (xi T v_15 j_16) T (kset K Z Y)))
def wx1_term (p1 : Int32) (p2 : Int32) (p3 : Int32) (K0 : XK) (T : XT) (Z Y : Nat) (post : Int32 → XT → XK → Prop) : Prop :=
  kc K0 + 1 ≤ Z ∧ ks K0 + 1 ≤ Y ∧ ∀ K_18 : XK, K_18 = knew K0 1 1 1 → ∀ T_19 : XT, T_19 = xnil T (kz K0) →
  ∃ j_20 : Nat, j_20 < kl K_18 (kz K0) ∧ 0 = nI j_20 ∧ ∀ T_21 : XT, T_21 = xwi T_19 (kz K0) j_20 p1 →
  wx1_is (kz K0) K_18 T_21 (fun r_22 =>
  ((r_22 = 0 →
    wx1_why 0 K_18 T_21 (fun r_25 =>
    wx1_isRefused r_25 K_18 T_21 (fun r_28 T_29 =>
    ((r_28 = 0 →
      wx1_term_j59 p1 p2 p3 Z Y post  K_18 T_29) ∧
     (¬ (r_28 = 0) →
      post (-1) T_29 (kset K_18 Z Y)))))) ∧
   (¬ (r_22 = 0) →
    ∃ v_32 : Nat, xr T_21 0 18 = some v_32 ∧
    ∃ j_33 : Nat, j_33 < kl K_18 v_32 ∧ p1 = nI j_33 ∧ ∃ v_34 : Nat, xr T_21 v_32 j_33 = some v_34 ∧
    wx1_in p2 0 ((xi T_21 v_34 2) - 1) K_18 T_21 (fun r_35 =>
    ((r_35 = 0 →
      wx1_why 0 K_18 T_21 (fun r_38 =>
      wx1_isRefused r_38 K_18 T_21 (fun r_41 T_42 =>
      ((r_41 = 0 →
        wx1_term_j59 p1 p2 p3 Z Y post  K_18 T_42) ∧
       (¬ (r_41 = 0) →
        post (-1) T_42 (kset K_18 Z Y)))))) ∧
     (¬ (r_35 = 0) →
      wx1_in p3 0 4 K_18 T_21 (fun r_45 =>
      ((r_45 = 0 →
        wx1_why 0 K_18 T_21 (fun r_48 =>
        wx1_isRefused r_48 K_18 T_21 (fun r_51 T_52 =>
        ((r_51 = 0 →
          wx1_term_j59 p1 p2 p3 Z Y post  K_18 T_52) ∧
         (¬ (r_51 = 0) →
          post (-1) T_52 (kset K_18 Z Y)))))) ∧
       (¬ (r_45 = 0) →
        wx1_why 1 K_18 T_21 (fun r_55 =>
        wx1_isRefused r_55 K_18 T_21 (fun r_58 T_59 =>
        ((r_58 = 0 →
          wx1_term_j59 p1 p2 p3 Z Y post  K_18 T_59) ∧
         (¬ (r_58 = 0) →
          post (-1) T_59 (kset K_18 Z Y))))))))))))))
set_option maxHeartbeats 4000000 in
theorem mx1_term (l : Launch) (G : XG) (b : Nat) (hole : Nat → Prop) (p1 : Int32) (p2 : Int32) (p3 : Int32) (K0 : XK) (T : XT) (Z Y : Nat) (hZ : kc K0 ≤ Z) (hY : ks K0 ≤ Y)  (post : Int32 → XT → XK → Prop) (h : wx1_term p1 p2 p3 K0 T Z Y post) : Met l yX1_term (ws_ yX1_term cX1_term 5 (some .int)) ({ frames := 2, cells := (Z - kc K0), slots := (Y - ks K0), locals := 46 } : Room) (xPc G b hole [.ref (b + 0), .int p1, .int p2, .int p3] K0 T) (xQ G b hole K0 (Z - kc K0) (Y - ks K0) (ρ := Int32) eI (fun r T1 K1 => post r T1 K1)) (Z - kc K0) (Y - ks K0) (xA b hole) := by
  refine Met.ofW (cc := cX1_term) (maxL := 5) (ret := (some .int)) (by decide) rfl ?_
  intro p e s m args below meth c s₁ B hml hv
  obtain ⟨rfl, hP, hK, hV⟩ := hv
  have hx := B.exec
  have hb := B.bytes
  have hr := B.returns
  have hts := atoms_spec (ws := ws_ yX1_term cX1_term 5 (some .int)) B.pre
  have hts : ∀ w ∈ lw_all, w.before _ s = true := fun w h => hts w (List.mem_cons_of_mem _ h)
  have hown : s.vm.findClass RX1 = some m.cls := findClass_of_methodNamed B.named
  have hlocks := B.notSynchronized
  have hb0 : b ≤ s.heap.size := by rw [hP.2.2.2]; exact Nat.le_add_right _ _
  have hS : va_S (xA b hole) s.heap s.heap [] := va_S.rf
  have hl := lv_entry ([.ref (b + 0), .int p1, .int p2, .int p3]) (n := 5) (Nat.le_of_ble_eq_true rfl)
  rw [lg_entry_eq]
  generalize (lg_sl ([.ref (b + 0), .int p1, .int p2, .int p3]) ++ List.replicate (5 - (lg_sl ([.ref (b + 0), .int p1, .int p2, .int p3])).length) Slot.unset).toArray = ls at hl ⊢
  have hl : lv_has ls 5 [(0, .ref (b + 0)), (1, .int p1), (2, .int p2), (3, .int p3)] := hl
  have hle0 : kle K0 K0 := kle.rf
  have J59 : ∀  (T : XT) (K : XK) (cn sn : Nat) (H : Heap) (locs : List Loc) (ls : Array Slot), wx1_term_j59 p1 p2 p3 Z Y post  K T → kle K0 K → kc K0 + cn = kc K → ks K0 + sn = ks K → kc K ≤ Z → ks K ≤ Y → xW G b hole K T H → va_S (xA b hole) s.heap H locs → lv_has ls 5 [(0, .ref (b + 0)), (1, .int p1), (2, .int p2), (3, .int p3)] → W p l e (headSpec (ws_ yX1_term cX1_term 5 (some .int)) ({ frames := 2, cells := (Z - kc K0), slots := (Y - ks K0), locals := 46 } : Room)).room s m ([.ref (b + 0), .int p1, .int p2, .int p3] : List Value).toArray below meth c H locs cn sn (MQ below (xQ G b hole K0 (Z - kc K0) (Y - ks K0) (ρ := Int32) eI (fun r T1 K1 => post r T1 K1)) ([.ref (b + 0), .int p1, .int p2, .int p3] : List Value).toArray s (Z - kc K0) (Y - ks K0) (xA b hole)) (F0 m 59 ls []) := by
    intro  T K cn sn H locs ls h hle0 hcn hsn hzz hyy hP hS hl
    unfold wx1_term_j59 at h
    refine lv_aload_n hx hb dX1_term_59 rfl (lv_at hl 0 rfl) ?_
    obtain ⟨v_1, ev_1, h⟩ := h
    refine x_get (CC := RX1) (TT := TX1) (N := 26) (ci := 0) (v := rfv b (xr T 0 18)) hx hb hts in_X1 hown hK hP (xs_0 hP) (by decide) (by decide) rfl (xE_8 (xs_0 hP)) 18 (by decide) q405 rfl rfl dX1_term_60 ?_
    refine x_some ev_1 ?_
    have hk_v_1 : kd K v_1 = 3 := hP.ty (xs_0 hP) (by decide) ev_1
    refine lv_iload_n hx hb dX1_term_63 rfl (lv_at hl 1 rfl) ?_
    obtain ⟨j_2, hj_2, ej_2, v_3, ev_3, h⟩ := h
    refine x_aald3 hx hb hK hP hk_v_1 ej_2 hj_2 dX1_term_64 ?_
    refine x_some ev_3 ?_
    have hk_v_3 : kd K v_3 = 2 := hP.ty hk_v_1 (by decide) ev_3
    refine lv_astore (lv' := [(4, .ref (b + v_3)), (0, .ref (b + 0)), (1, .int p1), (2, .int p2), (3, .int p3)]) hx hb dX1_term_65 hl (by decide) rfl (fun ls hl => ?_)
    refine lv_iload_n hx hb dX1_term_67 rfl (lv_at hl 4 rfl) ?_
    refine lv_if_ne (tgt := 81) hx hb dX1_term_68 (by decide) (fun c_17 => ?_) (fun c_17 => ?_)
    · have h := h.1 c_17
      refine lv_iload_n hx hb dX1_term_81 rfl (lv_at hl 4 rfl) ?_
      refine lv_iconst (v := 4) hx hb dX1_term_82 (by decide) ?_
      refine lv_icmp_ne (tgt := 99) hx hb dX1_term_83 (by decide) (fun c_14 => ?_) (fun c_14 => ?_)
      · have h := h.1 c_14
        refine lv_aload hx hb dX1_term_99 (lv_at hl 0 rfl) ?_
        obtain ⟨v_4, ev_4, h⟩ := h
        refine x_get (CC := RX6) (TT := TX6) (N := 3) (ci := 5) (v := rfv b (xr T v_3 0)) hx hb hts in_X6 hown hK hP hk_v_3 (by decide) (by decide) rfl (xE_2 hk_v_3) 0 (by decide) q366 rfl rfl dX1_term_101 ?_
        refine x_some ev_4 ?_
        have hk_v_4 : kd K v_4 = 1 := hP.ty hk_v_3 (by decide) ev_4
        refine lv_iload_n hx hb dX1_term_104 rfl (lv_at hl 3 rfl) ?_
        obtain ⟨j_5, hj_5, ej_5, h⟩ := h
        refine x_iald hx hb hK hP hk_v_4 ej_5 hj_5 dX1_term_105 ?_
        refine lv_iload_n hx hb dX1_term_106 rfl (lv_at hl 4 rfl) ?_
        refine lv_iconst (v := 1) hx hb dX1_term_107 (by decide) ?_
        refine lv_isub hx hb dX1_term_108 ?_
        refine x_cS (As := [.int (xi T v_4 j_5), .int (p3 - 1)]) (rest := []) ⟨hx, hb, hml, hown, hts⟩ (mx1_exponent l G b hole (xi T v_4 j_5) (p3 - 1) K T  _ h) (va_cwS 2 hts (lw_S q723 q724 q118 q725) rfl rfl rfl cwx_X1_exponent ⟨Nat.le_of_ble_eq_true rfl, Nat.le_of_ble_eq_true rfl⟩) hK hV hb0 hP hS rfl hl.1 rfl (Nat.le_of_ble_eq_true rfl) dX1_term_109 ⟨by first | exact Nat.zero_le _ | (show _ + _ ≤ Z - kc K0; omega), by first | exact Nat.zero_le _ | (show _ + _ ≤ Y - ks K0; omega)⟩ (fun r_6 T1 K1 H locs h hle1 hc1 hs1 hP hS => ?_)
        obtain ⟨h, hTe, hKe⟩ := h
        rw [hTe, hKe] at hP
        refine W.widen (k := Z - kc K0) (n := Y - ks K0) (by omega) (by omega) ?_
        exact W.iret (v := r_6) hx hb hr (fun t ht hW => ⟨⟨r_6, T, (kset K Z Y), rfl, h, hle0, (by show Z = _; omega), (by show Y = _; omega), by rw [ht]; exact hP, va_K.moved hW.alike hK⟩, hS.F ht⟩) hS.2.2 dX1_term_112
      · have h := h.2 c_14
        refine lv_aload hx hb dX1_term_86 (lv_at hl 0 rfl) ?_
        obtain ⟨v_9, ev_9, h⟩ := h
        refine x_get (CC := RX6) (TT := TX6) (N := 3) (ci := 5) (v := rfv b (xr T v_3 0)) hx hb hts in_X6 hown hK hP hk_v_3 (by decide) (by decide) rfl (xE_2 hk_v_3) 0 (by decide) q366 rfl rfl dX1_term_88 ?_
        refine x_some ev_9 ?_
        have hk_v_9 : kd K v_9 = 1 := hP.ty hk_v_3 (by decide) ev_9
        refine lv_iload_n hx hb dX1_term_91 rfl (lv_at hl 3 rfl) ?_
        obtain ⟨j_10, hj_10, ej_10, h⟩ := h
        refine x_iald hx hb hK hP hk_v_9 ej_10 hj_10 dX1_term_92 ?_
        refine x_cS (As := [.int (xi T v_9 j_10)]) (rest := []) ⟨hx, hb, hml, hown, hts⟩ (mx1_sum l G b hole (xi T v_9 j_10) K T  _ h) (va_cwS 1 hts (lw_S q728 q729 q118 q730) rfl rfl rfl cwx_X1_sum ⟨Nat.le_of_ble_eq_true rfl, Nat.le_of_ble_eq_true rfl⟩) hK hV hb0 hP hS rfl hl.1 rfl (Nat.le_of_ble_eq_true rfl) dX1_term_93 ⟨by first | exact Nat.zero_le _ | (show _ + _ ≤ Z - kc K0; omega), by first | exact Nat.zero_le _ | (show _ + _ ≤ Y - ks K0; omega)⟩ (fun r_11 T1 K1 H locs h hle1 hc1 hs1 hP hS => ?_)
        obtain ⟨h, hTe, hKe⟩ := h
        rw [hTe, hKe] at hP
        refine lv_goto (tgt := 112) hx hb dX1_term_96 (by decide) ?_
        refine W.widen (k := Z - kc K0) (n := Y - ks K0) (by omega) (by omega) ?_
        exact W.iret (v := r_11) hx hb hr (fun t ht hW => ⟨⟨r_11, T, (kset K Z Y), rfl, h, hle0, (by show Z = _; omega), (by show Y = _; omega), by rw [ht]; exact hP, va_K.moved hW.alike hK⟩, hS.F ht⟩) hS.2.2 dX1_term_112
    · have h := h.2 c_17
      refine lv_aload hx hb dX1_term_71 (lv_at hl 0 rfl) ?_
      obtain ⟨v_15, ev_15, h⟩ := h
      refine x_get (CC := RX6) (TT := TX6) (N := 3) (ci := 5) (v := rfv b (xr T v_3 1)) hx hb hts in_X6 hown hK hP hk_v_3 (by decide) (by decide) rfl (xE_2 hk_v_3) 1 (by decide) q369 rfl rfl dX1_term_73 ?_
      refine x_some ev_15 ?_
      have hk_v_15 : kd K v_15 = 1 := hP.ty hk_v_3 (by decide) ev_15
      refine lv_iload_n hx hb dX1_term_76 rfl (lv_at hl 3 rfl) ?_
      obtain ⟨j_16, hj_16, ej_16, h⟩ := h
      refine x_iald hx hb hK hP hk_v_15 ej_16 hj_16 dX1_term_77 ?_
      refine lv_goto (tgt := 112) hx hb dX1_term_78 (by decide) ?_
      refine W.widen (k := Z - kc K0) (n := Y - ks K0) (by omega) (by omega) ?_
      exact W.iret (v := (xi T v_15 j_16)) hx hb hr (fun t ht hW => ⟨⟨(xi T v_15 j_16), T, (kset K Z Y), rfl, h, hle0, (by show Z = _; omega), (by show Y = _; omega), by rw [ht]; exact hP, va_K.moved hW.alike hK⟩, hS.F ht⟩) hS.2.2 dX1_term_112
  have hcn : kc K0 + 0 = kc K0 := rfl
  have hsn : ks K0 + 0 = ks K0 := rfl
  have hzz := hZ
  have hyy := hY
  unfold wx1_term at h
  refine lv_aload_n hx hb dX1_term_0 rfl (lv_at hl 0 rfl) ?_
  refine lv_aload_n hx hb dX1_term_1 rfl (lv_at hl 0 rfl) ?_
  refine lv_iconst (v := 1) hx hb dX1_term_2 (by decide) ?_
  obtain ⟨hc1, hs1, h⟩ := h
  obtain ⟨K_18, eK_18⟩ : ∃ z : XK, z = knew K0 1 1 1 := ⟨_, rfl⟩
  obtain ⟨T_19, eT_19⟩ : ∃ z : XT, z = xnil T (kz K0) := ⟨_, rfl⟩
  have h := h K_18 eK_18 T_19 eT_19
  have hle1 : kle K0 K_18 := by rw [eK_18]; exact kle.new hP.2.2.1 _ _ _
  refine x_newai (N := 1) hx hb hts q170 hK hP hS (by decide) (by decide) (by show _ + 1 ≤ Z - kc K0; omega) (by show _ + _ ≤ Y - ks K0; omega) dX1_term_3 (fun H hP hS => ?_)
  rw [← eK_18, ← eT_19] at hP
  have hk_n18 : kd K_18 (kz K0) = 1 := by rw [eK_18]; exact knew_kd
  have hle0 := hle0.tr hle1
  have hcn : kc K0 + (0 + 1) = kc K_18 := by rw [eK_18]; show _ = kc K0 + 1; omega
  have hsn : ks K0 + (0 + 1) = ks K_18 := by rw [eK_18]; show _ = ks K0 + 1; omega
  have hzz : kc K_18 ≤ Z := by rw [eK_18]; exact hc1
  have hyy : ks K_18 ≤ Y := by rw [eK_18]; exact hs1
  refine lv_dup hx hb dX1_term_5 rfl ?_
  refine lv_iconst (v := 0) hx hb dX1_term_6 (by decide) ?_
  refine lv_iload_n hx hb dX1_term_7 rfl (lv_at hl 1 rfl) ?_
  obtain ⟨j_20, hj_20, ej_20, h⟩ := h
  obtain ⟨T_21, eT_21⟩ : ∃ z : XT, z = xwi T_19 (kz K0) j_20 p1 := ⟨_, rfl⟩
  have h := h T_21 eT_21
  refine x_iast hx hb hK hP hS hk_n18 ej_20 hj_20 dX1_term_8 (fun H locs hP hS => ?_)
  rw [← eT_21] at hP
  refine x_cS (As := [.ref (b + (kz K0))]) (rest := [.ref (b + 0), .ref (b + 0)]) ⟨hx, hb, hml, hown, hts⟩ (mx1_is l G b hole (kz K0) K_18 T_21 hk_n18 _ h) (va_cwS 1 hts (lw_S q793 q794 q118 q795) rfl rfl rfl cwx_X1_is ⟨Nat.le_of_ble_eq_true rfl, Nat.le_of_ble_eq_true rfl⟩) hK hV hb0 hP hS rfl hl.1 rfl (Nat.le_of_ble_eq_true rfl) dX1_term_9 ⟨by first | exact Nat.zero_le _ | (show _ + _ ≤ Z - kc K0; omega), by first | exact Nat.zero_le _ | (show _ + _ ≤ Y - ks K0; omega)⟩ (fun r_22 T1 K1 H locs h hle1 hc1 hs1 hP hS => ?_)
  obtain ⟨h, hTe, hKe⟩ := h
  rw [hTe, hKe] at hP
  refine lv_if_eq (tgt := 47) hx hb dX1_term_12 (by decide) (fun c_64 => ?_) (fun c_64 => ?_)
  · have h := h.1 c_64
    refine lv_iconst (v := 0) hx hb dX1_term_47 (by decide) ?_
    refine x_cV (k := 0) (As := [.int 0]) (rest := [.ref (b + 0)]) ⟨hx, hb, hml, hown, hts⟩ (mx1_why l G b hole 0 K_18 T_21  _ h) (cwV 1 hts (lw_V q769 q771 qs24 q118 q772) rfl rfl rfl cwx_X1_why ⟨Nat.le_of_ble_eq_true rfl, Nat.le_of_ble_eq_true rfl⟩) (x_recv (CC := RX1) (ci := 0) hK hP (xs_0 hP) (by decide) (by decide) rfl (xE_8 (xs_0 hP))) hK hV hb0 hP hS rfl hl.1 rfl (Nat.le_of_ble_eq_true rfl) dX1_term_48 ⟨by first | exact Nat.zero_le _ | (show _ + _ ≤ Z - kc K0; omega), by first | exact Nat.zero_le _ | (show _ + _ ≤ Y - ks K0; omega)⟩ (fun r_25 T1 K1 H locs h hle1 hc1 hs1 hP hS => ?_)
    obtain ⟨h, hTe, hKe⟩ := h
    rw [hTe, hKe] at hP
    refine x_cV (k := 0) (As := [.int r_25]) (rest := []) ⟨hx, hb, hml, hown, hts⟩ (mx1_isRefused l G b hole r_25 K_18 T_21  _ h) (cwV 1 hts (lw_V q777 q779 qs26 q118 q780) rfl rfl rfl cwx_X1_isRefused ⟨Nat.le_of_ble_eq_true rfl, Nat.le_of_ble_eq_true rfl⟩) (x_recv (CC := RX1) (ci := 0) hK hP (xs_0 hP) (by decide) (by decide) rfl (xE_8 (xs_0 hP))) hK hV hb0 hP hS rfl hl.1 rfl (Nat.le_of_ble_eq_true rfl) dX1_term_51 ⟨by first | exact Nat.zero_le _ | (show _ + _ ≤ Z - kc K0; omega), by first | exact Nat.zero_le _ | (show _ + _ ≤ Y - ks K0; omega)⟩ (fun r_28 T1 K1 H locs h hle1 hc1 hs1 hP hS => ?_)
    obtain ⟨h, hKe⟩ := h
    rw [hKe] at hP
    generalize T1 = T_29 at h hP
    refine lv_if_eq (tgt := 59) hx hb dX1_term_54 (by decide) (fun c_31 => ?_) (fun c_31 => ?_)
    · have h := h.1 c_31
      exact J59 _ _ _ _ _ _ _ h hle0 hcn hsn hzz hyy hP hS (lv_sub hl [0, 1, 2, 3] rfl)
    · have h := h.2 c_31
      refine lv_iconst (v := (-1)) hx hb dX1_term_57 (by decide) ?_
      refine W.widen (k := Z - kc K0) (n := Y - ks K0) (by omega) (by omega) ?_
      exact W.iret (v := (-1)) hx hb hr (fun t ht hW => ⟨⟨(-1), T_29, (kset K_18 Z Y), rfl, h, hle0, (by show Z = _; omega), (by show Y = _; omega), by rw [ht]; exact hP, va_K.moved hW.alike hK⟩, hS.F ht⟩) hS.2.2 dX1_term_58
  · have h := h.2 c_64
    refine lv_iload_n hx hb dX1_term_15 rfl (lv_at hl 2 rfl) ?_
    refine lv_iconst (v := 0) hx hb dX1_term_16 (by decide) ?_
    refine lv_aload_n hx hb dX1_term_17 rfl (lv_at hl 0 rfl) ?_
    obtain ⟨v_32, ev_32, h⟩ := h
    refine x_get (CC := RX1) (TT := TX1) (N := 26) (ci := 0) (v := rfv b (xr T_21 0 18)) hx hb hts in_X1 hown hK hP (xs_0 hP) (by decide) (by decide) rfl (xE_8 (xs_0 hP)) 18 (by decide) q405 rfl rfl dX1_term_18 ?_
    refine x_some ev_32 ?_
    have hk_v_32 : kd K_18 v_32 = 3 := hP.ty (xs_0 hP) (by decide) ev_32
    refine lv_iload_n hx hb dX1_term_21 rfl (lv_at hl 1 rfl) ?_
    obtain ⟨j_33, hj_33, ej_33, v_34, ev_34, h⟩ := h
    refine x_aald3 hx hb hK hP hk_v_32 ej_33 hj_33 dX1_term_22 ?_
    refine x_some ev_34 ?_
    have hk_v_34 : kd K_18 v_34 = 2 := hP.ty hk_v_32 (by decide) ev_34
    refine x_get (CC := RX6) (TT := TX6) (N := 3) (ci := 5) (v := .int (xi T_21 v_34 2)) hx hb hts in_X6 hown hK hP hk_v_34 (by decide) (by decide) rfl (xE_2 hk_v_34) 2 (by decide) q372 rfl rfl dX1_term_23 ?_
    refine lv_iconst (v := 1) hx hb dX1_term_26 (by decide) ?_
    refine lv_isub hx hb dX1_term_27 ?_
    refine x_cS (As := [.int p2, .int 0, .int ((xi T_21 v_34 2) - 1)]) (rest := [.ref (b + 0), .ref (b + 0)]) ⟨hx, hb, hml, hown, hts⟩ (mx1_in l G b hole p2 0 ((xi T_21 v_34 2) - 1) K_18 T_21  _ h) (va_cwS 3 hts (lw_S q483 q484 q118 q485) rfl rfl rfl cwx_X1_in ⟨Nat.le_of_ble_eq_true rfl, Nat.le_of_ble_eq_true rfl⟩) hK hV hb0 hP hS rfl hl.1 rfl (Nat.le_of_ble_eq_true rfl) dX1_term_28 ⟨by first | exact Nat.zero_le _ | (show _ + _ ≤ Z - kc K0; omega), by first | exact Nat.zero_le _ | (show _ + _ ≤ Y - ks K0; omega)⟩ (fun r_35 T1 K1 H locs h hle1 hc1 hs1 hP hS => ?_)
    obtain ⟨h, hTe, hKe⟩ := h
    rw [hTe, hKe] at hP
    refine lv_if_eq (tgt := 47) hx hb dX1_term_31 (by decide) (fun c_63 => ?_) (fun c_63 => ?_)
    · have h := h.1 c_63
      refine lv_iconst (v := 0) hx hb dX1_term_47 (by decide) ?_
      refine x_cV (k := 0) (As := [.int 0]) (rest := [.ref (b + 0)]) ⟨hx, hb, hml, hown, hts⟩ (mx1_why l G b hole 0 K_18 T_21  _ h) (cwV 1 hts (lw_V q769 q771 qs24 q118 q772) rfl rfl rfl cwx_X1_why ⟨Nat.le_of_ble_eq_true rfl, Nat.le_of_ble_eq_true rfl⟩) (x_recv (CC := RX1) (ci := 0) hK hP (xs_0 hP) (by decide) (by decide) rfl (xE_8 (xs_0 hP))) hK hV hb0 hP hS rfl hl.1 rfl (Nat.le_of_ble_eq_true rfl) dX1_term_48 ⟨by first | exact Nat.zero_le _ | (show _ + _ ≤ Z - kc K0; omega), by first | exact Nat.zero_le _ | (show _ + _ ≤ Y - ks K0; omega)⟩ (fun r_38 T1 K1 H locs h hle1 hc1 hs1 hP hS => ?_)
      obtain ⟨h, hTe, hKe⟩ := h
      rw [hTe, hKe] at hP
      refine x_cV (k := 0) (As := [.int r_38]) (rest := []) ⟨hx, hb, hml, hown, hts⟩ (mx1_isRefused l G b hole r_38 K_18 T_21  _ h) (cwV 1 hts (lw_V q777 q779 qs26 q118 q780) rfl rfl rfl cwx_X1_isRefused ⟨Nat.le_of_ble_eq_true rfl, Nat.le_of_ble_eq_true rfl⟩) (x_recv (CC := RX1) (ci := 0) hK hP (xs_0 hP) (by decide) (by decide) rfl (xE_8 (xs_0 hP))) hK hV hb0 hP hS rfl hl.1 rfl (Nat.le_of_ble_eq_true rfl) dX1_term_51 ⟨by first | exact Nat.zero_le _ | (show _ + _ ≤ Z - kc K0; omega), by first | exact Nat.zero_le _ | (show _ + _ ≤ Y - ks K0; omega)⟩ (fun r_41 T1 K1 H locs h hle1 hc1 hs1 hP hS => ?_)
      obtain ⟨h, hKe⟩ := h
      rw [hKe] at hP
      generalize T1 = T_42 at h hP
      refine lv_if_eq (tgt := 59) hx hb dX1_term_54 (by decide) (fun c_44 => ?_) (fun c_44 => ?_)
      · have h := h.1 c_44
        exact J59 _ _ _ _ _ _ _ h hle0 hcn hsn hzz hyy hP hS (lv_sub hl [0, 1, 2, 3] rfl)
      · have h := h.2 c_44
        refine lv_iconst (v := (-1)) hx hb dX1_term_57 (by decide) ?_
        refine W.widen (k := Z - kc K0) (n := Y - ks K0) (by omega) (by omega) ?_
        exact W.iret (v := (-1)) hx hb hr (fun t ht hW => ⟨⟨(-1), T_42, (kset K_18 Z Y), rfl, h, hle0, (by show Z = _; omega), (by show Y = _; omega), by rw [ht]; exact hP, va_K.moved hW.alike hK⟩, hS.F ht⟩) hS.2.2 dX1_term_58
    · have h := h.2 c_63
      refine lv_iload_n hx hb dX1_term_34 rfl (lv_at hl 3 rfl) ?_
      refine lv_iconst (v := 0) hx hb dX1_term_35 (by decide) ?_
      refine lv_iconst (v := 4) hx hb dX1_term_36 (by decide) ?_
      refine x_cS (As := [.int p3, .int 0, .int 4]) (rest := [.ref (b + 0), .ref (b + 0)]) ⟨hx, hb, hml, hown, hts⟩ (mx1_in l G b hole p3 0 4 K_18 T_21  _ h) (va_cwS 3 hts (lw_S q483 q484 q118 q485) rfl rfl rfl cwx_X1_in ⟨Nat.le_of_ble_eq_true rfl, Nat.le_of_ble_eq_true rfl⟩) hK hV hb0 hP hS rfl hl.1 rfl (Nat.le_of_ble_eq_true rfl) dX1_term_37 ⟨by first | exact Nat.zero_le _ | (show _ + _ ≤ Z - kc K0; omega), by first | exact Nat.zero_le _ | (show _ + _ ≤ Y - ks K0; omega)⟩ (fun r_45 T1 K1 H locs h hle1 hc1 hs1 hP hS => ?_)
      obtain ⟨h, hTe, hKe⟩ := h
      rw [hTe, hKe] at hP
      refine lv_if_eq (tgt := 47) hx hb dX1_term_40 (by decide) (fun c_62 => ?_) (fun c_62 => ?_)
      · have h := h.1 c_62
        refine lv_iconst (v := 0) hx hb dX1_term_47 (by decide) ?_
        refine x_cV (k := 0) (As := [.int 0]) (rest := [.ref (b + 0)]) ⟨hx, hb, hml, hown, hts⟩ (mx1_why l G b hole 0 K_18 T_21  _ h) (cwV 1 hts (lw_V q769 q771 qs24 q118 q772) rfl rfl rfl cwx_X1_why ⟨Nat.le_of_ble_eq_true rfl, Nat.le_of_ble_eq_true rfl⟩) (x_recv (CC := RX1) (ci := 0) hK hP (xs_0 hP) (by decide) (by decide) rfl (xE_8 (xs_0 hP))) hK hV hb0 hP hS rfl hl.1 rfl (Nat.le_of_ble_eq_true rfl) dX1_term_48 ⟨by first | exact Nat.zero_le _ | (show _ + _ ≤ Z - kc K0; omega), by first | exact Nat.zero_le _ | (show _ + _ ≤ Y - ks K0; omega)⟩ (fun r_48 T1 K1 H locs h hle1 hc1 hs1 hP hS => ?_)
        obtain ⟨h, hTe, hKe⟩ := h
        rw [hTe, hKe] at hP
        refine x_cV (k := 0) (As := [.int r_48]) (rest := []) ⟨hx, hb, hml, hown, hts⟩ (mx1_isRefused l G b hole r_48 K_18 T_21  _ h) (cwV 1 hts (lw_V q777 q779 qs26 q118 q780) rfl rfl rfl cwx_X1_isRefused ⟨Nat.le_of_ble_eq_true rfl, Nat.le_of_ble_eq_true rfl⟩) (x_recv (CC := RX1) (ci := 0) hK hP (xs_0 hP) (by decide) (by decide) rfl (xE_8 (xs_0 hP))) hK hV hb0 hP hS rfl hl.1 rfl (Nat.le_of_ble_eq_true rfl) dX1_term_51 ⟨by first | exact Nat.zero_le _ | (show _ + _ ≤ Z - kc K0; omega), by first | exact Nat.zero_le _ | (show _ + _ ≤ Y - ks K0; omega)⟩ (fun r_51 T1 K1 H locs h hle1 hc1 hs1 hP hS => ?_)
        obtain ⟨h, hKe⟩ := h
        rw [hKe] at hP
        generalize T1 = T_52 at h hP
        refine lv_if_eq (tgt := 59) hx hb dX1_term_54 (by decide) (fun c_54 => ?_) (fun c_54 => ?_)
        · have h := h.1 c_54
          exact J59 _ _ _ _ _ _ _ h hle0 hcn hsn hzz hyy hP hS (lv_sub hl [0, 1, 2, 3] rfl)
        · have h := h.2 c_54
          refine lv_iconst (v := (-1)) hx hb dX1_term_57 (by decide) ?_
          refine W.widen (k := Z - kc K0) (n := Y - ks K0) (by omega) (by omega) ?_
          exact W.iret (v := (-1)) hx hb hr (fun t ht hW => ⟨⟨(-1), T_52, (kset K_18 Z Y), rfl, h, hle0, (by show Z = _; omega), (by show Y = _; omega), by rw [ht]; exact hP, va_K.moved hW.alike hK⟩, hS.F ht⟩) hS.2.2 dX1_term_58
      · have h := h.2 c_62
        refine lv_iconst (v := 1) hx hb dX1_term_43 (by decide) ?_
        refine lv_goto (tgt := 48) hx hb dX1_term_44 (by decide) ?_
        refine x_cV (k := 0) (As := [.int 1]) (rest := [.ref (b + 0)]) ⟨hx, hb, hml, hown, hts⟩ (mx1_why l G b hole 1 K_18 T_21  _ h) (cwV 1 hts (lw_V q769 q771 qs24 q118 q772) rfl rfl rfl cwx_X1_why ⟨Nat.le_of_ble_eq_true rfl, Nat.le_of_ble_eq_true rfl⟩) (x_recv (CC := RX1) (ci := 0) hK hP (xs_0 hP) (by decide) (by decide) rfl (xE_8 (xs_0 hP))) hK hV hb0 hP hS rfl hl.1 rfl (Nat.le_of_ble_eq_true rfl) dX1_term_48 ⟨by first | exact Nat.zero_le _ | (show _ + _ ≤ Z - kc K0; omega), by first | exact Nat.zero_le _ | (show _ + _ ≤ Y - ks K0; omega)⟩ (fun r_55 T1 K1 H locs h hle1 hc1 hs1 hP hS => ?_)
        obtain ⟨h, hTe, hKe⟩ := h
        rw [hTe, hKe] at hP
        refine x_cV (k := 0) (As := [.int r_55]) (rest := []) ⟨hx, hb, hml, hown, hts⟩ (mx1_isRefused l G b hole r_55 K_18 T_21  _ h) (cwV 1 hts (lw_V q777 q779 qs26 q118 q780) rfl rfl rfl cwx_X1_isRefused ⟨Nat.le_of_ble_eq_true rfl, Nat.le_of_ble_eq_true rfl⟩) (x_recv (CC := RX1) (ci := 0) hK hP (xs_0 hP) (by decide) (by decide) rfl (xE_8 (xs_0 hP))) hK hV hb0 hP hS rfl hl.1 rfl (Nat.le_of_ble_eq_true rfl) dX1_term_51 ⟨by first | exact Nat.zero_le _ | (show _ + _ ≤ Z - kc K0; omega), by first | exact Nat.zero_le _ | (show _ + _ ≤ Y - ks K0; omega)⟩ (fun r_58 T1 K1 H locs h hle1 hc1 hs1 hP hS => ?_)
        obtain ⟨h, hKe⟩ := h
        rw [hKe] at hP
        generalize T1 = T_59 at h hP
        refine lv_if_eq (tgt := 59) hx hb dX1_term_54 (by decide) (fun c_61 => ?_) (fun c_61 => ?_)
        · have h := h.1 c_61
          exact J59 _ _ _ _ _ _ _ h hle0 hcn hsn hzz hyy hP hS (lv_sub hl [0, 1, 2, 3] rfl)
        · have h := h.2 c_61
          refine lv_iconst (v := (-1)) hx hb dX1_term_57 (by decide) ?_
          refine W.widen (k := Z - kc K0) (n := Y - ks K0) (by omega) (by omega) ?_
          exact W.iret (v := (-1)) hx hb hr (fun t ht hW => ⟨⟨(-1), T_59, (kset K_18 Z Y), rfl, h, hle0, (by show Z = _; omega), (by show Y = _; omega), by rw [ht]; exact hP, va_K.moved hW.alike hK⟩, hS.F ht⟩) hS.2.2 dX1_term_58
theorem cwx_X6_degree : yX6_degree.cls = RX6 ∧ yX6_degree.cls ≠ "java/lang/invoke/MethodHandle" ∧ yX6_degree.cls ≠ "java/lang/invoke/VarHandle" ∧ (parseMethodDescriptor yX6_degree.desc).map (fun d => d.parameters.length) = some 0 := by decide +kernel
def wx6_degree_b5 (p0 : Nat) (post : Int32 → Prop) (R5 : Int32 → Int32 → Prop)  (x1 : Int32) (x2 : Int32) (K : XK) (T : XT) : Prop :=
      (((xi T p0 2) ≤ x2 →
        post x1) ∧
       (¬ ((xi T p0 2) ≤ x2) →
        ∃ v_1 : Nat, xr T p0 0 = some v_1 ∧
        ∃ j_2 : Nat, j_2 < kl K v_1 ∧ x2 = nI j_2 ∧
        wx1_sum (xi T v_1 j_2) K T (fun r_3 =>
        ∀ x1_6 : Int32, x1_6 = (jmax x1 r_3) →
        ∀ x2_7 : Int32, x2_7 = x2 + 1 →
        R5 x1_6 x2_7)))
def wx6_degree_l5 (p0 : Nat) (post : Int32 → Prop)  (x1 : Int32) (x2 : Int32) (K : XK) (T : XT) : Prop := wLoop (fun (R : ((Int32) × (Int32)) → Prop) (v : (Int32) × (Int32)) => wx6_degree_b5 p0 post (fun x1 x2 => R (x1, x2))  v.1 v.2 K T) (x1, x2)
def wx6_degree (p0 : Nat) (K : XK) (T : XT) (post : Int32 → Prop) : Prop :=
  wx6_degree_l5 p0 post (-2) 0 K T
set_option maxHeartbeats 4000000 in
theorem mx6_degree (l : Launch) (G : XG) (b : Nat) (hole : Nat → Prop) (p0 : Nat) (K : XK) (T : XT) (hk_p0 : kd K p0 = 2) (post : Int32 → Prop) (h : wx6_degree p0 K T post) : Met l yX6_degree (ws_ yX6_degree cX6_degree 3 (some .int)) ({ frames := 2, cells := 0, slots := 0, locals := 60 } : Room) (xPc G b hole [.ref (b + p0)] K T) (xQ G b hole K 0 0 (ρ := Int32) eI (fun r T1 K1 => post r ∧ T1 = T ∧ K1 = K)) 0 0 (xA b hole) := by
  refine Met.ofW (cc := cX6_degree) (maxL := 3) (ret := (some .int)) (by decide) rfl ?_
  intro p e s m args below meth c s₁ B hml hv
  obtain ⟨rfl, hP, hK, hV⟩ := hv
  have hx := B.exec
  have hb := B.bytes
  have hr := B.returns
  have hts := atoms_spec (ws := ws_ yX6_degree cX6_degree 3 (some .int)) B.pre
  have hts : ∀ w ∈ lw_all, w.before _ s = true := fun w h => hts w (List.mem_cons_of_mem _ h)
  have hown : s.vm.findClass RX6 = some m.cls := findClass_of_methodNamed B.named
  have hlocks := B.notSynchronized
  have hb0 : b ≤ s.heap.size := by rw [hP.2.2.2]; exact Nat.le_add_right _ _
  have hS : va_S (xA b hole) s.heap s.heap [] := va_S.rf
  have hl := lv_entry ([.ref (b + p0)]) (n := 3) (Nat.le_of_ble_eq_true rfl)
  rw [lg_entry_eq]
  generalize (lg_sl ([.ref (b + p0)]) ++ List.replicate (3 - (lg_sl ([.ref (b + p0)])).length) Slot.unset).toArray = ls at hl ⊢
  have hl : lv_has ls 3 [(0, .ref (b + p0))] := hl
  have L5 : ∀ (x1 : Int32) (x2 : Int32) (H : Heap) (locs : List Loc) (ls : Array Slot), wx6_degree_l5 p0 post  x1 x2 K T → xW G b hole K T H → va_S (xA b hole) s.heap H locs → lv_has ls 3 [(0, .ref (b + p0)), (1, .int x1), (2, .int x2)] → W p l e (headSpec (ws_ yX6_degree cX6_degree 3 (some .int)) ({ frames := 2, cells := 0, slots := 0, locals := 60 } : Room)).room s m ([.ref (b + p0)] : List Value).toArray below meth c H locs 0 0 (MQ below (xQ G b hole K 0 0 (ρ := Int32) eI (fun r T1 K1 => post r ∧ T1 = T ∧ K1 = K)) ([.ref (b + p0)] : List Value).toArray s 0 0 (xA b hole)) (F0 m 5 ls []) := by
    intro x1 x2 H locs ls h hP hS hl
    obtain ⟨I5, n5, hI, hstep5⟩ := h
    induction n5 using Nat.strongRecOn generalizing x1 x2 H locs ls with
    | ind n5 ih5 =>
      have h : wx6_degree_b5 p0 post (fun x1 x2 => ∃ mm, mm < n5 ∧ I5 mm (x1, x2))  x1 x2 K T := hstep5 n5 _ hI
      clear hI
      unfold wx6_degree_b5 at h
      refine lv_iload_n hx hb dX6_degree_5 rfl (lv_at hl 2 rfl) ?_
      refine lv_aload_n hx hb dX6_degree_6 rfl (lv_at hl 0 rfl) ?_
      refine x_get (CC := RX6) (TT := TX6) (N := 3) (ci := 5) (v := .int (xi T p0 2)) hx hb hts in_X6 hown hK hP hk_p0 (by decide) (by decide) rfl (xE_2 hk_p0) 2 (by decide) q370 rfl rfl dX6_degree_7 ?_
      refine lv_icmp_ge (tgt := 33) hx hb dX6_degree_10 (by decide) (fun c_8 => ?_) (fun c_8 => ?_)
      · have h := h.1 c_8
        refine lv_iload_n hx hb dX6_degree_33 rfl (lv_at hl 1 rfl) ?_
        exact W.iret (v := x1) hx hb hr (fun t ht hW => ⟨⟨x1, T, K, rfl, ⟨h, rfl, rfl⟩, kle.rf, rfl, rfl, by rw [ht]; exact hP, va_K.moved hW.alike hK⟩, hS.F ht⟩) hS.2.2 dX6_degree_34
      · have h := h.2 c_8
        refine lv_iload_n hx hb dX6_degree_13 rfl (lv_at hl 1 rfl) ?_
        refine lv_aload_n hx hb dX6_degree_14 rfl (lv_at hl 0 rfl) ?_
        obtain ⟨v_1, ev_1, h⟩ := h
        refine x_get (CC := RX6) (TT := TX6) (N := 3) (ci := 5) (v := rfv b (xr T p0 0)) hx hb hts in_X6 hown hK hP hk_p0 (by decide) (by decide) rfl (xE_2 hk_p0) 0 (by decide) q364 rfl rfl dX6_degree_15 ?_
        refine x_some ev_1 ?_
        have hk_v_1 : kd K v_1 = 1 := hP.ty hk_p0 (by decide) ev_1
        refine lv_iload_n hx hb dX6_degree_18 rfl (lv_at hl 2 rfl) ?_
        obtain ⟨j_2, hj_2, ej_2, h⟩ := h
        refine x_iald hx hb hK hP hk_v_1 ej_2 hj_2 dX6_degree_19 ?_
        refine x_cSN (host := "TermDesk") (As := [.int (xi T v_1 j_2)]) (rest := [.int x1]) ⟨hx, hb, hml, hown, hts⟩ (mx1_sum l G b hole (xi T v_1 j_2) K T  _ h) ⟨va_cnB 1 hts (lw_meth q730) rfl rfl rfl (hV.1.2.1 _ _ _ _ q808) (hts _ q118) cwx_X1_sum ⟨Nat.le_of_ble_eq_true rfl, Nat.le_of_ble_eq_true rfl⟩, hts _ q729, trivial⟩ hK hV hb0 hP hS rfl hl.1 rfl (Nat.le_of_ble_eq_true rfl) dX6_degree_20 ⟨by first | exact Nat.zero_le _ | (show _ + _ ≤ Z - kc K0; omega), by first | exact Nat.zero_le _ | (show _ + _ ≤ Y - ks K0; omega)⟩ (fun r_3 T1 K1 H locs h hle1 hc1 hs1 hP hS => ?_)
        obtain ⟨h, hTe, hKe⟩ := h
        rw [hTe, hKe] at hP
        refine x_mmax hx hb (hml.trans hl.1.symm) hown hts q809 q810 q134 q811 (Nat.le_of_ble_eq_true rfl) (Nat.le_of_ble_eq_true rfl) (by first | exact Nat.zero_le _ | (show _ ≤ Z - kc K0; omega)) (by first | exact Nat.zero_le _ | (show _ ≤ Y - ks K0; omega)) dX6_degree_23 ?_
        refine lv_topi (fun x1_6 ex1_6 => ?_)
        have h := h x1_6 ex1_6
        refine lv_istore_n (lv' := [(1, .int x1_6), (0, .ref (b + p0)), (2, .int x2)]) hx hb dX6_degree_26 rfl hl (by decide) rfl (fun ls hl => ?_)
        obtain ⟨x2_7, ex2_7⟩ : ∃ y : Int32, y = x2 + 1 := ⟨_, rfl⟩
        have h := h x2_7 ex2_7
        refine lv_iinc (v := x2_7) (lv' := [(2, .int x2_7), (1, .int x1_6), (0, .ref (b + p0))]) hx hb dX6_degree_27 hl (k := 2) rfl (by rw [ex2_7]; rfl) (by decide) rfl (fun ls hl => ?_)
        refine lv_goto (tgt := 5) hx hb dX6_degree_30 (by decide) ?_
        obtain ⟨mm, hmm, h⟩ := h
        exact ih5 mm hmm _ _ _ _ _  hP hS (lv_sub hl [2, 1, 0] rfl) h
  unfold wx6_degree at h
  refine lv_bipush (v := (-2)) hx hb dX6_degree_0 (by decide) ?_
  refine lv_istore_n (lv' := [(1, .int (-2)), (0, .ref (b + p0))]) hx hb dX6_degree_2 rfl hl (by decide) rfl (fun ls hl => ?_)
  refine lv_iconst (v := 0) hx hb dX6_degree_3 (by decide) ?_
  refine lv_istore_n (lv' := [(2, .int 0), (1, .int (-2)), (0, .ref (b + p0))]) hx hb dX6_degree_4 rfl hl (by decide) rfl (fun ls hl => ?_)
  exact L5 _ _ _ _ _ h  hP hS (lv_sub hl [2, 1, 0] rfl)
theorem cwx_X1_degree : yX1_degree.cls = RX1 ∧ yX1_degree.cls ≠ "java/lang/invoke/MethodHandle" ∧ yX1_degree.cls ≠ "java/lang/invoke/VarHandle" ∧ (parseMethodDescriptor yX1_degree.desc).map (fun d => d.parameters.length) = some 1 := by decide +kernel
def wx1_degree (p1 : Int32) (K0 : XK) (T : XT) (Z Y : Nat) (post : Int32 → XT → XK → Prop) : Prop :=
  kc K0 + 1 ≤ Z ∧ ks K0 + 1 ≤ Y ∧ ∀ K_1 : XK, K_1 = knew K0 1 1 1 → ∀ T_2 : XT, T_2 = xnil T (kz K0) →
  ∃ j_3 : Nat, j_3 < kl K_1 (kz K0) ∧ 0 = nI j_3 ∧ ∀ T_4 : XT, T_4 = xwi T_2 (kz K0) j_3 p1 →
  wx1_is (kz K0) K_1 T_4 (fun r_5 =>
  wx1_why r_5 K_1 T_4 (fun r_8 =>
  wx1_isRefused r_8 K_1 T_4 (fun r_11 T_12 =>
  ((r_11 = 0 →
    ∃ v_14 : Nat, xr T_12 0 18 = some v_14 ∧
    ∃ j_15 : Nat, j_15 < kl K_1 v_14 ∧ p1 = nI j_15 ∧ ∃ v_16 : Nat, xr T_12 v_14 j_15 = some v_16 ∧
    wx6_degree v_16 K_1 T_12 (fun r_17 =>
    post r_17 T_12 (kset K_1 Z Y))) ∧
   (¬ (r_11 = 0) →
    post (-1) T_12 (kset K_1 Z Y))))))
set_option maxHeartbeats 4000000 in
theorem mx1_degree (l : Launch) (G : XG) (b : Nat) (hole : Nat → Prop) (p1 : Int32) (K0 : XK) (T : XT) (Z Y : Nat) (hZ : kc K0 ≤ Z) (hY : ks K0 ≤ Y)  (post : Int32 → XT → XK → Prop) (h : wx1_degree p1 K0 T Z Y post) : Met l yX1_degree (ws_ yX1_degree cX1_degree 2 (some .int)) ({ frames := 3, cells := (Z - kc K0), slots := (Y - ks K0), locals := 82 } : Room) (xPc G b hole [.ref (b + 0), .int p1] K0 T) (xQ G b hole K0 (Z - kc K0) (Y - ks K0) (ρ := Int32) eI (fun r T1 K1 => post r T1 K1)) (Z - kc K0) (Y - ks K0) (xA b hole) := by
  refine Met.ofW (cc := cX1_degree) (maxL := 2) (ret := (some .int)) (by decide) rfl ?_
  intro p e s m args below meth c s₁ B hml hv
  obtain ⟨rfl, hP, hK, hV⟩ := hv
  have hx := B.exec
  have hb := B.bytes
  have hr := B.returns
  have hts := atoms_spec (ws := ws_ yX1_degree cX1_degree 2 (some .int)) B.pre
  have hts : ∀ w ∈ lw_all, w.before _ s = true := fun w h => hts w (List.mem_cons_of_mem _ h)
  have hown : s.vm.findClass RX1 = some m.cls := findClass_of_methodNamed B.named
  have hlocks := B.notSynchronized
  have hb0 : b ≤ s.heap.size := by rw [hP.2.2.2]; exact Nat.le_add_right _ _
  have hS : va_S (xA b hole) s.heap s.heap [] := va_S.rf
  have hl := lv_entry ([.ref (b + 0), .int p1]) (n := 2) (Nat.le_of_ble_eq_true rfl)
  rw [lg_entry_eq]
  generalize (lg_sl ([.ref (b + 0), .int p1]) ++ List.replicate (2 - (lg_sl ([.ref (b + 0), .int p1])).length) Slot.unset).toArray = ls at hl ⊢
  have hl : lv_has ls 2 [(0, .ref (b + 0)), (1, .int p1)] := hl
  have hle0 : kle K0 K0 := kle.rf
  have hcn : kc K0 + 0 = kc K0 := rfl
  have hsn : ks K0 + 0 = ks K0 := rfl
  have hzz := hZ
  have hyy := hY
  unfold wx1_degree at h
  refine lv_aload_n hx hb dX1_degree_0 rfl (lv_at hl 0 rfl) ?_
  refine lv_aload_n hx hb dX1_degree_1 rfl (lv_at hl 0 rfl) ?_
  refine lv_iconst (v := 1) hx hb dX1_degree_2 (by decide) ?_
  obtain ⟨hc1, hs1, h⟩ := h
  obtain ⟨K_1, eK_1⟩ : ∃ z : XK, z = knew K0 1 1 1 := ⟨_, rfl⟩
  obtain ⟨T_2, eT_2⟩ : ∃ z : XT, z = xnil T (kz K0) := ⟨_, rfl⟩
  have h := h K_1 eK_1 T_2 eT_2
  have hle1 : kle K0 K_1 := by rw [eK_1]; exact kle.new hP.2.2.1 _ _ _
  refine x_newai (N := 1) hx hb hts q170 hK hP hS (by decide) (by decide) (by show _ + 1 ≤ Z - kc K0; omega) (by show _ + _ ≤ Y - ks K0; omega) dX1_degree_3 (fun H hP hS => ?_)
  rw [← eK_1, ← eT_2] at hP
  have hk_n1 : kd K_1 (kz K0) = 1 := by rw [eK_1]; exact knew_kd
  have hle0 := hle0.tr hle1
  have hcn : kc K0 + (0 + 1) = kc K_1 := by rw [eK_1]; show _ = kc K0 + 1; omega
  have hsn : ks K0 + (0 + 1) = ks K_1 := by rw [eK_1]; show _ = ks K0 + 1; omega
  have hzz : kc K_1 ≤ Z := by rw [eK_1]; exact hc1
  have hyy : ks K_1 ≤ Y := by rw [eK_1]; exact hs1
  refine lv_dup hx hb dX1_degree_5 rfl ?_
  refine lv_iconst (v := 0) hx hb dX1_degree_6 (by decide) ?_
  refine lv_iload_n hx hb dX1_degree_7 rfl (lv_at hl 1 rfl) ?_
  obtain ⟨j_3, hj_3, ej_3, h⟩ := h
  obtain ⟨T_4, eT_4⟩ : ∃ z : XT, z = xwi T_2 (kz K0) j_3 p1 := ⟨_, rfl⟩
  have h := h T_4 eT_4
  refine x_iast hx hb hK hP hS hk_n1 ej_3 hj_3 dX1_degree_8 (fun H locs hP hS => ?_)
  rw [← eT_4] at hP
  refine x_cS (As := [.ref (b + (kz K0))]) (rest := [.ref (b + 0), .ref (b + 0)]) ⟨hx, hb, hml, hown, hts⟩ (mx1_is l G b hole (kz K0) K_1 T_4 hk_n1 _ h) (va_cwS 1 hts (lw_S q793 q794 q118 q795) rfl rfl rfl cwx_X1_is ⟨Nat.le_of_ble_eq_true rfl, Nat.le_of_ble_eq_true rfl⟩) hK hV hb0 hP hS rfl hl.1 rfl (Nat.le_of_ble_eq_true rfl) dX1_degree_9 ⟨by first | exact Nat.zero_le _ | (show _ + _ ≤ Z - kc K0; omega), by first | exact Nat.zero_le _ | (show _ + _ ≤ Y - ks K0; omega)⟩ (fun r_5 T1 K1 H locs h hle1 hc1 hs1 hP hS => ?_)
  obtain ⟨h, hTe, hKe⟩ := h
  rw [hTe, hKe] at hP
  refine x_cV (k := 0) (As := [.int r_5]) (rest := [.ref (b + 0)]) ⟨hx, hb, hml, hown, hts⟩ (mx1_why l G b hole r_5 K_1 T_4  _ h) (cwV 1 hts (lw_V q769 q771 qs24 q118 q772) rfl rfl rfl cwx_X1_why ⟨Nat.le_of_ble_eq_true rfl, Nat.le_of_ble_eq_true rfl⟩) (x_recv (CC := RX1) (ci := 0) hK hP (xs_0 hP) (by decide) (by decide) rfl (xE_8 (xs_0 hP))) hK hV hb0 hP hS rfl hl.1 rfl (Nat.le_of_ble_eq_true rfl) dX1_degree_12 ⟨by first | exact Nat.zero_le _ | (show _ + _ ≤ Z - kc K0; omega), by first | exact Nat.zero_le _ | (show _ + _ ≤ Y - ks K0; omega)⟩ (fun r_8 T1 K1 H locs h hle1 hc1 hs1 hP hS => ?_)
  obtain ⟨h, hTe, hKe⟩ := h
  rw [hTe, hKe] at hP
  refine x_cV (k := 0) (As := [.int r_8]) (rest := []) ⟨hx, hb, hml, hown, hts⟩ (mx1_isRefused l G b hole r_8 K_1 T_4  _ h) (cwV 1 hts (lw_V q777 q779 qs26 q118 q780) rfl rfl rfl cwx_X1_isRefused ⟨Nat.le_of_ble_eq_true rfl, Nat.le_of_ble_eq_true rfl⟩) (x_recv (CC := RX1) (ci := 0) hK hP (xs_0 hP) (by decide) (by decide) rfl (xE_8 (xs_0 hP))) hK hV hb0 hP hS rfl hl.1 rfl (Nat.le_of_ble_eq_true rfl) dX1_degree_15 ⟨by first | exact Nat.zero_le _ | (show _ + _ ≤ Z - kc K0; omega), by first | exact Nat.zero_le _ | (show _ + _ ≤ Y - ks K0; omega)⟩ (fun r_11 T1 K1 H locs h hle1 hc1 hs1 hP hS => ?_)
  obtain ⟨h, hKe⟩ := h
  rw [hKe] at hP
  generalize T1 = T_12 at h hP
  refine lv_if_eq (tgt := 25) hx hb dX1_degree_18 (by decide) (fun c_20 => ?_) (fun c_20 => ?_)
  · have h := h.1 c_20
    refine lv_aload_n hx hb dX1_degree_25 rfl (lv_at hl 0 rfl) ?_
    obtain ⟨v_14, ev_14, h⟩ := h
    refine x_get (CC := RX1) (TT := TX1) (N := 26) (ci := 0) (v := rfv b (xr T_12 0 18)) hx hb hts in_X1 hown hK hP (xs_0 hP) (by decide) (by decide) rfl (xE_8 (xs_0 hP)) 18 (by decide) q405 rfl rfl dX1_degree_26 ?_
    refine x_some ev_14 ?_
    have hk_v_14 : kd K_1 v_14 = 3 := hP.ty (xs_0 hP) (by decide) ev_14
    refine lv_iload_n hx hb dX1_degree_29 rfl (lv_at hl 1 rfl) ?_
    obtain ⟨j_15, hj_15, ej_15, v_16, ev_16, h⟩ := h
    refine x_aald3 hx hb hK hP hk_v_14 ej_15 hj_15 dX1_degree_30 ?_
    refine x_some ev_16 ?_
    have hk_v_16 : kd K_1 v_16 = 2 := hP.ty hk_v_14 (by decide) ev_16
    refine x_cV (k := v_16) (As := []) (rest := []) ⟨hx, hb, hml, hown, hts⟩ (mx6_degree l G b hole v_16 K_1 T_12 hk_v_16 _ h) (cwV 0 hts (lw_V q804 q805 q806 q126 q807) rfl rfl rfl cwx_X6_degree ⟨Nat.le_of_ble_eq_true rfl, Nat.le_of_ble_eq_true rfl⟩) (x_recv (CC := RX6) (ci := 5) hK hP hk_v_16 (by decide) (by decide) rfl (xE_2 hk_v_16)) hK hV hb0 hP hS rfl hl.1 rfl (Nat.le_of_ble_eq_true rfl) dX1_degree_31 ⟨by first | exact Nat.zero_le _ | (show _ + _ ≤ Z - kc K0; omega), by first | exact Nat.zero_le _ | (show _ + _ ≤ Y - ks K0; omega)⟩ (fun r_17 T1 K1 H locs h hle1 hc1 hs1 hP hS => ?_)
    obtain ⟨h, hTe, hKe⟩ := h
    rw [hTe, hKe] at hP
    refine W.widen (k := Z - kc K0) (n := Y - ks K0) (by omega) (by omega) ?_
    exact W.iret (v := r_17) hx hb hr (fun t ht hW => ⟨⟨r_17, T_12, (kset K_1 Z Y), rfl, h, hle0, (by show Z = _; omega), (by show Y = _; omega), by rw [ht]; exact hP, va_K.moved hW.alike hK⟩, hS.F ht⟩) hS.2.2 dX1_degree_34
  · have h := h.2 c_20
    refine lv_iconst (v := (-1)) hx hb dX1_degree_21 (by decide) ?_
    refine lv_goto (tgt := 34) hx hb dX1_degree_22 (by decide) ?_
    refine W.widen (k := Z - kc K0) (n := Y - ks K0) (by omega) (by omega) ?_
    exact W.iret (v := (-1)) hx hb hr (fun t ht hW => ⟨⟨(-1), T_12, (kset K_1 Z Y), rfl, h, hle0, (by show Z = _; omega), (by show Y = _; omega), by rw [ht]; exact hP, va_K.moved hW.alike hK⟩, hS.F ht⟩) hS.2.2 dX1_degree_34
theorem cwx_X1_isUnknown : yX1_isUnknown.cls ≠ "java/lang/invoke/MethodHandle" ∧ yX1_isUnknown.cls ≠ "java/lang/invoke/VarHandle" ∧ (parseMethodDescriptor yX1_isUnknown.desc).map (fun d => d.parameters.length) = some 1 := by decide +kernel
def wx1_isUnknown (p1 : Int32) (K : XK) (T : XT) (post : Int32 → Prop) : Prop :=
  wx1_in p1 0 2 K T (fun r_1 =>
  r_1 &&& 1 = r_1 ∧ post r_1)
set_option maxHeartbeats 4000000 in
theorem mx1_isUnknown (l : Launch) (G : XG) (b : Nat) (hole : Nat → Prop) (p1 : Int32) (K : XK) (T : XT)  (post : Int32 → Prop) (h : wx1_isUnknown p1 K T post) : Met l yX1_isUnknown (ws_ yX1_isUnknown cX1_isUnknown 1 (some .boolean)) ({ frames := 1, cells := 0, slots := 0, locals := 22 } : Room) (xPc G b hole [.int p1] K T) (xQ G b hole K 0 0 (ρ := Int32) eI (fun r T1 K1 => post r ∧ T1 = T ∧ K1 = K)) 0 0 (xA b hole) := by
  refine Met.ofW (cc := cX1_isUnknown) (maxL := 1) (ret := (some .boolean)) (by decide) rfl ?_
  intro p e s m args below meth c s₁ B hml hv
  obtain ⟨rfl, hP, hK, hV⟩ := hv
  have hx := B.exec
  have hb := B.bytes
  have hr := B.returns
  have hts := atoms_spec (ws := ws_ yX1_isUnknown cX1_isUnknown 1 (some .boolean)) B.pre
  have hts : ∀ w ∈ lw_all, w.before _ s = true := fun w h => hts w (List.mem_cons_of_mem _ h)
  have hown : s.vm.findClass RX1 = some m.cls := findClass_of_methodNamed B.named
  have hlocks := B.notSynchronized
  have hb0 : b ≤ s.heap.size := by rw [hP.2.2.2]; exact Nat.le_add_right _ _
  have hS : va_S (xA b hole) s.heap s.heap [] := va_S.rf
  have hl := lv_entry ([.int p1]) (n := 1) (Nat.le_of_ble_eq_true rfl)
  rw [lg_entry_eq]
  generalize (lg_sl ([.int p1]) ++ List.replicate (1 - (lg_sl ([.int p1])).length) Slot.unset).toArray = ls at hl ⊢
  have hl : lv_has ls 1 [(0, .int p1)] := hl
  unfold wx1_isUnknown at h
  refine lv_iload_n hx hb dX1_isUnknown_0 rfl (lv_at hl 0 rfl) ?_
  refine lv_iconst (v := 0) hx hb dX1_isUnknown_1 (by decide) ?_
  refine lv_iconst (v := 2) hx hb dX1_isUnknown_2 (by decide) ?_
  refine x_cS (As := [.int p1, .int 0, .int 2]) (rest := []) ⟨hx, hb, hml, hown, hts⟩ (mx1_in l G b hole p1 0 2 K T  _ h) (va_cwS 3 hts (lw_S q483 q484 q118 q485) rfl rfl rfl cwx_X1_in ⟨Nat.le_of_ble_eq_true rfl, Nat.le_of_ble_eq_true rfl⟩) hK hV hb0 hP hS rfl hl.1 rfl (Nat.le_of_ble_eq_true rfl) dX1_isUnknown_3 ⟨by first | exact Nat.zero_le _ | (show _ + _ ≤ Z - kc K0; omega), by first | exact Nat.zero_le _ | (show _ + _ ≤ Y - ks K0; omega)⟩ (fun r_1 T1 K1 H locs h hle1 hc1 hs1 hP hS => ?_)
  obtain ⟨h, hTe, hKe⟩ := h
  rw [hTe, hKe] at hP
  obtain ⟨hz9, h⟩ := h
  exact W.zret (v := r_1) hx hb hr (congrArg Value.int hz9) (fun t ht hW => ⟨⟨r_1, T, K, rfl, ⟨h, rfl, rfl⟩, kle.rf, rfl, rfl, by rw [ht]; exact hP, va_K.moved hW.alike hK⟩, hS.F ht⟩) hS.2.2 dX1_isUnknown_6
theorem cwx_X6_most : yX6_most.cls = RX6 ∧ yX6_most.cls ≠ "java/lang/invoke/MethodHandle" ∧ yX6_most.cls ≠ "java/lang/invoke/VarHandle" ∧ (parseMethodDescriptor yX6_most.desc).map (fun d => d.parameters.length) = some 1 := by decide +kernel
def wx6_most_b5 (p0 : Nat) (p1 : Int32) (post : Int32 → Prop) (R5 : Int32 → Int32 → Prop)  (x2 : Int32) (x3 : Int32) (K : XK) (T : XT) : Prop :=
      (((xi T p0 2) ≤ x3 →
        post x2) ∧
       (¬ ((xi T p0 2) ≤ x3) →
        ∃ v_1 : Nat, xr T p0 0 = some v_1 ∧
        ∃ j_2 : Nat, j_2 < kl K v_1 ∧ x3 = nI j_2 ∧
        wx1_exponent (xi T v_1 j_2) p1 K T (fun r_3 =>
        ∀ x2_6 : Int32, x2_6 = (jmax x2 r_3) →
        ∀ x3_7 : Int32, x3_7 = x3 + 1 →
        R5 x2_6 x3_7)))
def wx6_most_l5 (p0 : Nat) (p1 : Int32) (post : Int32 → Prop)  (x2 : Int32) (x3 : Int32) (K : XK) (T : XT) : Prop := wLoop (fun (R : ((Int32) × (Int32)) → Prop) (v : (Int32) × (Int32)) => wx6_most_b5 p0 p1 post (fun x2 x3 => R (x2, x3))  v.1 v.2 K T) (x2, x3)
def wx6_most (p0 : Nat) (p1 : Int32) (K : XK) (T : XT) (post : Int32 → Prop) : Prop :=
  wx6_most_l5 p0 p1 post (-2) 0 K T
set_option maxHeartbeats 4000000 in
theorem mx6_most (l : Launch) (G : XG) (b : Nat) (hole : Nat → Prop) (p0 : Nat) (p1 : Int32) (K : XK) (T : XT) (hk_p0 : kd K p0 = 2) (post : Int32 → Prop) (h : wx6_most p0 p1 K T post) : Met l yX6_most (ws_ yX6_most cX6_most 4 (some .int)) ({ frames := 1, cells := 0, slots := 0, locals := 60 } : Room) (xPc G b hole [.ref (b + p0), .int p1] K T) (xQ G b hole K 0 0 (ρ := Int32) eI (fun r T1 K1 => post r ∧ T1 = T ∧ K1 = K)) 0 0 (xA b hole) := by
  refine Met.ofW (cc := cX6_most) (maxL := 4) (ret := (some .int)) (by decide) rfl ?_
  intro p e s m args below meth c s₁ B hml hv
  obtain ⟨rfl, hP, hK, hV⟩ := hv
  have hx := B.exec
  have hb := B.bytes
  have hr := B.returns
  have hts := atoms_spec (ws := ws_ yX6_most cX6_most 4 (some .int)) B.pre
  have hts : ∀ w ∈ lw_all, w.before _ s = true := fun w h => hts w (List.mem_cons_of_mem _ h)
  have hown : s.vm.findClass RX6 = some m.cls := findClass_of_methodNamed B.named
  have hlocks := B.notSynchronized
  have hb0 : b ≤ s.heap.size := by rw [hP.2.2.2]; exact Nat.le_add_right _ _
  have hS : va_S (xA b hole) s.heap s.heap [] := va_S.rf
  have hl := lv_entry ([.ref (b + p0), .int p1]) (n := 4) (Nat.le_of_ble_eq_true rfl)
  rw [lg_entry_eq]
  generalize (lg_sl ([.ref (b + p0), .int p1]) ++ List.replicate (4 - (lg_sl ([.ref (b + p0), .int p1])).length) Slot.unset).toArray = ls at hl ⊢
  have hl : lv_has ls 4 [(0, .ref (b + p0)), (1, .int p1)] := hl
  have L5 : ∀ (x2 : Int32) (x3 : Int32) (H : Heap) (locs : List Loc) (ls : Array Slot), wx6_most_l5 p0 p1 post  x2 x3 K T → xW G b hole K T H → va_S (xA b hole) s.heap H locs → lv_has ls 4 [(0, .ref (b + p0)), (1, .int p1), (2, .int x2), (3, .int x3)] → W p l e (headSpec (ws_ yX6_most cX6_most 4 (some .int)) ({ frames := 1, cells := 0, slots := 0, locals := 60 } : Room)).room s m ([.ref (b + p0), .int p1] : List Value).toArray below meth c H locs 0 0 (MQ below (xQ G b hole K 0 0 (ρ := Int32) eI (fun r T1 K1 => post r ∧ T1 = T ∧ K1 = K)) ([.ref (b + p0), .int p1] : List Value).toArray s 0 0 (xA b hole)) (F0 m 5 ls []) := by
    intro x2 x3 H locs ls h hP hS hl
    obtain ⟨I5, n5, hI, hstep5⟩ := h
    induction n5 using Nat.strongRecOn generalizing x2 x3 H locs ls with
    | ind n5 ih5 =>
      have h : wx6_most_b5 p0 p1 post (fun x2 x3 => ∃ mm, mm < n5 ∧ I5 mm (x2, x3))  x2 x3 K T := hstep5 n5 _ hI
      clear hI
      unfold wx6_most_b5 at h
      refine lv_iload_n hx hb dX6_most_5 rfl (lv_at hl 3 rfl) ?_
      refine lv_aload_n hx hb dX6_most_6 rfl (lv_at hl 0 rfl) ?_
      refine x_get (CC := RX6) (TT := TX6) (N := 3) (ci := 5) (v := .int (xi T p0 2)) hx hb hts in_X6 hown hK hP hk_p0 (by decide) (by decide) rfl (xE_2 hk_p0) 2 (by decide) q370 rfl rfl dX6_most_7 ?_
      refine lv_icmp_ge (tgt := 34) hx hb dX6_most_10 (by decide) (fun c_8 => ?_) (fun c_8 => ?_)
      · have h := h.1 c_8
        refine lv_iload_n hx hb dX6_most_34 rfl (lv_at hl 2 rfl) ?_
        exact W.iret (v := x2) hx hb hr (fun t ht hW => ⟨⟨x2, T, K, rfl, ⟨h, rfl, rfl⟩, kle.rf, rfl, rfl, by rw [ht]; exact hP, va_K.moved hW.alike hK⟩, hS.F ht⟩) hS.2.2 dX6_most_35
      · have h := h.2 c_8
        refine lv_iload_n hx hb dX6_most_13 rfl (lv_at hl 2 rfl) ?_
        refine lv_aload_n hx hb dX6_most_14 rfl (lv_at hl 0 rfl) ?_
        obtain ⟨v_1, ev_1, h⟩ := h
        refine x_get (CC := RX6) (TT := TX6) (N := 3) (ci := 5) (v := rfv b (xr T p0 0)) hx hb hts in_X6 hown hK hP hk_p0 (by decide) (by decide) rfl (xE_2 hk_p0) 0 (by decide) q364 rfl rfl dX6_most_15 ?_
        refine x_some ev_1 ?_
        have hk_v_1 : kd K v_1 = 1 := hP.ty hk_p0 (by decide) ev_1
        refine lv_iload_n hx hb dX6_most_18 rfl (lv_at hl 3 rfl) ?_
        obtain ⟨j_2, hj_2, ej_2, h⟩ := h
        refine x_iald hx hb hK hP hk_v_1 ej_2 hj_2 dX6_most_19 ?_
        refine lv_iload_n hx hb dX6_most_20 rfl (lv_at hl 1 rfl) ?_
        refine x_cSN (host := "TermDesk") (As := [.int (xi T v_1 j_2), .int p1]) (rest := [.int x2]) ⟨hx, hb, hml, hown, hts⟩ (mx1_exponent l G b hole (xi T v_1 j_2) p1 K T  _ h) ⟨va_cnB 2 hts (lw_meth q725) rfl rfl rfl (hV.1.2.1 _ _ _ _ q823) (hts _ q118) cwx_X1_exponent ⟨Nat.le_of_ble_eq_true rfl, Nat.le_of_ble_eq_true rfl⟩, hts _ q724, trivial⟩ hK hV hb0 hP hS rfl hl.1 rfl (Nat.le_of_ble_eq_true rfl) dX6_most_21 ⟨by first | exact Nat.zero_le _ | (show _ + _ ≤ Z - kc K0; omega), by first | exact Nat.zero_le _ | (show _ + _ ≤ Y - ks K0; omega)⟩ (fun r_3 T1 K1 H locs h hle1 hc1 hs1 hP hS => ?_)
        obtain ⟨h, hTe, hKe⟩ := h
        rw [hTe, hKe] at hP
        refine x_mmax hx hb (hml.trans hl.1.symm) hown hts q809 q810 q134 q811 (Nat.le_of_ble_eq_true rfl) (Nat.le_of_ble_eq_true rfl) (by first | exact Nat.zero_le _ | (show _ ≤ Z - kc K0; omega)) (by first | exact Nat.zero_le _ | (show _ ≤ Y - ks K0; omega)) dX6_most_24 ?_
        refine lv_topi (fun x2_6 ex2_6 => ?_)
        have h := h x2_6 ex2_6
        refine lv_istore_n (lv' := [(2, .int x2_6), (0, .ref (b + p0)), (1, .int p1), (3, .int x3)]) hx hb dX6_most_27 rfl hl (by decide) rfl (fun ls hl => ?_)
        obtain ⟨x3_7, ex3_7⟩ : ∃ y : Int32, y = x3 + 1 := ⟨_, rfl⟩
        have h := h x3_7 ex3_7
        refine lv_iinc (v := x3_7) (lv' := [(3, .int x3_7), (2, .int x2_6), (0, .ref (b + p0)), (1, .int p1)]) hx hb dX6_most_28 hl (k := 3) rfl (by rw [ex3_7]; rfl) (by decide) rfl (fun ls hl => ?_)
        refine lv_goto (tgt := 5) hx hb dX6_most_31 (by decide) ?_
        obtain ⟨mm, hmm, h⟩ := h
        exact ih5 mm hmm _ _ _ _ _  hP hS (lv_sub hl [2, 3, 1, 0] rfl) h
  unfold wx6_most at h
  refine lv_bipush (v := (-2)) hx hb dX6_most_0 (by decide) ?_
  refine lv_istore_n (lv' := [(2, .int (-2)), (0, .ref (b + p0)), (1, .int p1)]) hx hb dX6_most_2 rfl hl (by decide) rfl (fun ls hl => ?_)
  refine lv_iconst (v := 0) hx hb dX6_most_3 (by decide) ?_
  refine lv_istore_n (lv' := [(3, .int 0), (2, .int (-2)), (0, .ref (b + p0)), (1, .int p1)]) hx hb dX6_most_4 rfl hl (by decide) rfl (fun ls hl => ?_)
  exact L5 _ _ _ _ _ h  hP hS (lv_sub hl [2, 3, 1, 0] rfl)
