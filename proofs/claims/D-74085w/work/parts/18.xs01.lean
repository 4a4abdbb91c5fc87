set_option maxRecDepth 100000
theorem cwx_J4_rangeCheck : yJ4_rangeCheck.cls ≠ "java/lang/invoke/MethodHandle" ∧ yJ4_rangeCheck.cls ≠ "java/lang/invoke/VarHandle" ∧ (parseMethodDescriptor yJ4_rangeCheck.desc).map (fun d => d.parameters.length) = some 3 := by decide +kernel
def wxJ4_rangeCheck (p1 : Nat) (p2 : Int32) (p3 : Int32) (K : XK) (T : XT) (post : Option Nat → Prop) : Prop :=
  ∃ c_1 : Nat, c_1 ≤ 5 ∧ p2 = nI 0 ∧ p3 = nI c_1 ∧ (nI (kl K p1)) = nI 5 ∧
  post none
set_option maxHeartbeats 4000000 in
theorem mxJ4_rangeCheck (l : Launch) (G : XG) (b : Nat) (hole : Nat → Prop) (p1 : Nat) (p2 : Int32) (p3 : Int32) (K : XK) (T : XT) (hk_p1 : kd K p1 = 7) (post : Option Nat → Prop) (h : wxJ4_rangeCheck p1 p2 p3 K T post) : Met l yJ4_rangeCheck (ws_ yJ4_rangeCheck cJ4_rangeCheck 3 (some (.object "java/lang/Void"))) ({ frames := 3, cells := 0, slots := 0, locals := 120 } : Room) (xPc G b hole [.ref (b + p1), .int p2, .int p3] K T) (xQ G b hole K 0 0 (ρ := Option Nat) (eQ b) (fun r T1 K1 => post r ∧ (∀ v, r = some v → kd K1 v = 99) ∧ T1 = T ∧ K1 = K)) 0 0 (xA b hole) := by
  refine Met.ofW (cc := cJ4_rangeCheck) (maxL := 3) (ret := (some (.object "java/lang/Void"))) (by decide) rfl ?_
  intro p e s m args below meth c s₁ B hml hv
  obtain ⟨rfl, hP, hK, hV⟩ := hv
  have hx := B.exec
  have hb := B.bytes
  have hr := B.returns
  have hts := atoms_spec (ws := ws_ yJ4_rangeCheck cJ4_rangeCheck 3 (some (.object "java/lang/Void"))) B.pre
  have hts : ∀ w ∈ lw_all, w.before _ s = true := fun w h => hts w (List.mem_cons_of_mem _ h)
  have hown : s.vm.findClass RJ4 = some m.cls := findClass_of_methodNamed B.named
  have hlocks := B.notSynchronized
  have hb0 : b ≤ s.heap.size := by rw [hP.2.2.2]; exact Nat.le_add_right _ _
  have hS : va_S (xA b hole) s.heap s.heap [] := va_S.rf
  have hl := lv_entry ([.ref (b + p1), .int p2, .int p3]) (n := 3) (Nat.le_of_ble_eq_true rfl)
  rw [lg_entry_eq]
  generalize (lg_sl ([.ref (b + p1), .int p2, .int p3]) ++ List.replicate (3 - (lg_sl ([.ref (b + p1), .int p2, .int p3])).length) Slot.unset).toArray = ls at hl ⊢
  have hl : lv_has ls 3 [(0, .ref (b + p1)), (1, .int p2), (2, .int p3)] := hl
  unfold wxJ4_rangeCheck at h
  refine lv_iload_n hx hb dJ4_rangeCheck_0 rfl (lv_at hl 1 rfl) ?_
  refine lv_iload_n hx hb dJ4_rangeCheck_1 rfl (lv_at hl 2 rfl) ?_
  refine lv_aload_n hx hb dJ4_rangeCheck_2 rfl (lv_at hl 0 rfl) ?_
  refine x_alen7 hx hb hK hP hk_p1 dJ4_rangeCheck_3 ?_
  obtain ⟨c_1, hc9, ea9, eb9, ec9, h⟩ := h
  refine vp_callSi (W.runS (As := [.int p2, .int p3, .int (nI (kl K p1))]) (rest := []) ⟨hx, hb, hml, hown, hts⟩ (by rw [ea9, eb9, ec9]; exact eJ4_checkBoundsOffCount l (gad G) (gz G) c_1 hc9) (va_cwS 3 hts (lw_S q515 q516 q129 q517) rfl rfl rfl ⟨by decide, by decide, by decide +kernel⟩ ⟨Nat.le_of_ble_eq_true rfl, Nat.le_of_ble_eq_true rfl⟩) ⟨e_blind, fun U hU hW => ⟨rfl, (x_env hV hb0 hS hU hW).2.2.2.1⟩⟩ rfl rfl hl.1 rfl (lv_room (Nat.le_of_ble_eq_true rfl)) dJ4_rangeCheck_4 ⟨Nat.zero_le _, Nat.zero_le _⟩) (fun r9 hr9 => ?_)
  rw [hr9]
  refine lv_pop hx hb dJ4_rangeCheck_7 rfl ?_
  refine lv_null hx hb dJ4_rangeCheck_8 ?_
  exact W.aret (v := .null) hx hb hr (Or.inl ⟨_, rfl⟩) (Or.inl rfl) (fun t ht hW => ⟨⟨none, T, K, rfl, ⟨h, (fun _ e9 => by cases e9), rfl, rfl⟩, kle.rf, rfl, rfl, by rw [ht]; exact hP, va_K.moved hW.alike hK⟩, hS.F ht⟩) hS.2.2 dJ4_rangeCheck_9
theorem cwx_J6_compress_2 : yJ6_compress_2.cls ≠ "java/lang/invoke/MethodHandle" ∧ yJ6_compress_2.cls ≠ "java/lang/invoke/VarHandle" ∧ (parseMethodDescriptor yJ6_compress_2.desc).map (fun d => d.parameters.length) = some 5 := by decide +kernel
def wxJ6_compress_2_b3 (p1 : Nat) (p2 : Int32) (p3 : Nat) (p4 : Int32) (p5 : Int32) (post : Int32 → XT → Prop) (R3 : Int32 → Int32 → Int32 → XT → Prop)  (x1 : Int32) (x3 : Int32) (x5 : Int32) (K : XK) (T : XT) : Prop :=
      ((p5 ≤ x5 →
        post p5 T) ∧
       (¬ (p5 ≤ x5) →
        ∃ j_1 : Nat, j_1 < kl K p1 ∧ x1 = nI j_1 ∧
        (((xi T p1 j_1) ≤ 255 →
          ∃ j_2 : Nat, j_2 < kl K p3 ∧ x3 = nI j_2 ∧ ∀ T_3 : XT, T_3 = xwi T p3 j_2 (((xi T p1 j_1).toInt8.toInt32).toInt8.toInt32) →
          ∀ x1_4 : Int32, x1_4 = x1 + 1 →
          ∀ x3_5 : Int32, x3_5 = x3 + 1 →
          ∀ x5_6 : Int32, x5_6 = x5 + 1 →
          R3 x1_4 x3_5 x5_6 T_3) ∧
         (¬ ((xi T p1 j_1) ≤ 255) →
          post x5 T))))
def wxJ6_compress_2_l3 (p1 : Nat) (p2 : Int32) (p3 : Nat) (p4 : Int32) (p5 : Int32) (post : Int32 → XT → Prop)  (x1 : Int32) (x3 : Int32) (x5 : Int32) (K : XK) (T : XT) : Prop := wLoop (fun (R : ((Int32) × (Int32) × (Int32) × (XT)) → Prop) (v : (Int32) × (Int32) × (Int32) × (XT)) => wxJ6_compress_2_b3 p1 p2 p3 p4 p5 post (fun x1 x3 x5 T => R (x1, x3, x5, T))  v.1 v.2.1 v.2.2.1 K v.2.2.2) (x1, x3, x5, T)
def wxJ6_compress_2 (p1 : Nat) (p2 : Int32) (p3 : Nat) (p4 : Int32) (p5 : Int32) (K : XK) (T : XT) (post : Int32 → XT → Prop) : Prop :=
  wxJ6_compress_2_l3 p1 p2 p3 p4 p5 post p2 p4 0 K T
set_option maxHeartbeats 4000000 in
theorem mxJ6_compress_2 (l : Launch) (G : XG) (b : Nat) (hole : Nat → Prop) (p1 : Nat) (p2 : Int32) (p3 : Nat) (p4 : Int32) (p5 : Int32) (K : XK) (T : XT) (hk_p1 : kd K p1 = 7) (hk_p3 : kd K p3 = 6) (post : Int32 → XT → Prop) (h : wxJ6_compress_2 p1 p2 p3 p4 p5 K T post) : Met l yJ6_compress_2 (ws_ yJ6_compress_2 cJ6_compress_2 7 (some .int)) ({ frames := 0, cells := 0, slots := 0, locals := 0 } : Room) (xPc G b hole [.ref (b + p1), .int p2, .ref (b + p3), .int p4, .int p5] K T) (xQ G b hole K 0 0 (ρ := Int32) eI (fun r T1 K1 => post r T1 ∧ K1 = K)) 0 0 (xA b hole) := by
  refine Met.ofW (cc := cJ6_compress_2) (maxL := 7) (ret := (some .int)) (by decide) rfl ?_
  intro p e s m args below meth c s₁ B hml hv
  obtain ⟨rfl, hP, hK, hV⟩ := hv
  have hx := B.exec
  have hb := B.bytes
  have hr := B.returns
  have hts := atoms_spec (ws := ws_ yJ6_compress_2 cJ6_compress_2 7 (some .int)) B.pre
  have hts : ∀ w ∈ lw_all, w.before _ s = true := fun w h => hts w (List.mem_cons_of_mem _ h)
  have hown : s.vm.findClass RJ6 = some m.cls := findClass_of_methodNamed B.named
  have hlocks := B.notSynchronized
  have hb0 : b ≤ s.heap.size := by rw [hP.2.2.2]; exact Nat.le_add_right _ _
  have hS : va_S (xA b hole) s.heap s.heap [] := va_S.rf
  have hl := lv_entry ([.ref (b + p1), .int p2, .ref (b + p3), .int p4, .int p5]) (n := 7) (Nat.le_of_ble_eq_true rfl)
  rw [lg_entry_eq]
  generalize (lg_sl ([.ref (b + p1), .int p2, .ref (b + p3), .int p4, .int p5]) ++ List.replicate (7 - (lg_sl ([.ref (b + p1), .int p2, .ref (b + p3), .int p4, .int p5])).length) Slot.unset).toArray = ls at hl ⊢
  have hl : lv_has ls 7 [(0, .ref (b + p1)), (1, .int p2), (2, .ref (b + p3)), (3, .int p4), (4, .int p5)] := hl
  have L3 : ∀ (x1 : Int32) (x3 : Int32) (x5 : Int32) (T : XT) (H : Heap) (locs : List Loc) (ls : Array Slot), wxJ6_compress_2_l3 p1 p2 p3 p4 p5 post  x1 x3 x5 K T → xW G b hole K T H → va_S (xA b hole) s.heap H locs → lv_has ls 7 [(0, .ref (b + p1)), (1, .int x1), (2, .ref (b + p3)), (3, .int x3), (4, .int p5), (5, .int x5)] → W p l e (headSpec (ws_ yJ6_compress_2 cJ6_compress_2 7 (some .int)) ({ frames := 0, cells := 0, slots := 0, locals := 0 } : Room)).room s m ([.ref (b + p1), .int p2, .ref (b + p3), .int p4, .int p5] : List Value).toArray below meth c H locs 0 0 (MQ below (xQ G b hole K 0 0 (ρ := Int32) eI (fun r T1 K1 => post r T1 ∧ K1 = K)) ([.ref (b + p1), .int p2, .ref (b + p3), .int p4, .int p5] : List Value).toArray s 0 0 (xA b hole)) (F0 m 3 ls []) := by
    intro x1 x3 x5 T H locs ls h hP hS hl
    obtain ⟨I3, n3, hI, hstep3⟩ := h
    induction n3 using Nat.strongRecOn generalizing x1 x3 x5 T H locs ls with
    | ind n3 ih3 =>
      have h : wxJ6_compress_2_b3 p1 p2 p3 p4 p5 post (fun x1 x3 x5 T => ∃ mm, mm < n3 ∧ I3 mm (x1, x3, x5, T))  x1 x3 x5 K T := hstep3 n3 _ hI
      clear hI
      unfold wxJ6_compress_2_b3 at h
      refine lv_iload hx hb dJ6_compress_2_3 (lv_at hl 5 rfl) ?_
      refine lv_iload hx hb dJ6_compress_2_5 (lv_at hl 4 rfl) ?_
      refine lv_icmp_ge (tgt := 44) hx hb dJ6_compress_2_7 (by decide) (fun c_8 => ?_) (fun c_8 => ?_)
      · have h := h.1 c_8
        refine lv_iload hx hb dJ6_compress_2_44 (lv_at hl 4 rfl) ?_
        exact W.iret (v := p5) hx hb hr (fun t ht hW => ⟨⟨p5, T, K, rfl, ⟨h, rfl⟩, kle.rf, rfl, rfl, by rw [ht]; exact hP, va_K.moved hW.alike hK⟩, hS.F ht⟩) hS.2.2 dJ6_compress_2_46
      · have h := h.2 c_8
        refine lv_aload_n hx hb dJ6_compress_2_10 rfl (lv_at hl 0 rfl) ?_
        refine lv_iload_n hx hb dJ6_compress_2_11 rfl (lv_at hl 1 rfl) ?_
        obtain ⟨j_1, hj_1, ej_1, h⟩ := h
        refine x_cald hx hb hK hP hk_p1 ej_1 hj_1 dJ6_compress_2_12 ?_
        refine lv_istore (lv' := [(6, .int (xi T p1 j_1)), (0, .ref (b + p1)), (1, .int x1), (2, .ref (b + p3)), (3, .int x3), (4, .int p5), (5, .int x5)]) hx hb dJ6_compress_2_13 hl (by decide) rfl (fun ls hl => ?_)
        refine lv_iload hx hb dJ6_compress_2_15 (lv_at hl 0 rfl) ?_
        refine lv_sipush (v := 255) hx hb dJ6_compress_2_17 (by decide) ?_
        refine lv_icmp_le (tgt := 26) hx hb dJ6_compress_2_20 (by decide) (fun c_7 => ?_) (fun c_7 => ?_)
        · have h := h.1 c_7
          refine lv_aload_n hx hb dJ6_compress_2_26 rfl (lv_at hl 3 rfl) ?_
          refine lv_iload_n hx hb dJ6_compress_2_27 rfl (lv_at hl 4 rfl) ?_
          refine lv_iload hx hb dJ6_compress_2_28 (lv_at hl 0 rfl) ?_
          refine lv_i2b hx hb dJ6_compress_2_30 rfl ?_
          obtain ⟨j_2, hj_2, ej_2, h⟩ := h
          obtain ⟨T_3, eT_3⟩ : ∃ z : XT, z = xwi T p3 j_2 (((xi T p1 j_1).toInt8.toInt32).toInt8.toInt32) := ⟨_, rfl⟩
          have h := h T_3 eT_3
          refine x_bast hx hb hK hP hS hk_p3 ej_2 hj_2 dJ6_compress_2_31 (fun H locs hP hS => ?_)
          rw [← eT_3] at hP
          obtain ⟨x1_4, ex1_4⟩ : ∃ y : Int32, y = x1 + 1 := ⟨_, rfl⟩
          have h := h x1_4 ex1_4
          refine lv_iinc (v := x1_4) (lv' := [(1, .int x1_4), (6, .int (xi T p1 j_1)), (0, .ref (b + p1)), (2, .ref (b + p3)), (3, .int x3), (4, .int p5), (5, .int x5)]) hx hb dJ6_compress_2_32 hl (k := 2) rfl (by rw [ex1_4]; rfl) (by decide) rfl (fun ls hl => ?_)
          obtain ⟨x3_5, ex3_5⟩ : ∃ y : Int32, y = x3 + 1 := ⟨_, rfl⟩
          have h := h x3_5 ex3_5
          refine lv_iinc (v := x3_5) (lv' := [(3, .int x3_5), (1, .int x1_4), (6, .int (xi T p1 j_1)), (0, .ref (b + p1)), (2, .ref (b + p3)), (4, .int p5), (5, .int x5)]) hx hb dJ6_compress_2_35 hl (k := 4) rfl (by rw [ex3_5]; rfl) (by decide) rfl (fun ls hl => ?_)
          obtain ⟨x5_6, ex5_6⟩ : ∃ y : Int32, y = x5 + 1 := ⟨_, rfl⟩
          have h := h x5_6 ex5_6
          refine lv_iinc (v := x5_6) (lv' := [(5, .int x5_6), (3, .int x3_5), (1, .int x1_4), (6, .int (xi T p1 j_1)), (0, .ref (b + p1)), (2, .ref (b + p3)), (4, .int p5)]) hx hb dJ6_compress_2_38 hl (k := 6) rfl (by rw [ex5_6]; rfl) (by decide) rfl (fun ls hl => ?_)
          refine lv_goto (tgt := 3) hx hb dJ6_compress_2_41 (by decide) ?_
          obtain ⟨mm, hmm, h⟩ := h
          exact ih3 mm hmm _ _ _ _ _ _ _  hP hS (lv_sub hl [4, 2, 5, 1, 6, 0] rfl) h
        · have h := h.2 c_7
          refine lv_iload hx hb dJ6_compress_2_23 (lv_at hl 6 rfl) ?_
          exact W.iret (v := x5) hx hb hr (fun t ht hW => ⟨⟨x5, T, K, rfl, ⟨h, rfl⟩, kle.rf, rfl, rfl, by rw [ht]; exact hP, va_K.moved hW.alike hK⟩, hS.F ht⟩) hS.2.2 dJ6_compress_2_25
  unfold wxJ6_compress_2 at h
  refine lv_iconst (v := 0) hx hb dJ6_compress_2_0 (by decide) ?_
  refine lv_istore (lv' := [(5, .int 0), (0, .ref (b + p1)), (1, .int p2), (2, .ref (b + p3)), (3, .int p4), (4, .int p5)]) hx hb dJ6_compress_2_1 hl (by decide) rfl (fun ls hl => ?_)
  exact L3 _ _ _ _ _ _ _ h  hP hS (lv_sub hl [1, 2, 3, 4, 5, 0] rfl)
theorem cwx_J6_compress : yJ6_compress.cls ≠ "java/lang/invoke/MethodHandle" ∧ yJ6_compress.cls ≠ "java/lang/invoke/VarHandle" ∧ (parseMethodDescriptor yJ6_compress.desc).map (fun d => d.parameters.length) = some 3 := by decide +kernel
def wxJ6_compress (p1 : Nat) (p2 : Int32) (p3 : Int32) (K0 : XK) (T : XT) (Z Y : Nat) (post : Nat → XT → XK → Prop) : Prop :=
  ∃ n_1 : Nat, n_1 < 2 ^ 27 ∧ p3 = nI n_1 ∧ kc K0 + 1 ≤ Z ∧ ks K0 + n_1 ≤ Y ∧ ∀ K_2 : XK, K_2 = knew K0 6 n_1 n_1 → ∀ T_3 : XT, T_3 = xnil T (kz K0) →
  wxJ6_compress_2 p1 p2 (kz K0) 0 p3 K_2 T_3 (fun r_4 T_5 =>
  ((r_4 = p3 →
    post (kz K0) T_5 (kset K_2 Z Y)) ∧
   (¬ (r_4 = p3) →
    False)))
set_option maxHeartbeats 4000000 in
theorem mxJ6_compress (l : Launch) (G : XG) (b : Nat) (hole : Nat → Prop) (p1 : Nat) (p2 : Int32) (p3 : Int32) (K0 : XK) (T : XT) (Z Y : Nat) (hZ : kc K0 ≤ Z) (hY : ks K0 ≤ Y) (hk_p1 : kd K0 p1 = 7) (post : Nat → XT → XK → Prop) (h : wxJ6_compress p1 p2 p3 K0 T Z Y post) : Met l yJ6_compress (ws_ yJ6_compress cJ6_compress 6 (some (.array .byte))) ({ frames := 1, cells := (Z - kc K0), slots := (Y - ks K0), locals := 26 } : Room) (xPc G b hole [.ref (b + p1), .int p2, .int p3] K0 T) (xQ G b hole K0 (Z - kc K0) (Y - ks K0) (ρ := Nat) (eR b) (fun r T1 K1 => post r T1 K1 ∧ kd K1 r = 6)) (Z - kc K0) (Y - ks K0) (xA b hole) := by
  refine Met.ofW (cc := cJ6_compress) (maxL := 6) (ret := (some (.array .byte))) (by decide) rfl ?_
  intro p e s m args below meth c s₁ B hml hv
  obtain ⟨rfl, hP, hK, hV⟩ := hv
  have hx := B.exec
  have hb := B.bytes
  have hr := B.returns
  have hts := atoms_spec (ws := ws_ yJ6_compress cJ6_compress 6 (some (.array .byte))) B.pre
  have hts : ∀ w ∈ lw_all, w.before _ s = true := fun w h => hts w (List.mem_cons_of_mem _ h)
  have hown : s.vm.findClass RJ6 = some m.cls := findClass_of_methodNamed B.named
  have hlocks := B.notSynchronized
  have hb0 : b ≤ s.heap.size := by rw [hP.2.2.2]; exact Nat.le_add_right _ _
  have hS : va_S (xA b hole) s.heap s.heap [] := va_S.rf
  have hl := lv_entry ([.ref (b + p1), .int p2, .int p3]) (n := 6) (Nat.le_of_ble_eq_true rfl)
  rw [lg_entry_eq]
  generalize (lg_sl ([.ref (b + p1), .int p2, .int p3]) ++ List.replicate (6 - (lg_sl ([.ref (b + p1), .int p2, .int p3])).length) Slot.unset).toArray = ls at hl ⊢
  have hl : lv_has ls 6 [(0, .ref (b + p1)), (1, .int p2), (2, .int p3)] := hl
  have hle0 : kle K0 K0 := kle.rf
  have hcn : kc K0 + 0 = kc K0 := rfl
  have hsn : ks K0 + 0 = ks K0 := rfl
  have hzz := hZ
  have hyy := hY
  unfold wxJ6_compress at h
  refine lv_iload_n hx hb dJ6_compress_0 rfl (lv_at hl 2 rfl) ?_
  obtain ⟨n_1, hn_1, en_1, h⟩ := h
  obtain ⟨hc1, hs1, h⟩ := h
  obtain ⟨K_2, eK_2⟩ : ∃ z : XK, z = knew K0 6 n_1 n_1 := ⟨_, rfl⟩
  obtain ⟨T_3, eT_3⟩ : ∃ z : XT, z = xnil T (kz K0) := ⟨_, rfl⟩
  have h := h K_2 eK_2 T_3 eT_3
  have hle1 : kle K0 K_2 := by rw [eK_2]; exact kle.new hP.2.2.1 _ _ _
  refine x_newab (N := n_1) hx hb hts q294 hK hP hS en_1 hn_1 (by show _ + 1 ≤ Z - kc K0; omega) (by show _ + _ ≤ Y - ks K0; omega) dJ6_compress_1 (fun H hP hS => ?_)
  rw [← eK_2, ← eT_3] at hP
  have hk_p1 : kd K_2 p1 = 7 := hle1.kd hk_p1
  have hk_n2 : kd K_2 (kz K0) = 6 := by rw [eK_2]; exact knew_kd
  have hle0 := hle0.tr hle1
  have hcn : kc K0 + (0 + 1) = kc K_2 := by rw [eK_2]; show _ = kc K0 + 1; omega
  have hsn : ks K0 + (0 + n_1) = ks K_2 := by rw [eK_2]; show _ = ks K0 + n_1; omega
  have hzz : kc K_2 ≤ Z := by rw [eK_2]; exact hc1
  have hyy : ks K_2 ≤ Y := by rw [eK_2]; exact hs1
  refine lv_astore_n (lv' := [(3, .ref (b + (kz K0))), (0, .ref (b + p1)), (1, .int p2), (2, .int p3)]) hx hb dJ6_compress_3 rfl hl (by decide) rfl (fun ls hl => ?_)
  refine lv_aload_n hx hb dJ6_compress_4 rfl (lv_at hl 1 rfl) ?_
  refine lv_iload_n hx hb dJ6_compress_5 rfl (lv_at hl 2 rfl) ?_
  refine lv_aload_n hx hb dJ6_compress_6 rfl (lv_at hl 0 rfl) ?_
  refine lv_iconst (v := 0) hx hb dJ6_compress_7 (by decide) ?_
  refine lv_iload_n hx hb dJ6_compress_8 rfl (lv_at hl 3 rfl) ?_
  refine x_cS (As := [.ref (b + p1), .int p2, .ref (b + (kz K0)), .int 0, .int p3]) (rest := []) ⟨hx, hb, hml, hown, hts⟩ (mxJ6_compress_2 l G b hole p1 p2 (kz K0) 0 p3 K_2 T_3 hk_p1 hk_n2 _ h) (va_cwS 5 hts (lw_S q533 q534 q131 q535) rfl rfl rfl cwx_J6_compress_2 ⟨Nat.le_of_ble_eq_true rfl, Nat.le_of_ble_eq_true rfl⟩) hK hV hb0 hP hS rfl hl.1 rfl (Nat.le_of_ble_eq_true rfl) dJ6_compress_9 ⟨by first | exact Nat.zero_le _ | (show _ + _ ≤ Z - kc K0; omega), by first | exact Nat.zero_le _ | (show _ + _ ≤ Y - ks K0; omega)⟩ (fun r_4 T1 K1 H locs h hle1 hc1 hs1 hP hS => ?_)
  obtain ⟨h, hKe⟩ := h
  rw [hKe] at hP
  generalize T1 = T_5 at h hP
  refine lv_istore (lv' := [(4, .int r_4), (3, .ref (b + (kz K0))), (0, .ref (b + p1)), (1, .int p2), (2, .int p3)]) hx hb dJ6_compress_12 hl (by decide) rfl (fun ls hl => ?_)
  refine lv_iload hx hb dJ6_compress_14 (lv_at hl 0 rfl) ?_
  refine lv_iload_n hx hb dJ6_compress_16 rfl (lv_at hl 4 rfl) ?_
  refine lv_icmp_eq (tgt := 57) hx hb dJ6_compress_17 (by decide) (fun c_7 => ?_) (fun c_7 => ?_)
  · have h := h.1 c_7
    refine lv_aload_n hx hb dJ6_compress_57 rfl (lv_at hl 1 rfl) ?_
    refine W.widen (k := Z - kc K0) (n := Y - ks K0) (by omega) (by omega) ?_
    exact W.aret (v := .ref (b + (kz K0))) hx hb hr (Or.inr ⟨_, rfl⟩) (Or.inr ⟨_, rfl⟩) (fun t ht hW => ⟨⟨(kz K0), T_5, (kset K_2 Z Y), rfl, ⟨h, hk_n2⟩, hle0, (by show Z = _; omega), (by show Y = _; omega), by rw [ht]; exact hP, va_K.moved hW.alike hK⟩, hS.F ht⟩) hS.2.2 dJ6_compress_58
  · have h := h.2 c_7
    exact h.elim
theorem cwx_J6_coderFromArrayLen : yJ6_coderFromArrayLen.cls ≠ "java/lang/invoke/MethodHandle" ∧ yJ6_coderFromArrayLen.cls ≠ "java/lang/invoke/VarHandle" ∧ (parseMethodDescriptor yJ6_coderFromArrayLen.desc).map (fun d => d.parameters.length) = some 2 := by decide +kernel
def wxJ6_coderFromArrayLen (p1 : Nat) (p2 : Int32) (K : XK) (T : XT) (post : Int32 → Prop) : Prop :=
  ((((p2 - (nI (kl K p1))).toUInt32 >>> (Int32.toUInt32 31 &&& Int32.toUInt32 31)).toInt32).toInt8.toInt32).toInt8.toInt32 = ((((p2 - (nI (kl K p1))).toUInt32 >>> (Int32.toUInt32 31 &&& Int32.toUInt32 31)).toInt32).toInt8.toInt32) ∧ post ((((p2 - (nI (kl K p1))).toUInt32 >>> (Int32.toUInt32 31 &&& Int32.toUInt32 31)).toInt32).toInt8.toInt32)
set_option maxHeartbeats 4000000 in
theorem mxJ6_coderFromArrayLen (l : Launch) (G : XG) (b : Nat) (hole : Nat → Prop) (p1 : Nat) (p2 : Int32) (K : XK) (T : XT) (hk_p1 : kd K p1 = 6) (post : Int32 → Prop) (h : wxJ6_coderFromArrayLen p1 p2 K T post) : Met l yJ6_coderFromArrayLen (ws_ yJ6_coderFromArrayLen cJ6_coderFromArrayLen 2 (some .byte)) ({ frames := 0, cells := 0, slots := 0, locals := 0 } : Room) (xPc G b hole [.ref (b + p1), .int p2] K T) (xQ G b hole K 0 0 (ρ := Int32) eI (fun r T1 K1 => post r ∧ T1 = T ∧ K1 = K)) 0 0 (xA b hole) := by
  refine Met.ofW (cc := cJ6_coderFromArrayLen) (maxL := 2) (ret := (some .byte)) (by decide) rfl ?_
  intro p e s m args below meth c s₁ B hml hv
  obtain ⟨rfl, hP, hK, hV⟩ := hv
  have hx := B.exec
  have hb := B.bytes
  have hr := B.returns
  have hts := atoms_spec (ws := ws_ yJ6_coderFromArrayLen cJ6_coderFromArrayLen 2 (some .byte)) B.pre
  have hts : ∀ w ∈ lw_all, w.before _ s = true := fun w h => hts w (List.mem_cons_of_mem _ h)
  have hown : s.vm.findClass RJ6 = some m.cls := findClass_of_methodNamed B.named
  have hlocks := B.notSynchronized
  have hb0 : b ≤ s.heap.size := by rw [hP.2.2.2]; exact Nat.le_add_right _ _
  have hS : va_S (xA b hole) s.heap s.heap [] := va_S.rf
  have hl := lv_entry ([.ref (b + p1), .int p2]) (n := 2) (Nat.le_of_ble_eq_true rfl)
  rw [lg_entry_eq]
  generalize (lg_sl ([.ref (b + p1), .int p2]) ++ List.replicate (2 - (lg_sl ([.ref (b + p1), .int p2])).length) Slot.unset).toArray = ls at hl ⊢
  have hl : lv_has ls 2 [(0, .ref (b + p1)), (1, .int p2)] := hl
  unfold wxJ6_coderFromArrayLen at h
  refine lv_iload_n hx hb dJ6_coderFromArrayLen_0 rfl (lv_at hl 1 rfl) ?_
  refine lv_aload_n hx hb dJ6_coderFromArrayLen_1 rfl (lv_at hl 0 rfl) ?_
  refine x_alen6 hx hb hK hP hk_p1 dJ6_coderFromArrayLen_2 ?_
  refine lv_isub hx hb dJ6_coderFromArrayLen_3 ?_
  refine lv_bipush (v := 31) hx hb dJ6_coderFromArrayLen_4 (by decide) ?_
  refine lv_iushr hx hb dJ6_coderFromArrayLen_6 rfl ?_
  refine lv_i2b hx hb dJ6_coderFromArrayLen_7 rfl ?_
  obtain ⟨hz9, h⟩ := h
  exact W.zret (v := ((((p2 - (nI (kl K p1))).toUInt32 >>> (Int32.toUInt32 31 &&& Int32.toUInt32 31)).toInt32).toInt8.toInt32)) hx hb hr (congrArg Value.int hz9) (fun t ht hW => ⟨⟨((((p2 - (nI (kl K p1))).toUInt32 >>> (Int32.toUInt32 31 &&& Int32.toUInt32 31)).toInt32).toInt8.toInt32), T, K, rfl, ⟨h, rfl, rfl⟩, kle.rf, rfl, rfl, by rw [ht]; exact hP, va_K.moved hW.alike hK⟩, hS.F ht⟩) hS.2.2 dJ6_coderFromArrayLen_8
theorem cwx_J4_init_2 : yJ4_init_2.cls ≠ "java/lang/invoke/MethodHandle" ∧ yJ4_init_2.cls ≠ "java/lang/invoke/VarHandle" ∧ (parseMethodDescriptor yJ4_init_2.desc).map (fun d => d.parameters.length) = some 4 := by decide +kernel
def wxJ4_init_2 (p0 : Nat) (p1 : Nat) (p2 : Int32) (p3 : Int32) (p4 : Option Nat) (K0 : XK) (T : XT) (Z Y : Nat) (post : XT → XK → Prop) : Prop :=
  ((¬ p3 = 0 →
    (((1 : Int32) = 0 →
      False) ∧
     (¬ ((1 : Int32) = 0) →
      ∃ Z_4 Y_5 : Nat, kc K0 ≤ Z_4 ∧ Z_4 ≤ Z ∧ ks K0 ≤ Y_5 ∧ Y_5 ≤ Y ∧ wxJ6_compress p1 p2 p3 K0 T Z_4 Y_5 (fun r_1 T_2 K_3 =>
      wxJ6_coderFromArrayLen r_1 p3 K_3 T_2 (fun r_6 =>
      r_6 = 0 ∧ ∀ T_9 : XT, T_9 = xwi T_2 p0 1 r_6 →
      ∀ T_10 : XT, T_10 = xwr T_9 p0 0 (some r_1) →
      post T_10 (kset K_3 Z Y)))))) ∧
   (p3 = 0 →
    False))
set_option maxHeartbeats 4000000 in
theorem mxJ4_init_2 (l : Launch) (G : XG) (b : Nat) (hole : Nat → Prop) (p0 : Nat) (p1 : Nat) (p2 : Int32) (p3 : Int32) (p4 : Option Nat) (K0 : XK) (T : XT) (Z Y : Nat) (hZ : kc K0 ≤ Z) (hY : ks K0 ≤ Y) (hk_p0 : kd K0 p0 = 15) (hk_p1 : kd K0 p1 = 7) (hk_p4 : ∀ v, p4 = some v → kd K0 v = 99) (post : XT → XK → Prop) (h : wxJ4_init_2 p0 p1 p2 p3 p4 K0 T Z Y post) : Met l yJ4_init_2 (ws_ yJ4_init_2 cJ4_init_2 6 none) ({ frames := 2, cells := (Z - kc K0), slots := (Y - ks K0), locals := 60 } : Room) (xPc G b hole [.ref (b + p0), .ref (b + p1), .int p2, .int p3, rfv b p4] K0 T) (xQ G b hole K0 (Z - kc K0) (Y - ks K0) (ρ := Unit) eV (fun r T1 K1 => post T1 K1)) (Z - kc K0) (Y - ks K0) (xA b hole) := by
  refine Met.ofW (cc := cJ4_init_2) (maxL := 6) (ret := none) (by decide) rfl ?_
  intro p e s m args below meth c s₁ B hml hv
  obtain ⟨rfl, hP, hK, hV⟩ := hv
  have hx := B.exec
  have hb := B.bytes
  have hr := B.returns
  have hts := atoms_spec (ws := ws_ yJ4_init_2 cJ4_init_2 6 none) B.pre
  have hts : ∀ w ∈ lw_all, w.before _ s = true := fun w h => hts w (List.mem_cons_of_mem _ h)
  have hown : s.vm.findClass RJ4 = some m.cls := findClass_of_methodNamed B.named
  have hlocks := B.notSynchronized
  have hin : meth.name = "<init>" := (name_of_methodNamed B.named B.method).1
  have hb0 : b ≤ s.heap.size := by rw [hP.2.2.2]; exact Nat.le_add_right _ _
  have hS : va_S (xA b hole) s.heap s.heap [] := va_S.rf
  have hl := lv_entry ([.ref (b + p0), .ref (b + p1), .int p2, .int p3, rfv b p4]) (n := 6) (by cases p4 <;> exact Nat.le_of_ble_eq_true rfl)
  rw [lg_entry_eq]
  generalize (lg_sl ([.ref (b + p0), .ref (b + p1), .int p2, .int p3, rfv b p4]) ++ List.replicate (6 - (lg_sl ([.ref (b + p0), .ref (b + p1), .int p2, .int p3, rfv b p4])).length) Slot.unset).toArray = ls at hl ⊢
  have hl : lv_has ls 6 [(0, .ref (b + p0)), (1, .ref (b + p1)), (2, .int p2), (3, .int p3), (4, rfv b p4)] := by cases p4 <;> exact hl
  have hle0 : kle K0 K0 := kle.rf
  have hcn : kc K0 + 0 = kc K0 := rfl
  have hsn : ks K0 + 0 = ks K0 := rfl
  have hzz := hZ
  have hyy := hY
  unfold wxJ4_init_2 at h
  refine lv_aload_n hx hb dJ4_init_2_0 rfl (lv_at hl 0 rfl) ?_
  refine W.objInit hx hb hown (hts _ q526) (hts _ q145) (hts _ q146) rfl (by rw [hml]; exact hl.1) rfl dJ4_init_2_1 (Nat.le_of_ble_eq_true rfl) (Nat.le_of_ble_eq_true rfl) ?_
  refine W.eq (g2 := F0 m 4 ls []) rfl ?_
  refine lv_iload_n hx hb dJ4_init_2_4 rfl (lv_at hl 3 rfl) ?_
  refine lv_if_ne (tgt := 27) hx hb dJ4_init_2_5 (by decide) (fun c_12 => ?_) (fun c_12 => ?_)
  · have h := h.1 c_12
    refine va_gets hx hb hV.2.2.2.1.2.2.1 (x_sS hV hS) hown (hts _ q528) (fun _ h9 => h9) dJ4_init_2_27 ?_
    refine lv_if_eq (tgt := 58) hx hb dJ4_init_2_30 (by decide) (fun c_11 => ?_) (fun c_11 => ?_)
    · have h := h.1 c_11
      exact h.elim
    · have h := h.2 c_11
      refine lv_aload_n hx hb dJ4_init_2_33 rfl (lv_at hl 1 rfl) ?_
      refine lv_iload_n hx hb dJ4_init_2_34 rfl (lv_at hl 2 rfl) ?_
      refine lv_iload_n hx hb dJ4_init_2_35 rfl (lv_at hl 3 rfl) ?_
      obtain ⟨Z_4, Y_5, hz1, hz2, hy1, hy2, h⟩ := h
      refine x_cS (As := [.ref (b + p1), .int p2, .int p3]) (rest := []) ⟨hx, hb, hml, hown, hts⟩ (mxJ6_compress l G b hole p1 p2 p3 K0 T Z_4 Y_5 hz1 hy1 hk_p1 _ h) (va_cwS 3 hts (lw_S q530 q531 q131 q532) rfl rfl rfl cwx_J6_compress ⟨Nat.le_of_ble_eq_true rfl, Nat.le_of_ble_eq_true rfl⟩) hK hV hb0 hP hS rfl hl.1 rfl (Nat.le_of_ble_eq_true rfl) dJ4_init_2_36 ⟨by first | exact Nat.zero_le _ | (show _ + _ ≤ Z - kc K0; omega), by first | exact Nat.zero_le _ | (show _ + _ ≤ Y - ks K0; omega)⟩ (fun r_1 T1 K1 H locs h hle1 hc1 hs1 hP hS => ?_)
      obtain ⟨h, hk_r_1⟩ := h
      generalize T1 = T_2 at h hP
      generalize K1 = K_3 at h hP hle1 hc1 hs1 hk_r_1
      have hk_p0 : kd K_3 p0 = 15 := hle1.kd hk_p0
      have hk_p1 : kd K_3 p1 = 7 := hle1.kd hk_p1
      have hk_p4 : ∀ v, p4 = some v → kd K_3 v = 99 := fun v e9 => hle1.kd (hk_p4 v e9)
      have hle0 := hle0.tr hle1
      have hcn : kc K0 + (0 + (Z_4 - kc K0)) = kc K_3 := by omega
      have hsn : ks K0 + (0 + (Y_5 - ks K0)) = ks K_3 := by omega
      have hzz : kc K_3 ≤ Z := by omega
      have hyy : ks K_3 ≤ Y := by omega
      refine lv_astore (lv' := [(5, .ref (b + r_1)), (0, .ref (b + p0)), (1, .ref (b + p1)), (2, .int p2), (3, .int p3), (4, rfv b p4)]) hx hb dJ4_init_2_39 hl (by decide) (by cases p4 <;> rfl) (fun ls hl => ?_)
      refine lv_aload_n hx hb dJ4_init_2_41 rfl (lv_at hl 1 rfl) ?_
      refine lv_aload hx hb dJ4_init_2_42 (lv_at hl 0 rfl) ?_
      refine lv_iload_n hx hb dJ4_init_2_44 rfl (lv_at hl 4 rfl) ?_
      refine x_cS (As := [.ref (b + r_1), .int p3]) (rest := [.ref (b + p0)]) ⟨hx, hb, hml, hown, hts⟩ (mxJ6_coderFromArrayLen l G b hole r_1 p3 K_3 T_2 hk_r_1 _ h) (va_cwS 2 hts (lw_S q568 q569 q131 q570) rfl rfl rfl cwx_J6_coderFromArrayLen ⟨Nat.le_of_ble_eq_true rfl, Nat.le_of_ble_eq_true rfl⟩) hK hV hb0 hP hS rfl hl.1 rfl (Nat.le_of_ble_eq_true rfl) dJ4_init_2_45 ⟨by first | exact Nat.zero_le _ | (show _ + _ ≤ Z - kc K0; omega), by first | exact Nat.zero_le _ | (show _ + _ ≤ Y - ks K0; omega)⟩ (fun r_6 T1 K1 H locs h hle1 hc1 hs1 hP hS => ?_)
      obtain ⟨h, hTe, hKe⟩ := h
      rw [hTe, hKe] at hP
      obtain ⟨hz9, h⟩ := h
      obtain ⟨T_9, eT_9⟩ : ∃ z : XT, z = xwi T_2 p0 1 r_6 := ⟨_, rfl⟩
      have h := h T_9 eT_9
      refine x_put (CC := RJ4) (TT := TJ4) (N := 4) (ci := 7) (T1 := T_9) (v := .int r_6) (ty := .byte) (fsf := fun T => fs15 (gem G) b T p0) hx hb hts in_J4 tyJ4 tyJ4_ok nmJ4 hown hK hP hS hk_p0 (by decide) (by decide) rfl (fun _ => xE_15 hk_p0) rfl 1 (by decide) q573 rfl (Or.inr ⟨rfl, hin, rfl⟩) rfl (by rw [hz9]; rfl) (by rw [hz9]; rfl) (by rw [eT_9]; exact fw15_1 _ b T_2 p0 r_6) (by rw [eT_9]; exact fun q hq => xwi_i hq) (by rw [eT_9]; exact fun _ _ => rfl) (by rw [eT_9]; exact xwi_ty hP (by rw [hk_p0]; decide)) dJ4_init_2_48 (fun H locs hP hS => ?_)
      refine lv_aload_n hx hb dJ4_init_2_51 rfl (lv_at hl 1 rfl) ?_
      refine lv_aload hx hb dJ4_init_2_52 (lv_at hl 0 rfl) ?_
      obtain ⟨T_10, eT_10⟩ : ∃ z : XT, z = xwr T_9 p0 0 (some r_1) := ⟨_, rfl⟩
      have h := h T_10 eT_10
      refine x_put (CC := RJ4) (TT := TJ4) (N := 4) (ci := 7) (T1 := T_10) (v := .ref (b + r_1)) (ty := _) (fsf := fun T => fs15 (gem G) b T p0) hx hb hts in_J4 tyJ4 tyJ4_ok nmJ4 hown hK hP hS hk_p0 (by decide) (by decide) rfl (fun _ => xE_15 hk_p0) rfl 0 (by decide) q572 rfl (Or.inr ⟨rfl, hin, rfl⟩) rfl rfl rfl (by rw [eT_10]; exact fw15_0 _ b T_9 p0 (some r_1)) (by rw [eT_10]; exact fun _ _ => rfl) (by rw [eT_10]; exact fun q hq => xwr_r hq) (by rw [eT_10]; exact xwr_ty hP (by rw [hk_p0]; decide) (fun p e9 => by cases e9; rw [hk_r_1, hk_p0]; exact ⟨rfl, by decide⟩)) dJ4_init_2_54 (fun H locs hP hS => ?_)
      refine W.widen (k := Z - kc K0) (n := Y - ks K0) (by omega) (by omega) ?_
      exact W.vret hx hb hr (fun t ht hW => ⟨⟨(), T_10, (kset K_3 Z Y), rfl, h, hle0, (by show Z = _; omega), (by show Y = _; omega), by rw [ht]; exact hP, va_K.moved hW.alike hK⟩, hS.F ht⟩) hS.2.2 dJ4_init_2_57
  · have h := h.2 c_12
    exact h.elim
theorem cwx_J4_init : yJ4_init.cls ≠ "java/lang/invoke/MethodHandle" ∧ yJ4_init.cls ≠ "java/lang/invoke/VarHandle" ∧ (parseMethodDescriptor yJ4_init.desc).map (fun d => d.parameters.length) = some 3 := by decide +kernel
def wxJ4_init (p0 : Nat) (p1 : Nat) (p2 : Int32) (p3 : Int32) (K0 : XK) (T : XT) (Z Y : Nat) (post : XT → XK → Prop) : Prop :=
  wxJ4_rangeCheck p1 p2 p3 K0 T (fun r_1 =>
  ∃ Z_7 Y_8 : Nat, kc K0 ≤ Z_7 ∧ Z_7 ≤ Z ∧ ks K0 ≤ Y_8 ∧ Y_8 ≤ Y ∧ wxJ4_init_2 p0 p1 p2 p3 r_1 K0 T Z_7 Y_8 (fun T_5 K_6 =>
  post T_5 (kset K_6 Z Y)))
set_option maxHeartbeats 4000000 in
theorem mxJ4_init (l : Launch) (G : XG) (b : Nat) (hole : Nat → Prop) (p0 : Nat) (p1 : Nat) (p2 : Int32) (p3 : Int32) (K0 : XK) (T : XT) (Z Y : Nat) (hZ : kc K0 ≤ Z) (hY : ks K0 ≤ Y) (hk_p0 : kd K0 p0 = 15) (hk_p1 : kd K0 p1 = 7) (post : XT → XK → Prop) (h : wxJ4_init p0 p1 p2 p3 K0 T Z Y post) : Met l yJ4_init (ws_ yJ4_init cJ4_init 4 none) ({ frames := 4, cells := (Z - kc K0), slots := (Y - ks K0), locals := 142 } : Room) (xPc G b hole [.ref (b + p0), .ref (b + p1), .int p2, .int p3] K0 T) (xQ G b hole K0 (Z - kc K0) (Y - ks K0) (ρ := Unit) eV (fun r T1 K1 => post T1 K1)) (Z - kc K0) (Y - ks K0) (xA b hole) := by
  refine Met.ofW (cc := cJ4_init) (maxL := 4) (ret := none) (by decide) rfl ?_
  intro p e s m args below meth c s₁ B hml hv
  obtain ⟨rfl, hP, hK, hV⟩ := hv
  have hx := B.exec
  have hb := B.bytes
  have hr := B.returns
  have hts := atoms_spec (ws := ws_ yJ4_init cJ4_init 4 none) B.pre
  have hts : ∀ w ∈ lw_all, w.before _ s = true := fun w h => hts w (List.mem_cons_of_mem _ h)
  have hown : s.vm.findClass RJ4 = some m.cls := findClass_of_methodNamed B.named
  have hlocks := B.notSynchronized
  have hin : meth.name = "<init>" := (name_of_methodNamed B.named B.method).1
  have hb0 : b ≤ s.heap.size := by rw [hP.2.2.2]; exact Nat.le_add_right _ _
  have hS : va_S (xA b hole) s.heap s.heap [] := va_S.rf
  have hl := lv_entry ([.ref (b + p0), .ref (b + p1), .int p2, .int p3]) (n := 4) (Nat.le_of_ble_eq_true rfl)
  rw [lg_entry_eq]
  generalize (lg_sl ([.ref (b + p0), .ref (b + p1), .int p2, .int p3]) ++ List.replicate (4 - (lg_sl ([.ref (b + p0), .ref (b + p1), .int p2, .int p3])).length) Slot.unset).toArray = ls at hl ⊢
  have hl : lv_has ls 4 [(0, .ref (b + p0)), (1, .ref (b + p1)), (2, .int p2), (3, .int p3)] := hl
  have hle0 : kle K0 K0 := kle.rf
  have hcn : kc K0 + 0 = kc K0 := rfl
  have hsn : ks K0 + 0 = ks K0 := rfl
  have hzz := hZ
  have hyy := hY
  unfold wxJ4_init at h
  refine lv_aload_n hx hb dJ4_init_0 rfl (lv_at hl 0 rfl) ?_
  refine lv_aload_n hx hb dJ4_init_1 rfl (lv_at hl 1 rfl) ?_
  refine lv_iload_n hx hb dJ4_init_2 rfl (lv_at hl 2 rfl) ?_
  refine lv_iload_n hx hb dJ4_init_3 rfl (lv_at hl 3 rfl) ?_
  refine lv_aload_n hx hb dJ4_init_4 rfl (lv_at hl 1 rfl) ?_
  refine lv_iload_n hx hb dJ4_init_5 rfl (lv_at hl 2 rfl) ?_
  refine lv_iload_n hx hb dJ4_init_6 rfl (lv_at hl 3 rfl) ?_
  refine x_cS (As := [.ref (b + p1), .int p2, .int p3]) (rest := [.int p3, .int p2, .ref (b + p1), .ref (b + p0)]) ⟨hx, hb, hml, hown, hts⟩ (mxJ4_rangeCheck l G b hole p1 p2 p3 K0 T hk_p1 _ h) (va_cwS 3 hts (lw_S q512 q513 q129 q514) rfl rfl rfl cwx_J4_rangeCheck ⟨Nat.le_of_ble_eq_true rfl, Nat.le_of_ble_eq_true rfl⟩) hK hV hb0 hP hS rfl hl.1 rfl (Nat.le_of_ble_eq_true rfl) dJ4_init_7 ⟨by first | exact Nat.zero_le _ | (show _ + _ ≤ Z - kc K0; omega), by first | exact Nat.zero_le _ | (show _ + _ ≤ Y - ks K0; omega)⟩ (fun r_1 T1 K1 H locs h hle1 hc1 hs1 hP hS => ?_)
  obtain ⟨h, hk_r_1, hTe, hKe⟩ := h
  rw [hTe, hKe] at hP
  rw [hKe] at hk_r_1
  obtain ⟨Z_7, Y_8, hz1, hz2, hy1, hy2, h⟩ := h
  refine x_cI (k := p0) (As := [.ref (b + p1), .int p2, .int p3, rfv b r_1]) (rest := []) ⟨hx, hb, hml, hown, hts⟩ (mxJ4_init_2 l G b hole p0 p1 p2 p3 r_1 K0 T Z_7 Y_8 hz1 hy1 hk_p0 hk_p1 hk_r_1 _ h) (cwI 4 hts (lw_meth q525) rfl rfl rfl (hts _ q129) (hts _ q523) (hts _ q524) rfl cwx_J4_init_2 ⟨Nat.le_of_ble_eq_true rfl, Nat.le_of_ble_eq_true rfl⟩) hK hV hb0 hP hS rfl hl.1 rfl (Nat.le_of_ble_eq_true rfl) dJ4_init_10 ⟨by first | exact Nat.zero_le _ | (show _ + _ ≤ Z - kc K0; omega), by first | exact Nat.zero_le _ | (show _ + _ ≤ Y - ks K0; omega)⟩ (fun r_4 T1 K1 H locs h hle1 hc1 hs1 hP hS => ?_)
  generalize T1 = T_5 at h hP
  generalize K1 = K_6 at h hP hle1 hc1 hs1
  have hk_p0 : kd K_6 p0 = 15 := hle1.kd hk_p0
  have hk_p1 : kd K_6 p1 = 7 := hle1.kd hk_p1
  have hle0 := hle0.tr hle1
  have hcn : kc K0 + (0 + (Z_7 - kc K0)) = kc K_6 := by omega
  have hsn : ks K0 + (0 + (Y_8 - ks K0)) = ks K_6 := by omega
  have hzz : kc K_6 ≤ Z := by omega
  have hyy : ks K_6 ≤ Y := by omega
  refine W.widen (k := Z - kc K0) (n := Y - ks K0) (by omega) (by omega) ?_
  exact W.vret hx hb hr (fun t ht hW => ⟨⟨(), T_5, (kset K_6 Z Y), rfl, h, hle0, (by show Z = _; omega), (by show Y = _; omega), by rw [ht]; exact hP, va_K.moved hW.alike hK⟩, hS.F ht⟩) hS.2.2 dJ4_init_13
