set_option maxRecDepth 100000
theorem cwx_J8_signedHashCode : yJ8_signedHashCode.cls ≠ "java/lang/invoke/MethodHandle" ∧ yJ8_signedHashCode.cls ≠ "java/lang/invoke/VarHandle" ∧ (parseMethodDescriptor yJ8_signedHashCode.desc).map (fun d => d.parameters.length) = some 4 := by decide +kernel
def wxJ8_signedHashCode_b8 (p1 : Int32) (p2 : Nat) (p3 : Int32) (p4 : Int32) (post : Int32 → Prop) (R8 : Int32 → Int32 → Prop) (x4 : Int32) (x0 : Int32) (x5 : Int32) (K : XK) (T : XT) : Prop :=
      ((x4 ≤ x5 →
        post x0) ∧
       (¬ (x4 ≤ x5) →
        ∃ j_1 : Nat, j_1 < kl K p2 ∧ x5 = nI j_1 ∧
        ∀ x0_2 : Int32, x0_2 = ((31 * x0) + ((xi T p2 j_1) &&& 255)) →
        ∀ x5_3 : Int32, x5_3 = x5 + 1 →
        R8 x0_2 x5_3))
def wxJ8_signedHashCode_l8 (p1 : Int32) (p2 : Nat) (p3 : Int32) (p4 : Int32) (post : Int32 → Prop) (x4 : Int32) (x0 : Int32) (x5 : Int32) (K : XK) (T : XT) : Prop := wLoop (fun (R : ((Int32) × (Int32)) → Prop) (v : (Int32) × (Int32)) => wxJ8_signedHashCode_b8 p1 p2 p3 p4 post (fun x0 x5 => R (x0, x5)) x4 v.1 v.2 K T) (x0, x5)
def wxJ8_signedHashCode (p1 : Int32) (p2 : Nat) (p3 : Int32) (p4 : Int32) (K : XK) (T : XT) (post : Int32 → Prop) : Prop :=
  ∀ x4_5 : Int32, x4_5 = (p3 + p4) →
  wxJ8_signedHashCode_l8 p1 p2 p3 p4 post x4_5 p1 p3 K T
set_option maxHeartbeats 4000000 in
theorem mxJ8_signedHashCode (l : Launch) (G : XG) (b : Nat) (hole : Nat → Prop) (p1 : Int32) (p2 : Nat) (p3 : Int32) (p4 : Int32) (K : XK) (T : XT) (hk_p2 : kd K p2 = 6) (post : Int32 → Prop) (h : wxJ8_signedHashCode p1 p2 p3 p4 K T post) : Met l yJ8_signedHashCode (ws_ yJ8_signedHashCode cJ8_signedHashCode 6 (some .int)) ({ frames := 0, cells := 0, slots := 0, locals := 0 } : Room) (xPc G b hole [.int p1, .ref (b + p2), .int p3, .int p4] K T) (xQ G b hole K 0 0 (ρ := Int32) eI (fun r T1 K1 => post r ∧ T1 = T ∧ K1 = K)) 0 0 (xA b hole) := by
  refine Met.ofW (cc := cJ8_signedHashCode) (maxL := 6) (ret := (some .int)) (by decide) rfl ?_
  intro p e s m args below meth c s₁ B hml hv
  obtain ⟨rfl, hP, hK, hV⟩ := hv
  have hx := B.exec
  have hb := B.bytes
  have hr := B.returns
  have hts := atoms_spec (ws := ws_ yJ8_signedHashCode cJ8_signedHashCode 6 (some .int)) B.pre
  have hts : ∀ w ∈ lw_all, w.before _ s = true := fun w h => hts w (List.mem_cons_of_mem _ h)
  have hown : s.vm.findClass RJ8 = some m.cls := findClass_of_methodNamed B.named
  have hlocks := B.notSynchronized
  have hb0 : b ≤ s.heap.size := by rw [hP.2.2.2]; exact Nat.le_add_right _ _
  have hS : va_S (xA b hole) s.heap s.heap [] := va_S.rf
  have hl := lv_entry ([.int p1, .ref (b + p2), .int p3, .int p4]) (n := 6) (Nat.le_of_ble_eq_true rfl)
  rw [lg_entry_eq]
  generalize (lg_sl ([.int p1, .ref (b + p2), .int p3, .int p4]) ++ List.replicate (6 - (lg_sl ([.int p1, .ref (b + p2), .int p3, .int p4])).length) Slot.unset).toArray = ls at hl ⊢
  have hl : lv_has ls 6 [(0, .int p1), (1, .ref (b + p2)), (2, .int p3), (3, .int p4)] := hl
  have L8 : ∀ (x4 : Int32) (x0 : Int32) (x5 : Int32) (H : Heap) (locs : List Loc) (ls : Array Slot), wxJ8_signedHashCode_l8 p1 p2 p3 p4 post x4 x0 x5 K T → xW G b hole K T H → va_S (xA b hole) s.heap H locs → lv_has ls 6 [(0, .int x0), (1, .ref (b + p2)), (4, .int x4), (5, .int x5)] → W p l e (headSpec (ws_ yJ8_signedHashCode cJ8_signedHashCode 6 (some .int)) ({ frames := 0, cells := 0, slots := 0, locals := 0 } : Room)).room s m ([.int p1, .ref (b + p2), .int p3, .int p4] : List Value).toArray below meth c H locs 0 0 (MQ below (xQ G b hole K 0 0 (ρ := Int32) eI (fun r T1 K1 => post r ∧ T1 = T ∧ K1 = K)) ([.int p1, .ref (b + p2), .int p3, .int p4] : List Value).toArray s 0 0 (xA b hole)) (F0 m 8 ls []) := by
    intro x4 x0 x5 H locs ls h hP hS hl
    obtain ⟨I8, n8, hI, hstep8⟩ := h
    induction n8 using Nat.strongRecOn generalizing x0 x5 H locs ls with
    | ind n8 ih8 =>
      have h : wxJ8_signedHashCode_b8 p1 p2 p3 p4 post (fun x0 x5 => ∃ mm, mm < n8 ∧ I8 mm (x0, x5)) x4 x0 x5 K T := hstep8 n8 _ hI
      clear hI
      unfold wxJ8_signedHashCode_b8 at h
      refine lv_iload hx hb dJ8_signedHashCode_8 (lv_at hl 3 rfl) ?_
      refine lv_iload hx hb dJ8_signedHashCode_10 (lv_at hl 2 rfl) ?_
      refine lv_icmp_ge (tgt := 35) hx hb dJ8_signedHashCode_12 (by decide) (fun c_4 => ?_) (fun c_4 => ?_)
      · have h := h.1 c_4
        refine lv_iload_n hx hb dJ8_signedHashCode_35 rfl (lv_at hl 0 rfl) ?_
        exact W.iret (v := x0) hx hb hr (fun t ht hW => ⟨⟨x0, T, K, rfl, ⟨h, rfl, rfl⟩, kle.rf, rfl, rfl, by rw [ht]; exact hP, va_K.moved hW.alike hK⟩, hS.F ht⟩) hS.2.2 dJ8_signedHashCode_36
      · have h := h.2 c_4
        refine lv_bipush (v := 31) hx hb dJ8_signedHashCode_15 (by decide) ?_
        refine lv_iload_n hx hb dJ8_signedHashCode_17 rfl (lv_at hl 0 rfl) ?_
        refine lv_imul hx hb dJ8_signedHashCode_18 ?_
        refine lv_aload_n hx hb dJ8_signedHashCode_19 rfl (lv_at hl 1 rfl) ?_
        refine lv_iload hx hb dJ8_signedHashCode_20 (lv_at hl 3 rfl) ?_
        obtain ⟨j_1, hj_1, ej_1, h⟩ := h
        refine x_bald hx hb hK hP hk_p2 ej_1 hj_1 dJ8_signedHashCode_22 ?_
        refine lv_sipush (v := 255) hx hb dJ8_signedHashCode_23 (by decide) ?_
        refine lv_iand hx hb dJ8_signedHashCode_26 ?_
        refine lv_iadd hx hb dJ8_signedHashCode_27 ?_
        refine lv_topi (fun x0_2 ex0_2 => ?_)
        have h := h x0_2 ex0_2
        refine lv_istore_n (lv' := [(0, .int x0_2), (1, .ref (b + p2)), (4, .int x4), (5, .int x5)]) hx hb dJ8_signedHashCode_28 rfl hl (by decide) rfl (fun ls hl => ?_)
        obtain ⟨x5_3, ex5_3⟩ : ∃ y : Int32, y = x5 + 1 := ⟨_, rfl⟩
        have h := h x5_3 ex5_3
        refine lv_iinc (v := x5_3) (lv' := [(5, .int x5_3), (0, .int x0_2), (1, .ref (b + p2)), (4, .int x4)]) hx hb dJ8_signedHashCode_29 hl (k := 3) rfl (by rw [ex5_3]; rfl) (by decide) rfl (fun ls hl => ?_)
        refine lv_goto (tgt := 8) hx hb dJ8_signedHashCode_32 (by decide) ?_
        obtain ⟨mm, hmm, h⟩ := h
        exact ih8 mm hmm _ _ _ _ _  hP hS (lv_sub hl [1, 2, 3, 0] rfl) h
  unfold wxJ8_signedHashCode at h
  refine lv_iload_n hx hb dJ8_signedHashCode_0 rfl (lv_at hl 2 rfl) ?_
  refine lv_iload_n hx hb dJ8_signedHashCode_1 rfl (lv_at hl 3 rfl) ?_
  refine lv_iadd hx hb dJ8_signedHashCode_2 ?_
  refine lv_topi (fun x4_5 ex4_5 => ?_)
  have h := h x4_5 ex4_5
  refine lv_istore (lv' := [(4, .int x4_5), (0, .int p1), (1, .ref (b + p2)), (2, .int p3), (3, .int p4)]) hx hb dJ8_signedHashCode_3 hl (by decide) rfl (fun ls hl => ?_)
  refine lv_iload_n hx hb dJ8_signedHashCode_5 rfl (lv_at hl 3 rfl) ?_
  refine lv_istore (lv' := [(5, .int p3), (4, .int x4_5), (0, .int p1), (1, .ref (b + p2)), (2, .int p3), (3, .int p4)]) hx hb dJ8_signedHashCode_6 hl (by decide) rfl (fun ls hl => ?_)
  exact L8 _ _ _ _ _ _ h  hP hS (lv_sub hl [2, 3, 1, 0] rfl)
theorem cwx_J8_vectorizedHashCode : yJ8_vectorizedHashCode.cls ≠ "java/lang/invoke/MethodHandle" ∧ yJ8_vectorizedHashCode.cls ≠ "java/lang/invoke/VarHandle" ∧ (parseMethodDescriptor yJ8_vectorizedHashCode.desc).map (fun d => d.parameters.length) = some 5 := by decide +kernel
def wxJ8_vectorizedHashCode (p1 : Nat) (p2 : Int32) (p3 : Int32) (p4 : Int32) (p5 : Int32) (K : XK) (T : XT) (post : Int32 → Prop) : Prop :=
  ((p5.toInt = 4 →
    wxJ8_signedHashCode p4 p1 p2 p3 K T (fun r_1 =>
    post r_1)) ∧
   (p5.toInt = 5 →
    False) ∧
   (p5.toInt = 6 →
    False) ∧
   (p5.toInt = 7 →
    False) ∧
   (p5.toInt = 8 →
    False) ∧
   (p5.toInt = 9 →
    False) ∧
   (p5.toInt = 10 →
    False) ∧
   (p5.toInt < 4 ∨ 10 < p5.toInt →
    False))
set_option maxHeartbeats 4000000 in
theorem mxJ8_vectorizedHashCode (l : Launch) (G : XG) (b : Nat) (hole : Nat → Prop) (p1 : Nat) (p2 : Int32) (p3 : Int32) (p4 : Int32) (p5 : Int32) (K : XK) (T : XT) (hk_p1 : kd K p1 = 6) (post : Int32 → Prop) (h : wxJ8_vectorizedHashCode p1 p2 p3 p4 p5 K T post) : Met l yJ8_vectorizedHashCode (ws_ yJ8_vectorizedHashCode cJ8_vectorizedHashCode 5 (some .int)) ({ frames := 1, cells := 0, slots := 0, locals := 25 } : Room) (xPc G b hole [.ref (b + p1), .int p2, .int p3, .int p4, .int p5] K T) (xQ G b hole K 0 0 (ρ := Int32) eI (fun r T1 K1 => post r ∧ T1 = T ∧ K1 = K)) 0 0 (xA b hole) := by
  refine Met.ofW (cc := cJ8_vectorizedHashCode) (maxL := 5) (ret := (some .int)) (by decide) rfl ?_
  intro p e s m args below meth c s₁ B hml hv
  obtain ⟨rfl, hP, hK, hV⟩ := hv
  have hx := B.exec
  have hb := B.bytes
  have hr := B.returns
  have hts := atoms_spec (ws := ws_ yJ8_vectorizedHashCode cJ8_vectorizedHashCode 5 (some .int)) B.pre
  have hts : ∀ w ∈ lw_all, w.before _ s = true := fun w h => hts w (List.mem_cons_of_mem _ h)
  have hown : s.vm.findClass RJ8 = some m.cls := findClass_of_methodNamed B.named
  have hlocks := B.notSynchronized
  have hb0 : b ≤ s.heap.size := by rw [hP.2.2.2]; exact Nat.le_add_right _ _
  have hS : va_S (xA b hole) s.heap s.heap [] := va_S.rf
  have hl := lv_entry ([.ref (b + p1), .int p2, .int p3, .int p4, .int p5]) (n := 5) (Nat.le_of_ble_eq_true rfl)
  rw [lg_entry_eq]
  generalize (lg_sl ([.ref (b + p1), .int p2, .int p3, .int p4, .int p5]) ++ List.replicate (5 - (lg_sl ([.ref (b + p1), .int p2, .int p3, .int p4, .int p5])).length) Slot.unset).toArray = ls at hl ⊢
  have hl : lv_has ls 5 [(0, .ref (b + p1)), (1, .int p2), (2, .int p3), (3, .int p4), (4, .int p5)] := hl
  unfold wxJ8_vectorizedHashCode at h
  refine lv_iload hx hb dJ8_vectorizedHashCode_0 (lv_at hl 4 rfl) ?_
  obtain ⟨ht0, ht1, ht2, ht3, ht4, ht5, ht6, ht7⟩ := h
  by_cases c_4 : p5.toInt < 4 ∨ 10 < p5.toInt
  · have h := ht7 c_4
    refine lv_tableOut (tgt := 129) hx hb dJ8_vectorizedHashCode_2 c_4 (by decide) ?_
    exact h.elim
  have c_4x : p5.toInt = 4 ∨ p5.toInt = 5 ∨ p5.toInt = 6 ∨ p5.toInt = 7 ∨ p5.toInt = 8 ∨ p5.toInt = 9 ∨ p5.toInt = 10 := by omega
  rcases c_4x with c_4x | c_4x | c_4x | c_4x | c_4x | c_4x | c_4x
  · have h := ht0 c_4x
    refine lv_tableIn (off := 42) (tgt := 44) hx hb dJ8_vectorizedHashCode_2 (by omega) (by omega) (by rw [c_4x]; rfl) (by decide) ?_
    refine lv_iload_n hx hb dJ8_vectorizedHashCode_44 rfl (lv_at hl 3 rfl) ?_
    refine lv_aload_n hx hb dJ8_vectorizedHashCode_45 rfl (lv_at hl 0 rfl) ?_
    refine x_cast6 hx hb hown hts q620 hK hP hk_p1 dJ8_vectorizedHashCode_46 ?_
    refine lv_iload_n hx hb dJ8_vectorizedHashCode_49 rfl (lv_at hl 1 rfl) ?_
    refine lv_iload_n hx hb dJ8_vectorizedHashCode_50 rfl (lv_at hl 2 rfl) ?_
    refine x_cS (As := [.int p4, .ref (b + p1), .int p2, .int p3]) (rest := []) ⟨hx, hb, hml, hown, hts⟩ (mxJ8_signedHashCode l G b hole p4 p1 p2 p3 K T hk_p1 _ h) (va_cwS 4 hts (lw_S q621 q622 q133 q623) rfl rfl rfl cwx_J8_signedHashCode ⟨Nat.le_of_ble_eq_true rfl, Nat.le_of_ble_eq_true rfl⟩) hK hV hb0 hP hS rfl hl.1 rfl (Nat.le_of_ble_eq_true rfl) dJ8_vectorizedHashCode_51 ⟨by first | exact Nat.zero_le _ | (show _ + _ ≤ Z - kc K0; omega), by first | exact Nat.zero_le _ | (show _ + _ ≤ Y - ks K0; omega)⟩ (fun r_1 T1 K1 H locs h hle1 hc1 hs1 hP hS => ?_)
    obtain ⟨h, hTe, hKe⟩ := h
    rw [hTe, hKe] at hP
    refine lv_goto (tgt := 157) hx hb dJ8_vectorizedHashCode_54 (by decide) ?_
    exact W.iret (v := r_1) hx hb hr (fun t ht hW => ⟨⟨r_1, T, K, rfl, ⟨h, rfl, rfl⟩, kle.rf, rfl, rfl, by rw [ht]; exact hP, va_K.moved hW.alike hK⟩, hS.F ht⟩) hS.2.2 dJ8_vectorizedHashCode_157
  · have h := ht1 c_4x
    refine lv_tableIn (off := 55) (tgt := 57) hx hb dJ8_vectorizedHashCode_2 (by omega) (by omega) (by rw [c_4x]; rfl) (by decide) ?_
    exact h.elim
  · have h := ht2 c_4x
    refine lv_tableIn (off := 127) (tgt := 129) hx hb dJ8_vectorizedHashCode_2 (by omega) (by omega) (by rw [c_4x]; rfl) (by decide) ?_
    exact h.elim
  · have h := ht3 c_4x
    refine lv_tableIn (off := 127) (tgt := 129) hx hb dJ8_vectorizedHashCode_2 (by omega) (by omega) (by rw [c_4x]; rfl) (by decide) ?_
    exact h.elim
  · have h := ht4 c_4x
    refine lv_tableIn (off := 88) (tgt := 90) hx hb dJ8_vectorizedHashCode_2 (by omega) (by omega) (by rw [c_4x]; rfl) (by decide) ?_
    exact h.elim
  · have h := ht5 c_4x
    refine lv_tableIn (off := 101) (tgt := 103) hx hb dJ8_vectorizedHashCode_2 (by omega) (by omega) (by rw [c_4x]; rfl) (by decide) ?_
    exact h.elim
  · have h := ht6 c_4x
    refine lv_tableIn (off := 114) (tgt := 116) hx hb dJ8_vectorizedHashCode_2 (by omega) (by omega) (by rw [c_4x]; rfl) (by decide) ?_
    exact h.elim
theorem cwx_J7_hashCode : yJ7_hashCode.cls ≠ "java/lang/invoke/MethodHandle" ∧ yJ7_hashCode.cls ≠ "java/lang/invoke/VarHandle" ∧ (parseMethodDescriptor yJ7_hashCode.desc).map (fun d => d.parameters.length) = some 1 := by decide +kernel
def wxJ7_hashCode (p1 : Nat) (K : XK) (T : XT) (post : Int32 → Prop) : Prop :=
  (((nI (kl K p1)).toInt = 0 →
    post 0) ∧
   ((nI (kl K p1)).toInt = 1 →
    ∃ j_6 : Nat, j_6 < kl K p1 ∧ 0 = nI j_6 ∧
    post ((xi T p1 j_6) &&& 255)) ∧
   (¬ (nI (kl K p1)).toInt = 0 → ¬ (nI (kl K p1)).toInt = 1 →
  wxJ8_vectorizedHashCode p1 0 (nI (kl K p1)) 0 4 K T (fun r_7 =>
  post r_7)))
set_option maxHeartbeats 4000000 in
theorem mxJ7_hashCode (l : Launch) (G : XG) (b : Nat) (hole : Nat → Prop) (p1 : Nat) (K : XK) (T : XT) (hk_p1 : kd K p1 = 6) (post : Int32 → Prop) (h : wxJ7_hashCode p1 K T post) : Met l yJ7_hashCode (ws_ yJ7_hashCode cJ7_hashCode 1 (some .int)) ({ frames := 2, cells := 0, slots := 0, locals := 49 } : Room) (xPc G b hole [.ref (b + p1)] K T) (xQ G b hole K 0 0 (ρ := Int32) eI (fun r T1 K1 => post r ∧ T1 = T ∧ K1 = K)) 0 0 (xA b hole) := by
  refine Met.ofW (cc := cJ7_hashCode) (maxL := 1) (ret := (some .int)) (by decide) rfl ?_
  intro p e s m args below meth c s₁ B hml hv
  obtain ⟨rfl, hP, hK, hV⟩ := hv
  have hx := B.exec
  have hb := B.bytes
  have hr := B.returns
  have hts := atoms_spec (ws := ws_ yJ7_hashCode cJ7_hashCode 1 (some .int)) B.pre
  have hts : ∀ w ∈ lw_all, w.before _ s = true := fun w h => hts w (List.mem_cons_of_mem _ h)
  have hown : s.vm.findClass RJ7 = some m.cls := findClass_of_methodNamed B.named
  have hlocks := B.notSynchronized
  have hb0 : b ≤ s.heap.size := by rw [hP.2.2.2]; exact Nat.le_add_right _ _
  have hS : va_S (xA b hole) s.heap s.heap [] := va_S.rf
  have hl := lv_entry ([.ref (b + p1)]) (n := 1) (Nat.le_of_ble_eq_true rfl)
  rw [lg_entry_eq]
  generalize (lg_sl ([.ref (b + p1)]) ++ List.replicate (1 - (lg_sl ([.ref (b + p1)])).length) Slot.unset).toArray = ls at hl ⊢
  have hl : lv_has ls 1 [(0, .ref (b + p1))] := hl
  unfold wxJ7_hashCode at h
  refine lv_aload_n hx hb dJ7_hashCode_0 rfl (lv_at hl 0 rfl) ?_
  refine x_alen6 hx hb hK hP hk_p1 dJ7_hashCode_1 ?_
  obtain ⟨ht_3, ht_4, ht_5⟩ := h
  by_cases c_1 : (nI (kl K p1)).toInt = 0
  · have h := ht_3 c_1
    refine lv_lookup (off := 26) (tgt := 28) hx hb dJ7_hashCode_2 (by decide) (by rw [c_1]; rfl) (by decide) ?_
    refine lv_iconst (v := 0) hx hb dJ7_hashCode_28 (by decide) ?_
    refine lv_goto (tgt := 51) hx hb dJ7_hashCode_29 (by decide) ?_
    exact W.iret (v := 0) hx hb hr (fun t ht hW => ⟨⟨0, T, K, rfl, ⟨h, rfl, rfl⟩, kle.rf, rfl, rfl, by rw [ht]; exact hP, va_K.moved hW.alike hK⟩, hS.F ht⟩) hS.2.2 dJ7_hashCode_51
  by_cases c_2 : (nI (kl K p1)).toInt = 1
  · have h := ht_4 c_2
    refine lv_lookup (off := 30) (tgt := 32) hx hb dJ7_hashCode_2 (by decide) (by rw [c_2]; rfl) (by decide) ?_
    refine lv_aload_n hx hb dJ7_hashCode_32 rfl (lv_at hl 0 rfl) ?_
    refine lv_iconst (v := 0) hx hb dJ7_hashCode_33 (by decide) ?_
    obtain ⟨j_6, hj_6, ej_6, h⟩ := h
    refine x_bald hx hb hK hP hk_p1 ej_6 hj_6 dJ7_hashCode_34 ?_
    refine lv_sipush (v := 255) hx hb dJ7_hashCode_35 (by decide) ?_
    refine lv_iand hx hb dJ7_hashCode_38 ?_
    refine lv_goto (tgt := 51) hx hb dJ7_hashCode_39 (by decide) ?_
    exact W.iret (v := ((xi T p1 j_6) &&& 255)) hx hb hr (fun t ht hW => ⟨⟨((xi T p1 j_6) &&& 255), T, K, rfl, ⟨h, rfl, rfl⟩, kle.rf, rfl, rfl, by rw [ht]; exact hP, va_K.moved hW.alike hK⟩, hS.F ht⟩) hS.2.2 dJ7_hashCode_51
  have h := ht_5 c_1 c_2
  refine lv_lookup (off := 40) (tgt := 42) hx hb dJ7_hashCode_2 (by decide) (by show Op.lookupswitch.offset [((0 : Int), (26 : Int)), ((1 : Int), (30 : Int))] 40 _ = 40; rw [Op.lookupswitch.offset_cons, if_neg (fun e9 => c_1 e9.symm), Op.lookupswitch.offset_cons, if_neg (fun e9 => c_2 e9.symm)]; rfl) (by decide) ?_
  refine lv_aload_n hx hb dJ7_hashCode_42 rfl (lv_at hl 0 rfl) ?_
  refine lv_iconst (v := 0) hx hb dJ7_hashCode_43 (by decide) ?_
  refine lv_aload_n hx hb dJ7_hashCode_44 rfl (lv_at hl 0 rfl) ?_
  refine x_alen6 hx hb hK hP hk_p1 dJ7_hashCode_45 ?_
  refine lv_iconst (v := 0) hx hb dJ7_hashCode_46 (by decide) ?_
  refine lv_iconst (v := 4) hx hb dJ7_hashCode_47 (by decide) ?_
  refine x_cS (As := [.ref (b + p1), .int 0, .int (nI (kl K p1)), .int 0, .int 4]) (rest := []) ⟨hx, hb, hml, hown, hts⟩ (mxJ8_vectorizedHashCode l G b hole p1 0 (nI (kl K p1)) 0 4 K T hk_p1 _ h) (va_cwS 5 hts (lw_S q617 q618 q133 q619) rfl rfl rfl cwx_J8_vectorizedHashCode ⟨Nat.le_of_ble_eq_true rfl, Nat.le_of_ble_eq_true rfl⟩) hK hV hb0 hP hS rfl hl.1 rfl (Nat.le_of_ble_eq_true rfl) dJ7_hashCode_48 ⟨by first | exact Nat.zero_le _ | (show _ + _ ≤ Z - kc K0; omega), by first | exact Nat.zero_le _ | (show _ + _ ≤ Y - ks K0; omega)⟩ (fun r_7 T1 K1 H locs h hle1 hc1 hs1 hP hS => ?_)
  obtain ⟨h, hTe, hKe⟩ := h
  rw [hTe, hKe] at hP
  exact W.iret (v := r_7) hx hb hr (fun t ht hW => ⟨⟨r_7, T, K, rfl, ⟨h, rfl, rfl⟩, kle.rf, rfl, rfl, by rw [ht]; exact hP, va_K.moved hW.alike hK⟩, hS.F ht⟩) hS.2.2 dJ7_hashCode_51
theorem cwx_J4_hashCode : yJ4_hashCode.cls = RJ4 ∧ yJ4_hashCode.cls ≠ "java/lang/invoke/MethodHandle" ∧ yJ4_hashCode.cls ≠ "java/lang/invoke/VarHandle" ∧ (parseMethodDescriptor yJ4_hashCode.desc).map (fun d => d.parameters.length) = some 0 := by decide +kernel
def wxJ4_hashCode (p0 : Nat) (K : XK) (T : XT) (post : Int32 → XT → Prop) : Prop :=
  ((¬ (xi T p0 2) = 0 →
    post (xi T p0 2) T) ∧
   ((xi T p0 2) = 0 →
    ((¬ (xi T p0 3) = 0 →
      post (xi T p0 2) T) ∧
     ((xi T p0 3) = 0 →
      wxJ4_isLatin1 p0 K T (fun r_1 =>
      ((r_1 = 0 →
        False) ∧
       (¬ (r_1 = 0) →
        ∃ v_4 : Nat, xr T p0 0 = some v_4 ∧
        wxJ7_hashCode v_4 K T (fun r_5 =>
        ((¬ r_5 = 0 →
          ∀ T_8 : XT, T_8 = xwi T p0 2 r_5 →
          post r_5 T_8) ∧
         (r_5 = 0 →
          ∀ T_9 : XT, T_9 = xwi T p0 3 1 →
          post r_5 T_9))))))))))
set_option maxHeartbeats 4000000 in
theorem mxJ4_hashCode (l : Launch) (G : XG) (b : Nat) (hole : Nat → Prop) (p0 : Nat) (K : XK) (T : XT) (hk_p0 : kd K p0 = 15) (post : Int32 → XT → Prop) (h : wxJ4_hashCode p0 K T post) : Met l yJ4_hashCode (ws_ yJ4_hashCode cJ4_hashCode 2 (some .int)) ({ frames := 3, cells := 0, slots := 0, locals := 69 } : Room) (xPc G b hole [.ref (b + p0)] K T) (xQ G b hole K 0 0 (ρ := Int32) eI (fun r T1 K1 => post r T1 ∧ K1 = K)) 0 0 (xA b hole) := by
  refine Met.ofW (cc := cJ4_hashCode) (maxL := 2) (ret := (some .int)) (by decide) rfl ?_
  intro p e s m args below meth c s₁ B hml hv
  obtain ⟨rfl, hP, hK, hV⟩ := hv
  have hx := B.exec
  have hb := B.bytes
  have hr := B.returns
  have hts := atoms_spec (ws := ws_ yJ4_hashCode cJ4_hashCode 2 (some .int)) B.pre
  have hts : ∀ w ∈ lw_all, w.before _ s = true := fun w h => hts w (List.mem_cons_of_mem _ h)
  have hown : s.vm.findClass RJ4 = some m.cls := findClass_of_methodNamed B.named
  have hlocks := B.notSynchronized
  have hb0 : b ≤ s.heap.size := by rw [hP.2.2.2]; exact Nat.le_add_right _ _
  have hS : va_S (xA b hole) s.heap s.heap [] := va_S.rf
  have hl := lv_entry ([.ref (b + p0)]) (n := 2) (Nat.le_of_ble_eq_true rfl)
  rw [lg_entry_eq]
  generalize (lg_sl ([.ref (b + p0)]) ++ List.replicate (2 - (lg_sl ([.ref (b + p0)])).length) Slot.unset).toArray = ls at hl ⊢
  have hl : lv_has ls 2 [(0, .ref (b + p0))] := hl
  unfold wxJ4_hashCode at h
  refine lv_aload_n hx hb dJ4_hashCode_0 rfl (lv_at hl 0 rfl) ?_
  refine x_get (CC := RJ4) (TT := TJ4) (N := 4) (ci := 7) (v := .int (xi T p0 2)) hx hb hts in_J4 hown hK hP hk_p0 (by decide) (by decide) rfl (xE_15 hk_p0) 2 (by decide) q574 rfl rfl dJ4_hashCode_1 ?_
  refine lv_istore_n (lv' := [(1, .int (xi T p0 2)), (0, .ref (b + p0))]) hx hb dJ4_hashCode_4 rfl hl (by decide) rfl (fun ls hl => ?_)
  refine lv_iload_n hx hb dJ4_hashCode_5 rfl (lv_at hl 0 rfl) ?_
  refine lv_if_ne (tgt := 58) hx hb dJ4_hashCode_6 (by decide) (fun c_13 => ?_) (fun c_13 => ?_)
  · have h := h.1 c_13
    refine lv_iload_n hx hb dJ4_hashCode_58 rfl (lv_at hl 0 rfl) ?_
    exact W.iret (v := (xi T p0 2)) hx hb hr (fun t ht hW => ⟨⟨(xi T p0 2), T, K, rfl, ⟨h, rfl⟩, kle.rf, rfl, rfl, by rw [ht]; exact hP, va_K.moved hW.alike hK⟩, hS.F ht⟩) hS.2.2 dJ4_hashCode_59
  · have h := h.2 c_13
    refine lv_aload_n hx hb dJ4_hashCode_9 rfl (lv_at hl 1 rfl) ?_
    refine x_get (CC := RJ4) (TT := TJ4) (N := 4) (ci := 7) (v := .int (xi T p0 3)) hx hb hts in_J4 hown hK hP hk_p0 (by decide) (by decide) rfl (xE_15 hk_p0) 3 (by decide) q575 rfl rfl dJ4_hashCode_10 ?_
    refine lv_if_ne (tgt := 58) hx hb dJ4_hashCode_13 (by decide) (fun c_12 => ?_) (fun c_12 => ?_)
    · have h := h.1 c_12
      refine lv_iload_n hx hb dJ4_hashCode_58 rfl (lv_at hl 0 rfl) ?_
      exact W.iret (v := (xi T p0 2)) hx hb hr (fun t ht hW => ⟨⟨(xi T p0 2), T, K, rfl, ⟨h, rfl⟩, kle.rf, rfl, rfl, by rw [ht]; exact hP, va_K.moved hW.alike hK⟩, hS.F ht⟩) hS.2.2 dJ4_hashCode_59
    · have h := h.2 c_12
      refine lv_aload_n hx hb dJ4_hashCode_16 rfl (lv_at hl 1 rfl) ?_
      refine x_cV (k := p0) (As := []) (rest := []) ⟨hx, hb, hml, hown, hts⟩ (mxJ4_isLatin1 l G b hole p0 K T hk_p0 _ h) (cwV 0 hts (lw_V q610 q611 q612 q129 q613) rfl rfl rfl cwx_J4_isLatin1 ⟨Nat.le_of_ble_eq_true rfl, Nat.le_of_ble_eq_true rfl⟩) (x_recv (CC := RJ4) (ci := 7) hK hP hk_p0 (by decide) (by decide) rfl (xE_15 hk_p0)) hK hV hb0 hP hS rfl hl.1 rfl (Nat.le_of_ble_eq_true rfl) dJ4_hashCode_17 ⟨by first | exact Nat.zero_le _ | (show _ + _ ≤ Z - kc K0; omega), by first | exact Nat.zero_le _ | (show _ + _ ≤ Y - ks K0; omega)⟩ (fun r_1 T1 K1 H locs h hle1 hc1 hs1 hP hS => ?_)
      obtain ⟨h, hTe, hKe⟩ := h
      rw [hTe, hKe] at hP
      refine lv_if_eq (tgt := 33) hx hb dJ4_hashCode_20 (by decide) (fun c_11 => ?_) (fun c_11 => ?_)
      · have h := h.1 c_11
        exact h.elim
      · have h := h.2 c_11
        refine lv_aload_n hx hb dJ4_hashCode_23 rfl (lv_at hl 1 rfl) ?_
        obtain ⟨v_4, ev_4, h⟩ := h
        refine x_get (CC := RJ4) (TT := TJ4) (N := 4) (ci := 7) (v := rfv b (xr T p0 0)) hx hb hts in_J4 hown hK hP hk_p0 (by decide) (by decide) rfl (xE_15 hk_p0) 0 (by decide) q572 rfl rfl dJ4_hashCode_24 ?_
        refine x_some ev_4 ?_
        have hk_v_4 : kd K v_4 = 6 := hP.ty hk_p0 (by decide) ev_4
        refine x_cS (As := [.ref (b + v_4)]) (rest := []) ⟨hx, hb, hml, hown, hts⟩ (mxJ7_hashCode l G b hole v_4 K T hk_v_4 _ h) (va_cwS 1 hts (lw_S q614 q615 q132 q616) rfl rfl rfl cwx_J7_hashCode ⟨Nat.le_of_ble_eq_true rfl, Nat.le_of_ble_eq_true rfl⟩) hK hV hb0 hP hS rfl hl.1 rfl (Nat.le_of_ble_eq_true rfl) dJ4_hashCode_27 ⟨by first | exact Nat.zero_le _ | (show _ + _ ≤ Z - kc K0; omega), by first | exact Nat.zero_le _ | (show _ + _ ≤ Y - ks K0; omega)⟩ (fun r_5 T1 K1 H locs h hle1 hc1 hs1 hP hS => ?_)
        obtain ⟨h, hTe, hKe⟩ := h
        rw [hTe, hKe] at hP
        refine lv_goto (tgt := 40) hx hb dJ4_hashCode_30 (by decide) ?_
        refine lv_istore_n (lv' := [(1, .int r_5), (0, .ref (b + p0))]) hx hb dJ4_hashCode_40 rfl hl (by decide) rfl (fun ls hl => ?_)
        refine lv_iload_n hx hb dJ4_hashCode_41 rfl (lv_at hl 0 rfl) ?_
        refine lv_if_ne (tgt := 53) hx hb dJ4_hashCode_42 (by decide) (fun c_10 => ?_) (fun c_10 => ?_)
        · have h := h.1 c_10
          refine lv_aload_n hx hb dJ4_hashCode_53 rfl (lv_at hl 1 rfl) ?_
          refine lv_iload_n hx hb dJ4_hashCode_54 rfl (lv_at hl 0 rfl) ?_
          obtain ⟨T_8, eT_8⟩ : ∃ z : XT, z = xwi T p0 2 r_5 := ⟨_, rfl⟩
          have h := h T_8 eT_8
          refine x_put (CC := RJ4) (TT := TJ4) (N := 4) (ci := 7) (T1 := T_8) (v := .int r_5) (ty := .int) (fsf := fun T => fs15 (gem G) b T p0) hx hb hts in_J4 tyJ4 tyJ4_ok nmJ4 hown hK hP hS hk_p0 (by decide) (by decide) rfl (fun _ => xE_15 hk_p0) rfl 2 (by decide) q574 rfl (Or.inl rfl) rfl rfl rfl (by rw [eT_8]; exact fw15_2 _ b T p0 r_5) (by rw [eT_8]; exact fun q hq => xwi_i hq) (by rw [eT_8]; exact fun _ _ => rfl) (by rw [eT_8]; exact xwi_ty hP (by rw [hk_p0]; decide)) dJ4_hashCode_55 (fun H locs hP hS => ?_)
          refine lv_iload_n hx hb dJ4_hashCode_58 rfl (lv_at hl 0 rfl) ?_
          exact W.iret (v := r_5) hx hb hr (fun t ht hW => ⟨⟨r_5, T_8, K, rfl, ⟨h, rfl⟩, kle.rf, rfl, rfl, by rw [ht]; exact hP, va_K.moved hW.alike hK⟩, hS.F ht⟩) hS.2.2 dJ4_hashCode_59
        · have h := h.2 c_10
          refine lv_aload_n hx hb dJ4_hashCode_45 rfl (lv_at hl 1 rfl) ?_
          refine lv_iconst (v := 1) hx hb dJ4_hashCode_46 (by decide) ?_
          obtain ⟨T_9, eT_9⟩ : ∃ z : XT, z = xwi T p0 3 1 := ⟨_, rfl⟩
          have h := h T_9 eT_9
          refine x_put (CC := RJ4) (TT := TJ4) (N := 4) (ci := 7) (T1 := T_9) (v := .int 1) (ty := .boolean) (fsf := fun T => fs15 (gem G) b T p0) hx hb hts in_J4 tyJ4 tyJ4_ok nmJ4 hown hK hP hS hk_p0 (by decide) (by decide) rfl (fun _ => xE_15 hk_p0) rfl 3 (by decide) q575 rfl (Or.inl rfl) rfl rfl rfl (by rw [eT_9]; exact fw15_3 _ b T p0 1) (by rw [eT_9]; exact fun q hq => xwi_i hq) (by rw [eT_9]; exact fun _ _ => rfl) (by rw [eT_9]; exact xwi_ty hP (by rw [hk_p0]; decide)) dJ4_hashCode_47 (fun H locs hP hS => ?_)
          refine lv_goto (tgt := 58) hx hb dJ4_hashCode_50 (by decide) ?_
          refine lv_iload_n hx hb dJ4_hashCode_58 rfl (lv_at hl 0 rfl) ?_
          exact W.iret (v := r_5) hx hb hr (fun t ht hW => ⟨⟨r_5, T_9, K, rfl, ⟨h, rfl⟩, kle.rf, rfl, rfl, by rw [ht]; exact hP, va_K.moved hW.alike hK⟩, hS.F ht⟩) hS.2.2 dJ4_hashCode_59
theorem cwx_X4_line : yX4_line.cls = RX4 ∧ yX4_line.cls ≠ "java/lang/invoke/MethodHandle" ∧ yX4_line.cls ≠ "java/lang/invoke/VarHandle" ∧ (parseMethodDescriptor yX4_line.desc).map (fun d => d.parameters.length) = some 0 := by decide +kernel
def wx4_line_j81  (Z Y : Nat) (post : XT → XK → Prop) (xpost : XT → XK → Prop) (x2 : Int32) (K : XK) (T : XT) : Prop :=
    ((x2.toInt = 0 →
      ∃ Z_9 Y_10 : Nat, kc K ≤ Z_9 ∧ Z_9 ≤ Z ∧ ks K ≤ Y_10 ∧ Y_10 ≤ Y ∧ wx4_ringLine  K T Z_9 Y_10 (fun T_7 K_8 =>
      post T_7 (kset K_8 Z Y)) (fun T9 K9 => xpost T9 (kset K9 Z Y))) ∧
     (x2.toInt = 1 →
      ∃ Z_14 Y_15 : Nat, kc K ≤ Z_14 ∧ Z_14 ≤ Z ∧ ks K ≤ Y_15 ∧ Y_15 ≤ Y ∧ wx4_polyLine  K T Z_14 Y_15 (fun T_12 K_13 =>
      post T_12 (kset K_13 Z Y)) (fun T9 K9 => xpost T9 (kset K9 Z Y))) ∧
     (¬ x2.toInt = 0 → ¬ x2.toInt = 1 →
    wx4_fail 1 K T (fun r_16 T_17 =>
    r_16 = 81 ∧ xpost T_17 (kset K Z Y))))
def wx4_line_j17  (Z Y : Nat) (post : XT → XK → Prop) (xpost : XT → XK → Prop)  (K : XK) (T : XT) : Prop :=
    ∃ v_19 : Nat, xr T 80 14 = some v_19 ∧
    wxJ4_hashCode v_19 K T (fun r_20 T_21 =>
    ((r_20.toInt = 3446732 →
      wxJ4_equals v_19 15 K T_21 (fun r_28 =>
      ((r_28 = 0 →
        wx4_line_j81  Z Y post xpost (-1) K T_21) ∧
       (¬ (r_28 = 0) →
        wx4_line_j81  Z Y post xpost 1 K T_21)))) ∧
     (r_20.toInt = 3500592 →
      wxJ4_equals v_19 14 K T_21 (fun r_32 =>
      ((r_32 = 0 →
        wx4_line_j81  Z Y post xpost (-1) K T_21) ∧
       (¬ (r_32 = 0) →
        wx4_line_j81  Z Y post xpost 0 K T_21)))) ∧
     (¬ r_20.toInt = 3446732 → ¬ r_20.toInt = 3500592 →
    wx4_line_j81  Z Y post xpost (-1) K T_21)))
def wx4_line  (K0 : XK) (T : XT) (Z Y : Nat) (post : XT → XK → Prop) (xpost : XT → XK → Prop) : Prop :=
  ((¬ (xi T 80 8) = 2 →
    wx4_must 0 K0 T (fun T_37 =>
    wx4_line_j17  Z Y post xpost  K0 T_37) (fun T9 => xpost T9 (kset K0 Z Y))) ∧
   ((xi T 80 8) = 2 →
    wx4_must 1 K0 T (fun T_40 =>
    wx4_line_j17  Z Y post xpost  K0 T_40) (fun T9 => xpost T9 (kset K0 Z Y))))
set_option maxHeartbeats 4000000 in
theorem mx4_line (l : Launch) (G : XG) (b : Nat) (hole : Nat → Prop)  (K0 : XK) (T : XT) (Z Y : Nat) (hZ : kc K0 ≤ Z) (hY : ks K0 ≤ Y)  (post : XT → XK → Prop) (xpost : XT → XK → Prop) (h : wx4_line  K0 T Z Y post xpost) : vx_Met l yX4_line (ws_ yX4_line cX4_line 3 none) ({ frames := 8, cells := (Z - kc K0), slots := (Y - ks K0), locals := 235 } : Room) (xPc G b hole [.ref (b + 80)] K0 T) (xQ G b hole K0 (Z - kc K0) (Y - ks K0) (ρ := Unit) eV (fun r T1 K1 => post T1 K1)) (xXC G b hole K0 (Z - kc K0) (Y - ks K0) xpost) (Z - kc K0) (Y - ks K0) (xA b hole) := by
  refine vx_ofW (cc := cX4_line) (maxL := 3) (ret := none) (by decide) rfl ?_
  intro p e s m args below meth c s₁ B hml ht9 hv
  obtain ⟨rfl, hP, hK, hV⟩ := hv
  have hx := B.exec
  have hb := B.bytes
  have hr := B.returns
  have hts := atoms_spec (ws := ws_ yX4_line cX4_line 3 none) B.pre
  have hts : ∀ w ∈ lw_all, w.before _ s = true := fun w h => hts w (List.mem_cons_of_mem _ h)
  have hown : s.vm.findClass RX4 = some m.cls := findClass_of_methodNamed B.named
  have hlocks := B.notSynchronized
  have hb0 : b ≤ s.heap.size := by rw [hP.2.2.2]; exact Nat.le_add_right _ _
  have hS : va_S (xA b hole) s.heap s.heap [] := va_S.rf
  have hl := lv_entry ([.ref (b + 80)]) (n := 3) (Nat.le_of_ble_eq_true rfl)
  rw [lg_entry_eq]
  generalize (lg_sl ([.ref (b + 80)]) ++ List.replicate (3 - (lg_sl ([.ref (b + 80)])).length) Slot.unset).toArray = ls at hl ⊢
  have hl : lv_has ls 3 [(0, .ref (b + 80))] := hl
  have hle0 : kle K0 K0 := kle.rf
  have J81 : ∀ (x2 : Int32) (T : XT) (K : XK) (cn sn : Nat) (H : Heap) (locs : List Loc) (ls : Array Slot), wx4_line_j81  Z Y post xpost x2 K T → kle K0 K → kc K0 + cn = kc K → ks K0 + sn = ks K → kc K ≤ Z → ks K ≤ Y → xW G b hole K T H → va_S (xA b hole) s.heap H locs → lv_has ls 3 [(0, .ref (b + 80)), (2, .int x2)] → W p l e (headSpec (ws_ yX4_line cX4_line 3 none) ({ frames := 8, cells := (Z - kc K0), slots := (Y - ks K0), locals := 235 } : Room)).room s m ([.ref (b + 80)] : List Value).toArray below meth c H locs cn sn (vx_MQ below (xQ G b hole K0 (Z - kc K0) (Y - ks K0) (ρ := Unit) eV (fun r T1 K1 => post T1 K1)) (xXC G b hole K0 (Z - kc K0) (Y - ks K0) xpost) ([.ref (b + 80)] : List Value).toArray s (Z - kc K0) (Y - ks K0) (xA b hole)) (F0 m 81 ls []) := by
    intro x2 T K cn sn H locs ls h hle0 hcn hsn hzz hyy hP hS hl
    unfold wx4_line_j81 at h
    refine lv_iload_n hx hb dX4_line_81 rfl (lv_at hl 1 rfl) ?_
    obtain ⟨ht_3, ht_4, ht_5⟩ := h
    by_cases c_1 : x2.toInt = 0
    · have h := ht_3 c_1
      refine lv_lookup (off := 26) (tgt := 108) hx hb dX4_line_82 (by decide) (by rw [c_1]; rfl) (by decide) ?_
      refine lv_aload_n hx hb dX4_line_108 rfl (lv_at hl 0 rfl) ?_
      obtain ⟨Z_9, Y_10, hz1, hz2, hy1, hy2, h⟩ := h
      refine x_cVX (k := 80) (As := []) (rest := []) ⟨hx, hb, hml, hown, hts⟩ (mx4_ringLine l G b hole  K T Z_9 Y_10 hz1 hy1  _ _ h) (cwV 0 hts (lw_V q669 q671 qs11 q121 q672) rfl rfl rfl cwx_X4_ringLine ⟨Nat.le_of_ble_eq_true rfl, Nat.le_of_ble_eq_true rfl⟩) (x_recv (CC := RX4) (ci := 3) hK hP (xs_80 hP) (by decide) (by decide) rfl (xE_11 (xs_80 hP))) hK hV hb0 hP hS rfl hl.1 rfl (Nat.le_of_ble_eq_true rfl) dX4_line_109 ⟨by first | exact Nat.zero_le _ | (show _ + _ ≤ Z - kc K0; omega), by first | exact Nat.zero_le _ | (show _ + _ ≤ Y - ks K0; omega)⟩ (fun r_6 T1 K1 H locs h hle1 hc1 hs1 hP hS => ?_) (fun T1 K1 H locs h hle1 hc1 hs1 hP hS => ?_)
      rotate_left
      · exact x_out (K0 := K0) (K1 := kset K1 Z Y) (mc := Z - kc K0) (ms := Y - ks K0) (fun x h9 => (ht9 x h9).elim) hlocks hK hP hS (hle0.tr hle1) h (by show Z = _; omega) (by show Y = _; omega) (by omega) (by omega)
      generalize T1 = T_7 at h hP
      generalize K1 = K_8 at h hP hle1 hc1 hs1
      have hle0 := hle0.tr hle1
      have hcn : kc K0 + (cn + (Z_9 - kc K)) = kc K_8 := by omega
      have hsn : ks K0 + (sn + (Y_10 - ks K)) = ks K_8 := by omega
      have hzz : kc K_8 ≤ Z := by omega
      have hyy : ks K_8 ≤ Y := by omega
      refine lv_goto (tgt := 128) hx hb dX4_line_112 (by decide) ?_
      refine vx_ret ?_
      refine W.widen (k := Z - kc K0) (n := Y - ks K0) (by omega) (by omega) ?_
      exact W.vret hx hb hr (fun t ht hW => ⟨⟨(), T_7, (kset K_8 Z Y), rfl, h, hle0, (by show Z = _; omega), (by show Y = _; omega), by rw [ht]; exact hP, va_K.moved hW.alike hK⟩, hS.F ht⟩) hS.2.2 dX4_line_128
    by_cases c_2 : x2.toInt = 1
    · have h := ht_4 c_2
      refine lv_lookup (off := 33) (tgt := 115) hx hb dX4_line_82 (by decide) (by rw [c_2]; rfl) (by decide) ?_
      refine lv_aload_n hx hb dX4_line_115 rfl (lv_at hl 0 rfl) ?_
      obtain ⟨Z_14, Y_15, hz1, hz2, hy1, hy2, h⟩ := h
      refine x_cVX (k := 80) (As := []) (rest := []) ⟨hx, hb, hml, hown, hts⟩ (mx4_polyLine l G b hole  K T Z_14 Y_15 hz1 hy1  _ _ h) (cwV 0 hts (lw_V q699 q701 qs16 q121 q702) rfl rfl rfl cwx_X4_polyLine ⟨Nat.le_of_ble_eq_true rfl, Nat.le_of_ble_eq_true rfl⟩) (x_recv (CC := RX4) (ci := 3) hK hP (xs_80 hP) (by decide) (by decide) rfl (xE_11 (xs_80 hP))) hK hV hb0 hP hS rfl hl.1 rfl (Nat.le_of_ble_eq_true rfl) dX4_line_116 ⟨by first | exact Nat.zero_le _ | (show _ + _ ≤ Z - kc K0; omega), by first | exact Nat.zero_le _ | (show _ + _ ≤ Y - ks K0; omega)⟩ (fun r_11 T1 K1 H locs h hle1 hc1 hs1 hP hS => ?_) (fun T1 K1 H locs h hle1 hc1 hs1 hP hS => ?_)
      rotate_left
      · exact x_out (K0 := K0) (K1 := kset K1 Z Y) (mc := Z - kc K0) (ms := Y - ks K0) (fun x h9 => (ht9 x h9).elim) hlocks hK hP hS (hle0.tr hle1) h (by show Z = _; omega) (by show Y = _; omega) (by omega) (by omega)
      generalize T1 = T_12 at h hP
      generalize K1 = K_13 at h hP hle1 hc1 hs1
      have hle0 := hle0.tr hle1
      have hcn : kc K0 + (cn + (Z_14 - kc K)) = kc K_13 := by omega
      have hsn : ks K0 + (sn + (Y_15 - ks K)) = ks K_13 := by omega
      have hzz : kc K_13 ≤ Z := by omega
      have hyy : ks K_13 ≤ Y := by omega
      refine lv_goto (tgt := 128) hx hb dX4_line_119 (by decide) ?_
      refine vx_ret ?_
      refine W.widen (k := Z - kc K0) (n := Y - ks K0) (by omega) (by omega) ?_
      exact W.vret hx hb hr (fun t ht hW => ⟨⟨(), T_12, (kset K_13 Z Y), rfl, h, hle0, (by show Z = _; omega), (by show Y = _; omega), by rw [ht]; exact hP, va_K.moved hW.alike hK⟩, hS.F ht⟩) hS.2.2 dX4_line_128
    have h := ht_5 c_1 c_2
    refine lv_lookup (off := 40) (tgt := 122) hx hb dX4_line_82 (by decide) (by show Op.lookupswitch.offset [((0 : Int), (26 : Int)), ((1 : Int), (33 : Int))] 40 _ = 40; rw [Op.lookupswitch.offset_cons, if_neg (fun e9 => c_1 e9.symm), Op.lookupswitch.offset_cons, if_neg (fun e9 => c_2 e9.symm)]; rfl) (by decide) ?_
    refine lv_aload_n hx hb dX4_line_122 rfl (lv_at hl 0 rfl) ?_
    refine lv_iconst (v := 1) hx hb dX4_line_123 (by decide) ?_
    refine x_cV (k := 80) (As := [.int 1]) (rest := []) ⟨hx, hb, hml, hown, hts⟩ (mx4_fail l G b hole 1 K T  _ h) (cwV 1 hts (lw_V q598 q600 qs10 q121 q601) rfl rfl rfl cwx_X4_fail ⟨Nat.le_of_ble_eq_true rfl, Nat.le_of_ble_eq_true rfl⟩) (x_recv (CC := RX4) (ci := 3) hK hP (xs_80 hP) (by decide) (by decide) rfl (xE_11 (xs_80 hP))) hK hV hb0 hP hS rfl hl.1 rfl (Nat.le_of_ble_eq_true rfl) dX4_line_124 ⟨by first | exact Nat.zero_le _ | (show _ + _ ≤ Z - kc K0; omega), by first | exact Nat.zero_le _ | (show _ + _ ≤ Y - ks K0; omega)⟩ (fun r_16 T1 K1 H locs h hle1 hc1 hs1 hP hS => ?_)
    obtain ⟨h, hk_r_16, hKe⟩ := h
    rw [hKe] at hP
    generalize T1 = T_17 at h hP
    rw [hKe] at hk_r_16
    obtain ⟨hq9, h⟩ := h
    rw [hq9]
    refine vx_athrow hx hb dX4_line_127 ?_
    exact x_out (K0 := K0) (K1 := kset K Z Y) (mc := Z - kc K0) (ms := Y - ks K0) (fun x h9 => (ht9 x h9).elim) hlocks hK hP hS hle0 h (by show Z = _; omega) (by show Y = _; omega) (by omega) (by omega)
  have J17 : ∀  (T : XT) (K : XK) (cn sn : Nat) (H : Heap) (locs : List Loc) (ls : Array Slot), wx4_line_j17  Z Y post xpost  K T → kle K0 K → kc K0 + cn = kc K → ks K0 + sn = ks K → kc K ≤ Z → ks K ≤ Y → xW G b hole K T H → va_S (xA b hole) s.heap H locs → lv_has ls 3 [(0, .ref (b + 80))] → W p l e (headSpec (ws_ yX4_line cX4_line 3 none) ({ frames := 8, cells := (Z - kc K0), slots := (Y - ks K0), locals := 235 } : Room)).room s m ([.ref (b + 80)] : List Value).toArray below meth c H locs cn sn (vx_MQ below (xQ G b hole K0 (Z - kc K0) (Y - ks K0) (ρ := Unit) eV (fun r T1 K1 => post T1 K1)) (xXC G b hole K0 (Z - kc K0) (Y - ks K0) xpost) ([.ref (b + 80)] : List Value).toArray s (Z - kc K0) (Y - ks K0) (xA b hole)) (F0 m 17 ls []) := by
    intro  T K cn sn H locs ls h hle0 hcn hsn hzz hyy hP hS hl
    unfold wx4_line_j17 at h
    refine lv_aload_n hx hb dX4_line_17 rfl (lv_at hl 0 rfl) ?_
    obtain ⟨v_19, ev_19, h⟩ := h
    refine x_get (CC := RX4) (TT := TX4) (N := 17) (ci := 3) (v := xwd (gem G) b (xr T 80 14) (xi T 80 14)) hx hb hts in_X4 hown hK hP (xs_80 hP) (by decide) (by decide) rfl (xE_11 (xs_80 hP)) 14 (by decide) q313 rfl rfl dX4_line_18 ?_
    refine x_somew ev_19 ?_
    have hk_v_19 : kd K v_19 = 15 := hP.ty (xs_80 hP) (by decide) ev_19
    refine lv_astore_n (lv' := [(1, .ref (b + v_19)), (0, .ref (b + 80))]) hx hb dX4_line_21 rfl hl (by decide) rfl (fun ls hl => ?_)
    refine lv_iconst (v := (-1)) hx hb dX4_line_22 (by decide) ?_
    refine lv_istore_n (lv' := [(2, .int (-1)), (1, .ref (b + v_19)), (0, .ref (b + 80))]) hx hb dX4_line_23 rfl hl (by decide) rfl (fun ls hl => ?_)
    refine lv_aload_n hx hb dX4_line_24 rfl (lv_at hl 1 rfl) ?_
    refine x_cV (k := v_19) (As := []) (rest := []) ⟨hx, hb, hml, hown, hts⟩ (mxJ4_hashCode l G b hole v_19 K T hk_v_19 _ h) (cwV 0 hts (lw_V q606 q607 q608 q129 q609) rfl rfl rfl cwx_J4_hashCode ⟨Nat.le_of_ble_eq_true rfl, Nat.le_of_ble_eq_true rfl⟩) (x_recv (CC := RJ4) (ci := 7) hK hP hk_v_19 (by decide) (by decide) rfl (xE_15 hk_v_19)) hK hV hb0 hP hS rfl hl.1 rfl (Nat.le_of_ble_eq_true rfl) dX4_line_25 ⟨by first | exact Nat.zero_le _ | (show _ + _ ≤ Z - kc K0; omega), by first | exact Nat.zero_le _ | (show _ + _ ≤ Y - ks K0; omega)⟩ (fun r_20 T1 K1 H locs h hle1 hc1 hs1 hP hS => ?_)
    obtain ⟨h, hKe⟩ := h
    rw [hKe] at hP
    generalize T1 = T_21 at h hP
    obtain ⟨ht_25, ht_26, ht_27⟩ := h
    by_cases c_23 : r_20.toInt = 3446732
    · have h := ht_25 c_23
      refine lv_lookup (off := 42) (tgt := 70) hx hb dX4_line_28 (by decide) (by rw [c_23]; rfl) (by decide) ?_
      refine lv_aload_n hx hb dX4_line_70 rfl (lv_at hl 1 rfl) ?_
      refine va_ldcS hx hb hown (hV.2.2.2.1.2.1 15 (by decide)) dX4_line_71 ?_
      refine x_cV (k := v_19) (As := [.ref ((gad G).1 15)]) (rest := []) ⟨hx, hb, hml, hown, hts⟩ (mxJ4_equals l G b hole v_19 15 K T_21 hk_v_19 (show 15 < 22 by decide) _ h) (cwV 1 hts (lw_V q660 q661 q662 q129 q663) rfl rfl rfl cwx_J4_equals ⟨Nat.le_of_ble_eq_true rfl, Nat.le_of_ble_eq_true rfl⟩) (x_recv (CC := RJ4) (ci := 7) hK hP hk_v_19 (by decide) (by decide) rfl (xE_15 hk_v_19)) hK hV hb0 hP hS rfl hl.1 rfl (Nat.le_of_ble_eq_true rfl) dX4_line_73 ⟨by first | exact Nat.zero_le _ | (show _ + _ ≤ Z - kc K0; omega), by first | exact Nat.zero_le _ | (show _ + _ ≤ Y - ks K0; omega)⟩ (fun r_28 T1 K1 H locs h hle1 hc1 hs1 hP hS => ?_)
      obtain ⟨h, hTe, hKe⟩ := h
      rw [hTe, hKe] at hP
      refine lv_if_eq (tgt := 81) hx hb dX4_line_76 (by decide) (fun c_31 => ?_) (fun c_31 => ?_)
      · have h := h.1 c_31
        exact J81 _ _ _ _ _ _ _ _ h hle0 hcn hsn hzz hyy hP hS (lv_sub hl [2, 0] rfl)
      · have h := h.2 c_31
        refine lv_iconst (v := 1) hx hb dX4_line_79 (by decide) ?_
        refine lv_istore_n (lv' := [(2, .int 1), (1, .ref (b + v_19)), (0, .ref (b + 80))]) hx hb dX4_line_80 rfl hl (by decide) rfl (fun ls hl => ?_)
        exact J81 _ _ _ _ _ _ _ _ h hle0 hcn hsn hzz hyy hP hS (lv_sub hl [2, 0] rfl)
    by_cases c_24 : r_20.toInt = 3500592
    · have h := ht_26 c_24
      refine lv_lookup (off := 28) (tgt := 56) hx hb dX4_line_28 (by decide) (by rw [c_24]; rfl) (by decide) ?_
      refine lv_aload_n hx hb dX4_line_56 rfl (lv_at hl 1 rfl) ?_
      refine va_ldcS hx hb hown (hV.2.2.2.1.2.1 14 (by decide)) dX4_line_57 ?_
      refine x_cV (k := v_19) (As := [.ref ((gad G).1 14)]) (rest := []) ⟨hx, hb, hml, hown, hts⟩ (mxJ4_equals l G b hole v_19 14 K T_21 hk_v_19 (show 14 < 22 by decide) _ h) (cwV 1 hts (lw_V q660 q661 q662 q129 q663) rfl rfl rfl cwx_J4_equals ⟨Nat.le_of_ble_eq_true rfl, Nat.le_of_ble_eq_true rfl⟩) (x_recv (CC := RJ4) (ci := 7) hK hP hk_v_19 (by decide) (by decide) rfl (xE_15 hk_v_19)) hK hV hb0 hP hS rfl hl.1 rfl (Nat.le_of_ble_eq_true rfl) dX4_line_59 ⟨by first | exact Nat.zero_le _ | (show _ + _ ≤ Z - kc K0; omega), by first | exact Nat.zero_le _ | (show _ + _ ≤ Y - ks K0; omega)⟩ (fun r_32 T1 K1 H locs h hle1 hc1 hs1 hP hS => ?_)
      obtain ⟨h, hTe, hKe⟩ := h
      rw [hTe, hKe] at hP
      refine lv_if_eq (tgt := 81) hx hb dX4_line_62 (by decide) (fun c_35 => ?_) (fun c_35 => ?_)
      · have h := h.1 c_35
        exact J81 _ _ _ _ _ _ _ _ h hle0 hcn hsn hzz hyy hP hS (lv_sub hl [2, 0] rfl)
      · have h := h.2 c_35
        refine lv_iconst (v := 0) hx hb dX4_line_65 (by decide) ?_
        refine lv_istore_n (lv' := [(2, .int 0), (1, .ref (b + v_19)), (0, .ref (b + 80))]) hx hb dX4_line_66 rfl hl (by decide) rfl (fun ls hl => ?_)
        refine lv_goto (tgt := 81) hx hb dX4_line_67 (by decide) ?_
        exact J81 _ _ _ _ _ _ _ _ h hle0 hcn hsn hzz hyy hP hS (lv_sub hl [2, 0] rfl)
    have h := ht_27 c_23 c_24
    refine lv_lookup (off := 53) (tgt := 81) hx hb dX4_line_28 (by decide) (by show Op.lookupswitch.offset [((3446732 : Int), (42 : Int)), ((3500592 : Int), (28 : Int))] 53 _ = 53; rw [Op.lookupswitch.offset_cons, if_neg (fun e9 => c_23 e9.symm), Op.lookupswitch.offset_cons, if_neg (fun e9 => c_24 e9.symm)]; rfl) (by decide) ?_
    exact J81 _ _ _ _ _ _ _ _ h hle0 hcn hsn hzz hyy hP hS (lv_sub hl [2, 0] rfl)
  have hcn : kc K0 + 0 = kc K0 := rfl
  have hsn : ks K0 + 0 = ks K0 := rfl
  have hzz := hZ
  have hyy := hY
  unfold wx4_line at h
  refine lv_aload_n hx hb dX4_line_0 rfl (lv_at hl 0 rfl) ?_
  refine lv_aload_n hx hb dX4_line_1 rfl (lv_at hl 0 rfl) ?_
  refine x_get (CC := RX4) (TT := TX4) (N := 17) (ci := 3) (v := .int (xi T 80 8)) hx hb hts in_X4 hown hK hP (xs_80 hP) (by decide) (by decide) rfl (xE_11 (xs_80 hP)) 8 (by decide) q304 rfl rfl dX4_line_2 ?_
  refine lv_iconst (v := 2) hx hb dX4_line_5 (by decide) ?_
  refine lv_icmp_ne (tgt := 13) hx hb dX4_line_6 (by decide) (fun c_42 => ?_) (fun c_42 => ?_)
  · have h := h.1 c_42
    refine lv_iconst (v := 0) hx hb dX4_line_13 (by decide) ?_
    refine x_cVX (k := 80) (As := [.int 0]) (rest := []) ⟨hx, hb, hml, hown, hts⟩ (mx4_must l G b hole 0 K0 T  _ _ h) (cwV 1 hts (lw_V q594 q596 qs9 q121 q597) rfl rfl rfl cwx_X4_must ⟨Nat.le_of_ble_eq_true rfl, Nat.le_of_ble_eq_true rfl⟩) (x_recv (CC := RX4) (ci := 3) hK hP (xs_80 hP) (by decide) (by decide) rfl (xE_11 (xs_80 hP))) hK hV hb0 hP hS rfl hl.1 rfl (Nat.le_of_ble_eq_true rfl) dX4_line_14 ⟨by first | exact Nat.zero_le _ | (show _ + _ ≤ Z - kc K0; omega), by first | exact Nat.zero_le _ | (show _ + _ ≤ Y - ks K0; omega)⟩ (fun r_36 T1 K1 H locs h hle1 hc1 hs1 hP hS => ?_) (fun T1 K1 H locs h hle1 hc1 hs1 hP hS => ?_)
    rotate_left
    · obtain ⟨h, hKe⟩ := h
      rw [hKe] at hP
      exact x_out (K0 := K0) (K1 := kset K0 Z Y) (mc := Z - kc K0) (ms := Y - ks K0) (fun x h9 => (ht9 x h9).elim) hlocks hK hP hS hle0 h (by show Z = _; omega) (by show Y = _; omega) (by omega) (by omega)
    obtain ⟨h, hKe⟩ := h
    rw [hKe] at hP
    generalize T1 = T_37 at h hP
    exact J17 _ _ _ _ _ _ _ h hle0 hcn hsn hzz hyy hP hS (lv_sub hl [0] rfl)
  · have h := h.2 c_42
    refine lv_iconst (v := 1) hx hb dX4_line_9 (by decide) ?_
    refine lv_goto (tgt := 14) hx hb dX4_line_10 (by decide) ?_
    refine x_cVX (k := 80) (As := [.int 1]) (rest := []) ⟨hx, hb, hml, hown, hts⟩ (mx4_must l G b hole 1 K0 T  _ _ h) (cwV 1 hts (lw_V q594 q596 qs9 q121 q597) rfl rfl rfl cwx_X4_must ⟨Nat.le_of_ble_eq_true rfl, Nat.le_of_ble_eq_true rfl⟩) (x_recv (CC := RX4) (ci := 3) hK hP (xs_80 hP) (by decide) (by decide) rfl (xE_11 (xs_80 hP))) hK hV hb0 hP hS rfl hl.1 rfl (Nat.le_of_ble_eq_true rfl) dX4_line_14 ⟨by first | exact Nat.zero_le _ | (show _ + _ ≤ Z - kc K0; omega), by first | exact Nat.zero_le _ | (show _ + _ ≤ Y - ks K0; omega)⟩ (fun r_39 T1 K1 H locs h hle1 hc1 hs1 hP hS => ?_) (fun T1 K1 H locs h hle1 hc1 hs1 hP hS => ?_)
    rotate_left
    · obtain ⟨h, hKe⟩ := h
      rw [hKe] at hP
      exact x_out (K0 := K0) (K1 := kset K0 Z Y) (mc := Z - kc K0) (ms := Y - ks K0) (fun x h9 => (ht9 x h9).elim) hlocks hK hP hS hle0 h (by show Z = _; omega) (by show Y = _; omega) (by omega) (by omega)
    obtain ⟨h, hKe⟩ := h
    rw [hKe] at hP
    generalize T1 = T_40 at h hP
    exact J17 _ _ _ _ _ _ _ h hle0 hcn hsn hzz hyy hP hS (lv_sub hl [0] rfl)
theorem cwx_X4_read : yX4_read.cls = RX4 ∧ yX4_read.cls ≠ "java/lang/invoke/MethodHandle" ∧ yX4_read.cls ≠ "java/lang/invoke/VarHandle" ∧ (parseMethodDescriptor yX4_read.desc).map (fun d => d.parameters.length) = some 1 := by decide +kernel
def wx4_read_j64 (p1 : Int32) (Z Y : Nat) (post : XT → XK → Prop) (xpost : XT → XK → Prop)  (K : XK) (T : XT) : Prop :=
    wx4_good (xi T 80 15) 6 K T (fun T_2 =>
    post T_2 (kset K Z Y)) (fun T9 => xpost T9 (kset K Z Y))
def wx4_read_b28 (p1 : Int32) (Z Y : Nat) (post : XT → XK → Prop) (xpost : XT → XK → Prop) (R28 : XT → XK → Prop)   (K : XK) (T : XT) : Prop :=
      ((¬ (xi T 80 8) = 59 →
        ((¬ (xi T 80 8) = 0 →
          wx4_must 0 K T (fun T_5 =>
          wx4_read_j64 p1 Z Y post xpost  K T_5) (fun T9 => xpost T9 (kset K Z Y))) ∧
         ((xi T 80 8) = 0 →
          wx4_must 1 K T (fun T_8 =>
          wx4_read_j64 p1 Z Y post xpost  K T_8) (fun T9 => xpost T9 (kset K Z Y))))) ∧
       ((xi T 80 8) = 59 →
        ∃ Z_14 Y_15 : Nat, kc K ≤ Z_14 ∧ Z_14 ≤ Z ∧ ks K ≤ Y_15 ∧ Y_15 ≤ Y ∧ wx4_step  K T Z_14 Y_15 (fun T_12 K_13 =>
        ∃ Z_19 Y_20 : Nat, kc K_13 ≤ Z_19 ∧ Z_19 ≤ Z ∧ ks K_13 ≤ Y_20 ∧ Y_20 ≤ Y ∧ wx4_line  K_13 T_12 Z_19 Y_20 (fun T_17 K_18 =>
        R28 T_17 K_18) (fun T9 K9 => xpost T9 (kset K9 Z Y)))))
def wx4_read_l28 (p1 : Int32) (Z Y : Nat) (post : XT → XK → Prop) (xpost : XT → XK → Prop)   (K : XK) (T : XT) : Prop := wLoop (fun (R : ((XT) × (XK)) → Prop) (v : (XT) × (XK)) => wx4_read_b28 p1 Z Y post xpost (fun T K => R (T, K))   v.2 v.1) (T, K)
def wx4_read (p1 : Int32) (K0 : XK) (T : XT) (Z Y : Nat) (post : XT → XK → Prop) (xpost : XT → XK → Prop) : Prop :=
  ∀ T_22 : XT, T_22 = xwi T 80 6 p1 →
  ∀ T_23 : XT, T_23 = xwi T_22 80 7 0 →
  ∀ T_24 : XT, T_24 = xwi T_23 80 15 0 →
  ∀ T_25 : XT, T_25 = xwi T_24 80 13 0 →
  ∃ Z_29 Y_30 : Nat, kc K0 ≤ Z_29 ∧ Z_29 ≤ Z ∧ ks K0 ≤ Y_30 ∧ Y_30 ≤ Y ∧ wx4_step  K0 T_25 Z_29 Y_30 (fun T_27 K_28 =>
  ∃ Z_34 Y_35 : Nat, kc K_28 ≤ Z_34 ∧ Z_34 ≤ Z ∧ ks K_28 ≤ Y_35 ∧ Y_35 ≤ Y ∧ wx4_line  K_28 T_27 Z_34 Y_35 (fun T_32 K_33 =>
  wx4_read_l28 p1 Z Y post xpost  K_33 T_32) (fun T9 K9 => xpost T9 (kset K9 Z Y)))
set_option maxHeartbeats 4000000 in
theorem mx4_read (l : Launch) (G : XG) (b : Nat) (hole : Nat → Prop) (p1 : Int32) (K0 : XK) (T : XT) (Z Y : Nat) (hZ : kc K0 ≤ Z) (hY : ks K0 ≤ Y)  (post : XT → XK → Prop) (xpost : XT → XK → Prop) (h : wx4_read p1 K0 T Z Y post xpost) : vx_Met l yX4_read (ws_ yX4_read cX4_read 2 none) ({ frames := 9, cells := (Z - kc K0), slots := (Y - ks K0), locals := 257 } : Room) (xPc G b hole [.ref (b + 80), .int p1] K0 T) (xQ G b hole K0 (Z - kc K0) (Y - ks K0) (ρ := Unit) eV (fun r T1 K1 => post T1 K1)) (xXC G b hole K0 (Z - kc K0) (Y - ks K0) xpost) (Z - kc K0) (Y - ks K0) (xA b hole) := by
  refine vx_ofW (cc := cX4_read) (maxL := 2) (ret := none) (by decide) rfl ?_
  intro p e s m args below meth c s₁ B hml ht9 hv
  obtain ⟨rfl, hP, hK, hV⟩ := hv
  have hx := B.exec
  have hb := B.bytes
  have hr := B.returns
  have hts := atoms_spec (ws := ws_ yX4_read cX4_read 2 none) B.pre
  have hts : ∀ w ∈ lw_all, w.before _ s = true := fun w h => hts w (List.mem_cons_of_mem _ h)
  have hown : s.vm.findClass RX4 = some m.cls := findClass_of_methodNamed B.named
  have hlocks := B.notSynchronized
  have hb0 : b ≤ s.heap.size := by rw [hP.2.2.2]; exact Nat.le_add_right _ _
  have hS : va_S (xA b hole) s.heap s.heap [] := va_S.rf
  have hl := lv_entry ([.ref (b + 80), .int p1]) (n := 2) (Nat.le_of_ble_eq_true rfl)
  rw [lg_entry_eq]
  generalize (lg_sl ([.ref (b + 80), .int p1]) ++ List.replicate (2 - (lg_sl ([.ref (b + 80), .int p1])).length) Slot.unset).toArray = ls at hl ⊢
  have hl : lv_has ls 2 [(0, .ref (b + 80)), (1, .int p1)] := hl
  have hle0 : kle K0 K0 := kle.rf
  have J64 : ∀  (T : XT) (K : XK) (cn sn : Nat) (H : Heap) (locs : List Loc) (ls : Array Slot), wx4_read_j64 p1 Z Y post xpost  K T → kle K0 K → kc K0 + cn = kc K → ks K0 + sn = ks K → kc K ≤ Z → ks K ≤ Y → xW G b hole K T H → va_S (xA b hole) s.heap H locs → lv_has ls 2 [(0, .ref (b + 80))] → W p l e (headSpec (ws_ yX4_read cX4_read 2 none) ({ frames := 9, cells := (Z - kc K0), slots := (Y - ks K0), locals := 257 } : Room)).room s m ([.ref (b + 80), .int p1] : List Value).toArray below meth c H locs cn sn (vx_MQ below (xQ G b hole K0 (Z - kc K0) (Y - ks K0) (ρ := Unit) eV (fun r T1 K1 => post T1 K1)) (xXC G b hole K0 (Z - kc K0) (Y - ks K0) xpost) ([.ref (b + 80), .int p1] : List Value).toArray s (Z - kc K0) (Y - ks K0) (xA b hole)) (F0 m 64 ls []) := by
    intro  T K cn sn H locs ls h hle0 hcn hsn hzz hyy hP hS hl
    unfold wx4_read_j64 at h
    refine lv_aload_n hx hb dX4_read_64 rfl (lv_at hl 0 rfl) ?_
    refine lv_aload_n hx hb dX4_read_65 rfl (lv_at hl 0 rfl) ?_
    refine x_get (CC := RX4) (TT := TX4) (N := 17) (ci := 3) (v := .int (xi T 80 15)) hx hb hts in_X4 hown hK hP (xs_80 hP) (by decide) (by decide) rfl (xE_11 (xs_80 hP)) 15 (by decide) q314 rfl rfl dX4_read_66 ?_
    refine lv_bipush (v := 6) hx hb dX4_read_69 (by decide) ?_
    refine x_cVX (k := 80) (As := [.int (xi T 80 15), .int 6]) (rest := []) ⟨hx, hb, hml, hown, hts⟩ (mx4_good l G b hole (xi T 80 15) 6 K T  _ _ h) (cwV 2 hts (lw_V q673 q675 qs12 q121 q676) rfl rfl rfl cwx_X4_good ⟨Nat.le_of_ble_eq_true rfl, Nat.le_of_ble_eq_true rfl⟩) (x_recv (CC := RX4) (ci := 3) hK hP (xs_80 hP) (by decide) (by decide) rfl (xE_11 (xs_80 hP))) hK hV hb0 hP hS rfl hl.1 rfl (Nat.le_of_ble_eq_true rfl) dX4_read_71 ⟨by first | exact Nat.zero_le _ | (show _ + _ ≤ Z - kc K0; omega), by first | exact Nat.zero_le _ | (show _ + _ ≤ Y - ks K0; omega)⟩ (fun r_1 T1 K1 H locs h hle1 hc1 hs1 hP hS => ?_) (fun T1 K1 H locs h hle1 hc1 hs1 hP hS => ?_)
    rotate_left
    · obtain ⟨h, hKe⟩ := h
      rw [hKe] at hP
      exact x_out (K0 := K0) (K1 := kset K Z Y) (mc := Z - kc K0) (ms := Y - ks K0) (fun x h9 => (ht9 x h9).elim) hlocks hK hP hS hle0 h (by show Z = _; omega) (by show Y = _; omega) (by omega) (by omega)
    obtain ⟨h, hKe⟩ := h
    rw [hKe] at hP
    generalize T1 = T_2 at h hP
    refine vx_ret ?_
    refine W.widen (k := Z - kc K0) (n := Y - ks K0) (by omega) (by omega) ?_
    exact W.vret hx hb hr (fun t ht hW => ⟨⟨(), T_2, (kset K Z Y), rfl, h, hle0, (by show Z = _; omega), (by show Y = _; omega), by rw [ht]; exact hP, va_K.moved hW.alike hK⟩, hS.F ht⟩) hS.2.2 dX4_read_74
  have L28 : ∀  (T : XT) (K : XK) (cn sn : Nat) (H : Heap) (locs : List Loc) (ls : Array Slot), wx4_read_l28 p1 Z Y post xpost   K T → kle K0 K → kc K0 + cn = kc K → ks K0 + sn = ks K → kc K ≤ Z → ks K ≤ Y → xW G b hole K T H → va_S (xA b hole) s.heap H locs → lv_has ls 2 [(0, .ref (b + 80))] → W p l e (headSpec (ws_ yX4_read cX4_read 2 none) ({ frames := 9, cells := (Z - kc K0), slots := (Y - ks K0), locals := 257 } : Room)).room s m ([.ref (b + 80), .int p1] : List Value).toArray below meth c H locs cn sn (vx_MQ below (xQ G b hole K0 (Z - kc K0) (Y - ks K0) (ρ := Unit) eV (fun r T1 K1 => post T1 K1)) (xXC G b hole K0 (Z - kc K0) (Y - ks K0) xpost) ([.ref (b + 80), .int p1] : List Value).toArray s (Z - kc K0) (Y - ks K0) (xA b hole)) (F0 m 28 ls []) := by
    intro  T K cn sn H locs ls h hle0 hcn hsn hzz hyy hP hS hl
    obtain ⟨I28, n28, hI, hstep28⟩ := h
    induction n28 using Nat.strongRecOn generalizing T K cn sn H locs ls with
    | ind n28 ih28 =>
      have h : wx4_read_b28 p1 Z Y post xpost (fun T K => ∃ mm, mm < n28 ∧ I28 mm (T, K))   K T := hstep28 n28 _ hI
      clear hI
      unfold wx4_read_b28 at h
      refine lv_aload_n hx hb dX4_read_28 rfl (lv_at hl 0 rfl) ?_
      refine x_get (CC := RX4) (TT := TX4) (N := 17) (ci := 3) (v := .int (xi T 80 8)) hx hb hts in_X4 hown hK hP (xs_80 hP) (by decide) (by decide) rfl (xE_11 (xs_80 hP)) 8 (by decide) q304 rfl rfl dX4_read_29 ?_
      refine lv_bipush (v := 59) hx hb dX4_read_32 (by decide) ?_
      refine lv_icmp_ne (tgt := 48) hx hb dX4_read_34 (by decide) (fun c_21 => ?_) (fun c_21 => ?_)
      · have h := h.1 c_21
        refine lv_aload_n hx hb dX4_read_48 rfl (lv_at hl 0 rfl) ?_
        refine lv_aload_n hx hb dX4_read_49 rfl (lv_at hl 0 rfl) ?_
        refine x_get (CC := RX4) (TT := TX4) (N := 17) (ci := 3) (v := .int (xi T 80 8)) hx hb hts in_X4 hown hK hP (xs_80 hP) (by decide) (by decide) rfl (xE_11 (xs_80 hP)) 8 (by decide) q304 rfl rfl dX4_read_50 ?_
        refine lv_if_ne (tgt := 60) hx hb dX4_read_53 (by decide) (fun c_10 => ?_) (fun c_10 => ?_)
        · have h := h.1 c_10
          refine lv_iconst (v := 0) hx hb dX4_read_60 (by decide) ?_
          refine x_cVX (k := 80) (As := [.int 0]) (rest := []) ⟨hx, hb, hml, hown, hts⟩ (mx4_must l G b hole 0 K T  _ _ h) (cwV 1 hts (lw_V q594 q596 qs9 q121 q597) rfl rfl rfl cwx_X4_must ⟨Nat.le_of_ble_eq_true rfl, Nat.le_of_ble_eq_true rfl⟩) (x_recv (CC := RX4) (ci := 3) hK hP (xs_80 hP) (by decide) (by decide) rfl (xE_11 (xs_80 hP))) hK hV hb0 hP hS rfl hl.1 rfl (Nat.le_of_ble_eq_true rfl) dX4_read_61 ⟨by first | exact Nat.zero_le _ | (show _ + _ ≤ Z - kc K0; omega), by first | exact Nat.zero_le _ | (show _ + _ ≤ Y - ks K0; omega)⟩ (fun r_4 T1 K1 H locs h hle1 hc1 hs1 hP hS => ?_) (fun T1 K1 H locs h hle1 hc1 hs1 hP hS => ?_)
          rotate_left
          · obtain ⟨h, hKe⟩ := h
            rw [hKe] at hP
            exact x_out (K0 := K0) (K1 := kset K Z Y) (mc := Z - kc K0) (ms := Y - ks K0) (fun x h9 => (ht9 x h9).elim) hlocks hK hP hS hle0 h (by show Z = _; omega) (by show Y = _; omega) (by omega) (by omega)
          obtain ⟨h, hKe⟩ := h
          rw [hKe] at hP
          generalize T1 = T_5 at h hP
          exact J64 _ _ _ _ _ _ _ h hle0 hcn hsn hzz hyy hP hS (lv_sub hl [0] rfl)
        · have h := h.2 c_10
          refine lv_iconst (v := 1) hx hb dX4_read_56 (by decide) ?_
          refine lv_goto (tgt := 61) hx hb dX4_read_57 (by decide) ?_
          refine x_cVX (k := 80) (As := [.int 1]) (rest := []) ⟨hx, hb, hml, hown, hts⟩ (mx4_must l G b hole 1 K T  _ _ h) (cwV 1 hts (lw_V q594 q596 qs9 q121 q597) rfl rfl rfl cwx_X4_must ⟨Nat.le_of_ble_eq_true rfl, Nat.le_of_ble_eq_true rfl⟩) (x_recv (CC := RX4) (ci := 3) hK hP (xs_80 hP) (by decide) (by decide) rfl (xE_11 (xs_80 hP))) hK hV hb0 hP hS rfl hl.1 rfl (Nat.le_of_ble_eq_true rfl) dX4_read_61 ⟨by first | exact Nat.zero_le _ | (show _ + _ ≤ Z - kc K0; omega), by first | exact Nat.zero_le _ | (show _ + _ ≤ Y - ks K0; omega)⟩ (fun r_7 T1 K1 H locs h hle1 hc1 hs1 hP hS => ?_) (fun T1 K1 H locs h hle1 hc1 hs1 hP hS => ?_)
          rotate_left
          · obtain ⟨h, hKe⟩ := h
            rw [hKe] at hP
            exact x_out (K0 := K0) (K1 := kset K Z Y) (mc := Z - kc K0) (ms := Y - ks K0) (fun x h9 => (ht9 x h9).elim) hlocks hK hP hS hle0 h (by show Z = _; omega) (by show Y = _; omega) (by omega) (by omega)
          obtain ⟨h, hKe⟩ := h
          rw [hKe] at hP
          generalize T1 = T_8 at h hP
          exact J64 _ _ _ _ _ _ _ h hle0 hcn hsn hzz hyy hP hS (lv_sub hl [0] rfl)
      · have h := h.2 c_21
        refine lv_aload_n hx hb dX4_read_37 rfl (lv_at hl 0 rfl) ?_
        obtain ⟨Z_14, Y_15, hz1, hz2, hy1, hy2, h⟩ := h
        refine x_cV (k := 80) (As := []) (rest := []) ⟨hx, hb, hml, hown, hts⟩ (mx4_step l G b hole  K T Z_14 Y_15 hz1 hy1  _ h) (cwV 0 hts (lw_V q494 q496 qs4 q121 q497) rfl rfl rfl cwx_X4_step ⟨Nat.le_of_ble_eq_true rfl, Nat.le_of_ble_eq_true rfl⟩) (x_recv (CC := RX4) (ci := 3) hK hP (xs_80 hP) (by decide) (by decide) rfl (xE_11 (xs_80 hP))) hK hV hb0 hP hS rfl hl.1 rfl (Nat.le_of_ble_eq_true rfl) dX4_read_38 ⟨by first | exact Nat.zero_le _ | (show _ + _ ≤ Z - kc K0; omega), by first | exact Nat.zero_le _ | (show _ + _ ≤ Y - ks K0; omega)⟩ (fun r_11 T1 K1 H locs h hle1 hc1 hs1 hP hS => ?_)
        generalize T1 = T_12 at h hP
        generalize K1 = K_13 at h hP hle1 hc1 hs1
        have hle0 := hle0.tr hle1
        have hcn : kc K0 + (cn + (Z_14 - kc K)) = kc K_13 := by omega
        have hsn : ks K0 + (sn + (Y_15 - ks K)) = ks K_13 := by omega
        have hzz : kc K_13 ≤ Z := by omega
        have hyy : ks K_13 ≤ Y := by omega
        refine lv_aload_n hx hb dX4_read_41 rfl (lv_at hl 0 rfl) ?_
        obtain ⟨Z_19, Y_20, hz1, hz2, hy1, hy2, h⟩ := h
        refine x_cVX (k := 80) (As := []) (rest := []) ⟨hx, hb, hml, hown, hts⟩ (mx4_line l G b hole  K_13 T_12 Z_19 Y_20 hz1 hy1  _ _ h) (cwV 0 hts (lw_V q590 q592 qs8 q121 q593) rfl rfl rfl cwx_X4_line ⟨Nat.le_of_ble_eq_true rfl, Nat.le_of_ble_eq_true rfl⟩) (x_recv (CC := RX4) (ci := 3) hK hP (xs_80 hP) (by decide) (by decide) rfl (xE_11 (xs_80 hP))) hK hV hb0 hP hS rfl hl.1 rfl (Nat.le_of_ble_eq_true rfl) dX4_read_42 ⟨by first | exact Nat.zero_le _ | (show _ + _ ≤ Z - kc K0; omega), by first | exact Nat.zero_le _ | (show _ + _ ≤ Y - ks K0; omega)⟩ (fun r_16 T1 K1 H locs h hle1 hc1 hs1 hP hS => ?_) (fun T1 K1 H locs h hle1 hc1 hs1 hP hS => ?_)
        rotate_left
        · exact x_out (K0 := K0) (K1 := kset K1 Z Y) (mc := Z - kc K0) (ms := Y - ks K0) (fun x h9 => (ht9 x h9).elim) hlocks hK hP hS (hle0.tr hle1) h (by show Z = _; omega) (by show Y = _; omega) (by omega) (by omega)
        generalize T1 = T_17 at h hP
        generalize K1 = K_18 at h hP hle1 hc1 hs1
        have hle0 := hle0.tr hle1
        have hcn : kc K0 + ((cn + (Z_14 - kc K)) + (Z_19 - kc K_13)) = kc K_18 := by omega
        have hsn : ks K0 + ((sn + (Y_15 - ks K)) + (Y_20 - ks K_13)) = ks K_18 := by omega
        have hzz : kc K_18 ≤ Z := by omega
        have hyy : ks K_18 ≤ Y := by omega
        refine lv_goto (tgt := 28) hx hb dX4_read_45 (by decide) ?_
        obtain ⟨mm, hmm, h⟩ := h
        exact ih28 mm hmm _ _ _ _ _ _ _ hle0 hcn hsn hzz hyy hP hS (lv_sub hl [0] rfl) h
  have hcn : kc K0 + 0 = kc K0 := rfl
  have hsn : ks K0 + 0 = ks K0 := rfl
  have hzz := hZ
  have hyy := hY
  unfold wx4_read at h
  refine lv_aload_n hx hb dX4_read_0 rfl (lv_at hl 0 rfl) ?_
  refine lv_iload_n hx hb dX4_read_1 rfl (lv_at hl 1 rfl) ?_
  obtain ⟨T_22, eT_22⟩ : ∃ z : XT, z = xwi T 80 6 p1 := ⟨_, rfl⟩
  have h := h T_22 eT_22
  refine x_put (CC := RX4) (TT := TX4) (N := 17) (ci := 3) (T1 := T_22) (v := .int p1) (ty := .int) (fsf := fun T => fs11 (gem G) b T 80) hx hb hts in_X4 tyX4 tyX4_ok nmX4 hown hK hP hS (xs_80 hP) (by decide) (by decide) rfl (fun _ => xE_11 (xs_80 hP)) rfl 6 (by decide) q302 rfl (Or.inl rfl) rfl rfl rfl (by rw [eT_22]; exact fw11_6 _ b T 80 p1) (by rw [eT_22]; exact fun q hq => xwi_i hq) (by rw [eT_22]; exact fun _ _ => rfl) (by rw [eT_22]; exact xwi_ty hP (by rw [(xs_80 hP)]; decide)) dX4_read_2 (fun H locs hP hS => ?_)
  refine lv_aload_n hx hb dX4_read_5 rfl (lv_at hl 0 rfl) ?_
  refine lv_iconst (v := 0) hx hb dX4_read_6 (by decide) ?_
  obtain ⟨T_23, eT_23⟩ : ∃ z : XT, z = xwi T_22 80 7 0 := ⟨_, rfl⟩
  have h := h T_23 eT_23
  refine x_put (CC := RX4) (TT := TX4) (N := 17) (ci := 3) (T1 := T_23) (v := .int 0) (ty := .int) (fsf := fun T => fs11 (gem G) b T 80) hx hb hts in_X4 tyX4 tyX4_ok nmX4 hown hK hP hS (xs_80 hP) (by decide) (by decide) rfl (fun _ => xE_11 (xs_80 hP)) rfl 7 (by decide) q303 rfl (Or.inl rfl) rfl rfl rfl (by rw [eT_23]; exact fw11_7 _ b T_22 80 0) (by rw [eT_23]; exact fun q hq => xwi_i hq) (by rw [eT_23]; exact fun _ _ => rfl) (by rw [eT_23]; exact xwi_ty hP (by rw [(xs_80 hP)]; decide)) dX4_read_7 (fun H locs hP hS => ?_)
  refine lv_aload_n hx hb dX4_read_10 rfl (lv_at hl 0 rfl) ?_
  refine lv_iconst (v := 0) hx hb dX4_read_11 (by decide) ?_
  obtain ⟨T_24, eT_24⟩ : ∃ z : XT, z = xwi T_23 80 15 0 := ⟨_, rfl⟩
  have h := h T_24 eT_24
  refine x_put (CC := RX4) (TT := TX4) (N := 17) (ci := 3) (T1 := T_24) (v := .int 0) (ty := .boolean) (fsf := fun T => fs11 (gem G) b T 80) hx hb hts in_X4 tyX4 tyX4_ok nmX4 hown hK hP hS (xs_80 hP) (by decide) (by decide) rfl (fun _ => xE_11 (xs_80 hP)) rfl 15 (by decide) q314 rfl (Or.inl rfl) rfl rfl rfl (by rw [eT_24]; exact fw11_15 _ b T_23 80 0) (by rw [eT_24]; exact fun q hq => xwi_i hq) (by rw [eT_24]; exact fun _ _ => rfl) (by rw [eT_24]; exact xwi_ty hP (by rw [(xs_80 hP)]; decide)) dX4_read_12 (fun H locs hP hS => ?_)
  refine lv_aload_n hx hb dX4_read_15 rfl (lv_at hl 0 rfl) ?_
  refine lv_iconst (v := 0) hx hb dX4_read_16 (by decide) ?_
  obtain ⟨T_25, eT_25⟩ : ∃ z : XT, z = xwi T_24 80 13 0 := ⟨_, rfl⟩
  have h := h T_25 eT_25
  refine x_put (CC := RX4) (TT := TX4) (N := 17) (ci := 3) (T1 := T_25) (v := .int 0) (ty := .int) (fsf := fun T => fs11 (gem G) b T 80) hx hb hts in_X4 tyX4 tyX4_ok nmX4 hown hK hP hS (xs_80 hP) (by decide) (by decide) rfl (fun _ => xE_11 (xs_80 hP)) rfl 13 (by decide) q311 rfl (Or.inl rfl) rfl rfl rfl (by rw [eT_25]; exact fw11_13 _ b T_24 80 0) (by rw [eT_25]; exact fun q hq => xwi_i hq) (by rw [eT_25]; exact fun _ _ => rfl) (by rw [eT_25]; exact xwi_ty hP (by rw [(xs_80 hP)]; decide)) dX4_read_17 (fun H locs hP hS => ?_)
  refine lv_aload_n hx hb dX4_read_20 rfl (lv_at hl 0 rfl) ?_
  obtain ⟨Z_29, Y_30, hz1, hz2, hy1, hy2, h⟩ := h
  refine x_cV (k := 80) (As := []) (rest := []) ⟨hx, hb, hml, hown, hts⟩ (mx4_step l G b hole  K0 T_25 Z_29 Y_30 hz1 hy1  _ h) (cwV 0 hts (lw_V q494 q496 qs4 q121 q497) rfl rfl rfl cwx_X4_step ⟨Nat.le_of_ble_eq_true rfl, Nat.le_of_ble_eq_true rfl⟩) (x_recv (CC := RX4) (ci := 3) hK hP (xs_80 hP) (by decide) (by decide) rfl (xE_11 (xs_80 hP))) hK hV hb0 hP hS rfl hl.1 rfl (Nat.le_of_ble_eq_true rfl) dX4_read_21 ⟨by first | exact Nat.zero_le _ | (show _ + _ ≤ Z - kc K0; omega), by first | exact Nat.zero_le _ | (show _ + _ ≤ Y - ks K0; omega)⟩ (fun r_26 T1 K1 H locs h hle1 hc1 hs1 hP hS => ?_)
  generalize T1 = T_27 at h hP
  generalize K1 = K_28 at h hP hle1 hc1 hs1
  have hle0 := hle0.tr hle1
  have hcn : kc K0 + (0 + (Z_29 - kc K0)) = kc K_28 := by omega
  have hsn : ks K0 + (0 + (Y_30 - ks K0)) = ks K_28 := by omega
  have hzz : kc K_28 ≤ Z := by omega
  have hyy : ks K_28 ≤ Y := by omega
  refine lv_aload_n hx hb dX4_read_24 rfl (lv_at hl 0 rfl) ?_
  obtain ⟨Z_34, Y_35, hz1, hz2, hy1, hy2, h⟩ := h
  refine x_cVX (k := 80) (As := []) (rest := []) ⟨hx, hb, hml, hown, hts⟩ (mx4_line l G b hole  K_28 T_27 Z_34 Y_35 hz1 hy1  _ _ h) (cwV 0 hts (lw_V q590 q592 qs8 q121 q593) rfl rfl rfl cwx_X4_line ⟨Nat.le_of_ble_eq_true rfl, Nat.le_of_ble_eq_true rfl⟩) (x_recv (CC := RX4) (ci := 3) hK hP (xs_80 hP) (by decide) (by decide) rfl (xE_11 (xs_80 hP))) hK hV hb0 hP hS rfl hl.1 rfl (Nat.le_of_ble_eq_true rfl) dX4_read_25 ⟨by first | exact Nat.zero_le _ | (show _ + _ ≤ Z - kc K0; omega), by first | exact Nat.zero_le _ | (show _ + _ ≤ Y - ks K0; omega)⟩ (fun r_31 T1 K1 H locs h hle1 hc1 hs1 hP hS => ?_) (fun T1 K1 H locs h hle1 hc1 hs1 hP hS => ?_)
  rotate_left
  · exact x_out (K0 := K0) (K1 := kset K1 Z Y) (mc := Z - kc K0) (ms := Y - ks K0) (fun x h9 => (ht9 x h9).elim) hlocks hK hP hS (hle0.tr hle1) h (by show Z = _; omega) (by show Y = _; omega) (by omega) (by omega)
  generalize T1 = T_32 at h hP
  generalize K1 = K_33 at h hP hle1 hc1 hs1
  have hle0 := hle0.tr hle1
  have hcn : kc K0 + ((0 + (Z_29 - kc K0)) + (Z_34 - kc K_28)) = kc K_33 := by omega
  have hsn : ks K0 + ((0 + (Y_30 - ks K0)) + (Y_35 - ks K_28)) = ks K_33 := by omega
  have hzz : kc K_33 ≤ Z := by omega
  have hyy : ks K_33 ≤ Y := by omega
  exact L28 _ _ _ _ _ _ _ h hle0 hcn hsn hzz hyy hP hS (lv_sub hl [0] rfl)
