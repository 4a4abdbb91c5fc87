set_option maxRecDepth 100000
def wp_laysKeys_j46 (p1 : Int32) (post : St → Prop) (R7 : Int32 → St → Prop) (x2 : Int32) (S : St) : Prop :=
        ∀ x2_1 : Int32, x2_1 = x2 + 1 →
        R7 x2_1 S
def wp_laysKeys_b7 (p1 : Int32) (post : St → Prop) (R7 : Int32 → St → Prop)  (x2 : Int32) (S : St) : Prop :=
      ((4096 ≤ x2 →
        post S) ∧
       (¬ (4096 ≤ x2) →
        wp_coef p1 x2 S (fun r_2 =>
        ((¬ r_2 = 0 →
          ∃ j_4 : Nat, j_4 < 61 ∧ (S 0 27) = nI j_4 ∧ ∀ S_5 : St, S_5 = bw S 5 j_4 x2 →
          ∀ S_6 : St, S_6 = bw S_5 0 27 ((S_5 0 27) + 1) →
          wp_laysKeys_j46 p1 post R7 x2 S_6) ∧
         (r_2 = 0 →
          wp_laysKeys_j46 p1 post R7 x2 S)))))
def wp_laysKeys_l7 (p1 : Int32) (post : St → Prop)  (x2 : Int32) (S : St) : Prop := wLoop (fun (R : (Int32 × St) → Prop) (v : Int32 × St) => wp_laysKeys_b7 p1 post (fun x2 S => R (x2, S))  v.1 v.2) (x2, S)
def wp_laysKeys (p1 : Int32) (S : St) (post : St → Prop) : Prop :=
  ∀ S_9 : St, S_9 = bw S 0 27 0 →
  wp_laysKeys_l7 p1 post 0 S_9
set_option maxHeartbeats 4000000 in
theorem met_laysKeys (l : Launch) (D : va_G) (cI cB : ClassId) (b : Nat) (p1 : Int32)  (S : St) (post : St → Prop) (h : wp_laysKeys p1 S post) : Met l yX7_laysKeys (ws_ yX7_laysKeys cX7_laysKeys 3 none) ({ frames := 1, cells := 0, slots := 0, locals := 22 } : Room) (mPc D cI cB b [.ref b, .int p1] S) (mQv D cI cB b post) 0 0 (mA b) := by
  refine Met.ofW (cc := cX7_laysKeys) (maxL := 3) (ret := none) (by decide) rfl ?_
  intro p e s m args below meth c s₁ B hml hv
  obtain ⟨rfl, hP, hK⟩ := hv
  have hx := B.exec
  have hb := B.bytes
  have hr := B.returns
  have hts := atoms_spec (ws := ws_ yX7_laysKeys cX7_laysKeys 3 none) B.pre
  have hts : ∀ w ∈ lw_all, w.before _ s = true := fun w h => hts w (List.mem_cons_of_mem _ h)
  have hown : s.vm.findClass RX7 = some m.cls := findClass_of_methodNamed B.named
  have hlocks := B.notSynchronized
  have hS : va_S (mA b) s.heap s.heap [] := va_S.rf
  have hl := lv_entry ([.ref b, .int p1]) (n := 3) (Nat.le_of_ble_eq_true rfl)
  rw [lg_entry_eq]
  generalize (lg_sl ([.ref b, .int p1]) ++ List.replicate (3 - (lg_sl ([.ref b, .int p1])).length) Slot.unset).toArray = ls at hl ⊢
  have hl : lv_has ls 3 [(0, .ref b), (1, .int p1)] := hl
  have L7 : ∀  (x2 : Int32) (S : St) (H : Heap) (locs : List Loc) (ls : Array Slot), wp_laysKeys_l7 p1 post  x2 S → mW D cI cB b S H → va_S (mA b) s.heap H locs → lv_has ls 3 [(0, .ref b), (1, .int p1), (2, .int x2)] → W p l e (headSpec (ws_ yX7_laysKeys cX7_laysKeys 3 none) ({ frames := 1, cells := 0, slots := 0, locals := 22 } : Room)).room s m ([.ref b, .int p1] : List Value).toArray below meth c H locs 0 0 (MQ below (mQv D cI cB b post) ([.ref b, .int p1] : List Value).toArray s 0 0 (mA b)) (F0 m 7 ls []) := by
    intro  x2 S H locs ls h hP hS hl
    obtain ⟨I7, n7, hI, hstep7⟩ := h
    induction n7 using Nat.strongRecOn generalizing x2 S H locs ls with
    | ind n7 ih7 =>
      have h : wp_laysKeys_b7 p1 post (fun x2 S => ∃ mm, mm < n7 ∧ I7 mm (x2, S))  x2 S := hstep7 n7 _ hI
      clear hI
      have J46 : ∀ (x2 : Int32) (S : St) (H : Heap) (locs : List Loc) (ls : Array Slot), wp_laysKeys_j46 p1 post (fun x2 S => ∃ mm, mm < n7 ∧ I7 mm (x2, S)) x2 S → mW D cI cB b S H → va_S (mA b) s.heap H locs → lv_has ls 3 [(0, .ref b), (1, .int p1), (2, .int x2)] → W p l e (headSpec (ws_ yX7_laysKeys cX7_laysKeys 3 none) ({ frames := 1, cells := 0, slots := 0, locals := 22 } : Room)).room s m ([.ref b, .int p1] : List Value).toArray below meth c H locs 0 0 (MQ below (mQv D cI cB b post) ([.ref b, .int p1] : List Value).toArray s 0 0 (mA b)) (F0 m 46 ls []) := by
        intro x2 S H locs ls h hP hS hl
        unfold wp_laysKeys_j46 at h
        obtain ⟨x2_1, ex2_1⟩ : ∃ y : Int32, y = x2 + 1 := ⟨_, rfl⟩
        have h := h x2_1 ex2_1
        refine lv_iinc (v := x2_1) (lv' := [(2, .int x2_1), (0, .ref b), (1, .int p1)]) hx hb dX7_laysKeys_46 hl (k := 2) rfl (by rw [ex2_1]; rfl) (by decide) rfl (fun ls hl => ?_)
        refine lv_goto (tgt := 7) hx hb dX7_laysKeys_49 (by decide) ?_
        obtain ⟨mm, hmm, h⟩ := h
        exact ih7 mm hmm _ _ _ _ _ hP hS (lv_sub hl [1, 2, 0] rfl) h
      unfold wp_laysKeys_b7 at h
      refine lv_iload_n hx hb dX7_laysKeys_7 rfl (lv_at hl 2 rfl) ?_
      refine lv_sipush (v := 4096) hx hb dX7_laysKeys_8 (by decide) ?_
      refine lv_icmp_ge (tgt := 52) hx hb dX7_laysKeys_11 (by decide) (fun c_8 => ?_) (fun c_8 => ?_)
      · have h := h.1 c_8
        exact W.vret hx hb hr (fun t ht hW => ⟨⟨S, rfl, h, by rw [ht]; exact hP, va_K.moved hW.alike hK⟩, hS.F ht⟩) hS.2.2 dX7_laysKeys_52
      · have h := h.2 c_8
        refine lv_aload_n hx hb dX7_laysKeys_14 rfl (lv_at hl 0 rfl) ?_
        refine lv_iload_n hx hb dX7_laysKeys_15 rfl (lv_at hl 1 rfl) ?_
        refine lv_iload_n hx hb dX7_laysKeys_16 rfl (lv_at hl 2 rfl) ?_
        refine m_cVp (As := [.int p1, .int x2]) (rest := []) ⟨hx, hb, hml, hown, hts⟩ (met_coef l D cI cB b p1 x2  S _ h) (cwV 2 hts (lw_V q1526 q1528 qs80 q128 q1529) rfl rfl rfl cwd_coef ⟨Nat.le_of_ble_eq_true rfl, Nat.le_of_ble_eq_true rfl⟩) hK hP hS rfl hl.1 rfl (Nat.le_of_ble_eq_true rfl) dX7_laysKeys_17 ⟨Nat.zero_le _, Nat.zero_le _⟩ (fun r_2 H locs h hP hS => ?_)
        refine lv_if_ne (tgt := 26) hx hb dX7_laysKeys_20 (by decide) (fun c_7 => ?_) (fun c_7 => ?_)
        · have h := h.1 c_7
          refine lv_aload_n hx hb dX7_laysKeys_26 rfl (lv_at hl 0 rfl) ?_
          refine m_get (v := .ref (b + 5)) hx hb hts hown hK hP 26 (by decide) q1236 rfl rfl dX7_laysKeys_27 ?_
          refine lv_aload_n hx hb dX7_laysKeys_30 rfl (lv_at hl 0 rfl) ?_
          refine m_get (v := .int (S 0 27)) hx hb hts hown hK hP 27 (by decide) q1237 rfl rfl dX7_laysKeys_31 ?_
          refine lv_iload_n hx hb dX7_laysKeys_34 rfl (lv_at hl 2 rfl) ?_
          obtain ⟨j_4, hj_4, ej_4, h⟩ := h
          obtain ⟨S_5, eS_5⟩ : ∃ z : St, z = bw S 5 j_4 x2 := ⟨_, rfl⟩
          have h := h S_5 eS_5
          refine m_iast hx hb hK hP hS (k := 5) mok_5 ej_4 hj_4 dX7_laysKeys_35 (fun H locs hP hS => ?_)
          rw [← eS_5] at hP
          refine lv_aload_n hx hb dX7_laysKeys_36 rfl (lv_at hl 0 rfl) ?_
          refine lv_dup hx hb dX7_laysKeys_37 rfl ?_
          refine m_get (v := .int (S_5 0 27)) hx hb hts hown hK hP 27 (by decide) q1237 rfl rfl dX7_laysKeys_38 ?_
          refine lv_iconst (v := 1) hx hb dX7_laysKeys_41 (by decide) ?_
          refine lv_iadd hx hb dX7_laysKeys_42 ?_
          obtain ⟨S_6, eS_6⟩ : ∃ z : St, z = bw S_5 0 27 ((S_5 0 27) + 1) := ⟨_, rfl⟩
          have h := h S_6 eS_6
          refine m_put (S1 := S_6) (v := .int ((S_5 0 27) + 1)) (ty := .int) hx hb hts hown hK hP hS 27 (by decide) q1237 rfl rfl (tyX7_ok 27 (by decide)) rfl rfl (by rw [eS_6]; exact mset_27 b S_5 ((S_5 0 27) + 1)) (by rw [eS_6]; exact bw_0) dX7_laysKeys_43 (fun H locs hP hS => ?_)
          exact J46 _ _ _ _ _ h hP hS (lv_sub hl [0, 1, 2] rfl)
        · have h := h.2 c_7
          refine lv_goto (tgt := 46) hx hb dX7_laysKeys_23 (by decide) ?_
          exact J46 _ _ _ _ _ h hP hS (lv_sub hl [0, 1, 2] rfl)
  unfold wp_laysKeys at h
  refine lv_aload_n hx hb dX7_laysKeys_0 rfl (lv_at hl 0 rfl) ?_
  refine lv_iconst (v := 0) hx hb dX7_laysKeys_1 (by decide) ?_
  obtain ⟨S_9, eS_9⟩ : ∃ z : St, z = bw S 0 27 0 := ⟨_, rfl⟩
  have h := h S_9 eS_9
  refine m_put (S1 := S_9) (v := .int 0) (ty := .int) hx hb hts hown hK hP hS 27 (by decide) q1237 rfl rfl (tyX7_ok 27 (by decide)) rfl rfl (by rw [eS_9]; exact mset_27 b S 0) (by rw [eS_9]; exact bw_0) dX7_laysKeys_2 (fun H locs hP hS => ?_)
  refine lv_iconst (v := 0) hx hb dX7_laysKeys_5 (by decide) ?_
  refine lv_istore_n (lv' := [(2, .int 0), (0, .ref b), (1, .int p1)]) hx hb dX7_laysKeys_6 rfl hl (by decide) rfl (fun ls hl => ?_)
  exact L7 _ _ _ _ _ h hP hS (lv_sub hl [1, 2, 0] rfl)
def wp_power_b5 (p1 : Int32) (p2 : Int32) (post : Int32 → Prop) (R5 : Int32 → Int32 → Prop)  (x3 : Int32) (x4 : Int32) (S : St) : Prop :=
      ((p2 ≤ x4 →
        post x3) ∧
       (¬ (p2 ≤ x4) →
        ¬ (S 0 5) = 0 ∧
        ∀ x3_1 : Int32, x3_1 = (jrem (x3 * p1) (S 0 5)) →
        ∀ x4_2 : Int32, x4_2 = x4 + 1 →
        R5 x3_1 x4_2))
def wp_power_l5 (p1 : Int32) (p2 : Int32) (post : Int32 → Prop)  (x3 : Int32) (x4 : Int32) (S : St) : Prop := wLoop (fun (R : (Int32 × Int32) → Prop) (v : Int32 × Int32) => wp_power_b5 p1 p2 post (fun x3 x4 => R (x3, x4))  v.1 v.2 S) (x3, x4)
def wp_power (p1 : Int32) (p2 : Int32) (S : St) (post : Int32 → Prop) : Prop :=
  wp_power_l5 p1 p2 post 1 0 S
set_option maxHeartbeats 4000000 in
theorem met_power (l : Launch) (D : va_G) (cI cB : ClassId) (b : Nat) (p1 : Int32) (p2 : Int32)  (S : St) (post : Int32 → Prop) (h : wp_power p1 p2 S post) : Met l yX7_power (ws_ yX7_power cX7_power 5 (some .int)) ({ frames := 0, cells := 0, slots := 0, locals := 0 } : Room) (mPc D cI cB b [.ref b, .int p1, .int p2] S) (mQp D cI cB b S post) 0 0 (mA b) := by
  refine Met.ofW (cc := cX7_power) (maxL := 5) (ret := (some .int)) (by decide) rfl ?_
  intro p e s m args below meth c s₁ B hml hv
  obtain ⟨rfl, hP, hK⟩ := hv
  have hx := B.exec
  have hb := B.bytes
  have hr := B.returns
  have hts := atoms_spec (ws := ws_ yX7_power cX7_power 5 (some .int)) B.pre
  have hts : ∀ w ∈ lw_all, w.before _ s = true := fun w h => hts w (List.mem_cons_of_mem _ h)
  have hown : s.vm.findClass RX7 = some m.cls := findClass_of_methodNamed B.named
  have hlocks := B.notSynchronized
  have hS : va_S (mA b) s.heap s.heap [] := va_S.rf
  have hl := lv_entry ([.ref b, .int p1, .int p2]) (n := 5) (Nat.le_of_ble_eq_true rfl)
  rw [lg_entry_eq]
  generalize (lg_sl ([.ref b, .int p1, .int p2]) ++ List.replicate (5 - (lg_sl ([.ref b, .int p1, .int p2])).length) Slot.unset).toArray = ls at hl ⊢
  have hl : lv_has ls 5 [(0, .ref b), (1, .int p1), (2, .int p2)] := hl
  have L5 : ∀  (x3 : Int32) (x4 : Int32) (H : Heap) (locs : List Loc) (ls : Array Slot), wp_power_l5 p1 p2 post  x3 x4 S → mW D cI cB b S H → va_S (mA b) s.heap H locs → lv_has ls 5 [(0, .ref b), (1, .int p1), (2, .int p2), (3, .int x3), (4, .int x4)] → W p l e (headSpec (ws_ yX7_power cX7_power 5 (some .int)) ({ frames := 0, cells := 0, slots := 0, locals := 0 } : Room)).room s m ([.ref b, .int p1, .int p2] : List Value).toArray below meth c H locs 0 0 (MQ below (mQp D cI cB b S post) ([.ref b, .int p1, .int p2] : List Value).toArray s 0 0 (mA b)) (F0 m 5 ls []) := by
    intro  x3 x4  H locs ls h hP hS hl
    obtain ⟨I5, n5, hI, hstep5⟩ := h
    induction n5 using Nat.strongRecOn generalizing x3 x4 H locs ls with
    | ind n5 ih5 =>
      have h : wp_power_b5 p1 p2 post (fun x3 x4 => ∃ mm, mm < n5 ∧ I5 mm (x3, x4))  x3 x4 S := hstep5 n5 _ hI
      clear hI
      unfold wp_power_b5 at h
      refine lv_iload hx hb dX7_power_5 (lv_at hl 4 rfl) ?_
      refine lv_iload_n hx hb dX7_power_7 rfl (lv_at hl 2 rfl) ?_
      refine lv_icmp_ge (tgt := 26) hx hb dX7_power_8 (by decide) (fun c_3 => ?_) (fun c_3 => ?_)
      · have h := h.1 c_3
        refine lv_iload_n hx hb dX7_power_26 rfl (lv_at hl 3 rfl) ?_
        exact W.iret (v := x3) hx hb hr (fun t ht hW => ⟨⟨x3, (), rfl, h, by rw [ht]; exact hP, va_K.moved hW.alike hK⟩, hS.F ht⟩) hS.2.2 dX7_power_27
      · have h := h.2 c_3
        refine lv_iload_n hx hb dX7_power_11 rfl (lv_at hl 3 rfl) ?_
        refine lv_iload_n hx hb dX7_power_12 rfl (lv_at hl 1 rfl) ?_
        refine lv_imul hx hb dX7_power_13 ?_
        refine lv_aload_n hx hb dX7_power_14 rfl (lv_at hl 0 rfl) ?_
        refine m_get (v := .int (S 0 5)) hx hb hts hown hK hP 5 (by decide) q1215 rfl rfl dX7_power_15 ?_
        obtain ⟨hne, h⟩ := h
        refine m_irem hx hb dX7_power_18 hne ?_
        refine lv_topi (fun x3_1 ex3_1 => ?_)
        have h := h x3_1 ex3_1
        refine lv_istore_n (lv' := [(3, .int x3_1), (0, .ref b), (1, .int p1), (2, .int p2), (4, .int x4)]) hx hb dX7_power_19 rfl hl (by decide) rfl (fun ls hl => ?_)
        obtain ⟨x4_2, ex4_2⟩ : ∃ y : Int32, y = x4 + 1 := ⟨_, rfl⟩
        have h := h x4_2 ex4_2
        refine lv_iinc (v := x4_2) (lv' := [(4, .int x4_2), (3, .int x3_1), (0, .ref b), (1, .int p1), (2, .int p2)]) hx hb dX7_power_20 hl (k := 4) rfl (by rw [ex4_2]; rfl) (by decide) rfl (fun ls hl => ?_)
        refine lv_goto (tgt := 5) hx hb dX7_power_23 (by decide) ?_
        obtain ⟨mm, hmm, h⟩ := h
        exact ih5 mm hmm _ _ _ _ _ hP hS (lv_sub hl [2, 3, 4, 1, 0] rfl) h
  unfold wp_power at h
  refine lv_iconst (v := 1) hx hb dX7_power_0 (by decide) ?_
  refine lv_istore_n (lv' := [(3, .int 1), (0, .ref b), (1, .int p1), (2, .int p2)]) hx hb dX7_power_1 rfl hl (by decide) rfl (fun ls hl => ?_)
  refine lv_iconst (v := 0) hx hb dX7_power_2 (by decide) ?_
  refine lv_istore (lv' := [(4, .int 0), (3, .int 1), (0, .ref b), (1, .int p1), (2, .int p2)]) hx hb dX7_power_3 hl (by decide) rfl (fun ls hl => ?_)
  exact L5 _ _  _ _ _ h hP hS (lv_sub hl [2, 3, 4, 1, 0] rfl)
def wp_valueOf_b6 (p1 : Int32) (p2 : Int32) (p3 : Int32) (p4 : Int32) (post : Int32 → Prop) (R6 : Int32 → Int32 → Prop)  (x5 : Int32) (x6 : Int32) (S : St) : Prop :=
      (((S 0 27) ≤ x6 →
        post x5) ∧
       (¬ ((S 0 27) ≤ x6) →
        ∃ j_1 : Nat, j_1 < 61 ∧ x6 = nI j_1 ∧
        wp_coef p1 (S 5 j_1) S (fun r_2 =>
        wp_exponent (S 5 j_1) 0 S (fun r_4 =>
        wp_power p2 r_4 S (fun r_6 =>
        ¬ (S 0 5) = 0 ∧
        wp_exponent (S 5 j_1) 1 S (fun r_8 =>
        wp_power p3 r_8 S (fun r_10 =>
        ¬ (S 0 5) = 0 ∧
        wp_exponent (S 5 j_1) 2 S (fun r_12 =>
        wp_power p4 r_12 S (fun r_14 =>
        ¬ (S 0 5) = 0 ∧
        ∀ x8_16 : Int32, x8_16 = (jrem ((jrem ((jrem (r_2 * r_6) (S 0 5)) * r_10) (S 0 5)) * r_14) (S 0 5)) →
        ¬ (S 0 5) = 0 ∧
        ∀ x5_17 : Int32, x5_17 = (jrem (x5 + x8_16) (S 0 5)) →
        ∀ x6_18 : Int32, x6_18 = x6 + 1 →
        R6 x5_17 x6_18)))))))))
def wp_valueOf_l6 (p1 : Int32) (p2 : Int32) (p3 : Int32) (p4 : Int32) (post : Int32 → Prop)  (x5 : Int32) (x6 : Int32) (S : St) : Prop := wLoop (fun (R : (Int32 × Int32) → Prop) (v : Int32 × Int32) => wp_valueOf_b6 p1 p2 p3 p4 post (fun x5 x6 => R (x5, x6))  v.1 v.2 S) (x5, x6)
def wp_valueOf (p1 : Int32) (p2 : Int32) (p3 : Int32) (p4 : Int32) (S : St) (post : Int32 → Prop) : Prop :=
  wp_valueOf_l6 p1 p2 p3 p4 post 0 0 S
set_option maxHeartbeats 4000000 in
theorem met_valueOf (l : Launch) (D : va_G) (cI cB : ClassId) (b : Nat) (p1 : Int32) (p2 : Int32) (p3 : Int32) (p4 : Int32)  (S : St) (post : Int32 → Prop) (h : wp_valueOf p1 p2 p3 p4 S post) : Met l yX7_valueOf (ws_ yX7_valueOf cX7_valueOf 9 (some .int)) ({ frames := 1, cells := 0, slots := 0, locals := 24 } : Room) (mPc D cI cB b [.ref b, .int p1, .int p2, .int p3, .int p4] S) (mQp D cI cB b S post) 0 0 (mA b) := by
  refine Met.ofW (cc := cX7_valueOf) (maxL := 9) (ret := (some .int)) (by decide) rfl ?_
  intro p e s m args below meth c s₁ B hml hv
  obtain ⟨rfl, hP, hK⟩ := hv
  have hx := B.exec
  have hb := B.bytes
  have hr := B.returns
  have hts := atoms_spec (ws := ws_ yX7_valueOf cX7_valueOf 9 (some .int)) B.pre
  have hts : ∀ w ∈ lw_all, w.before _ s = true := fun w h => hts w (List.mem_cons_of_mem _ h)
  have hown : s.vm.findClass RX7 = some m.cls := findClass_of_methodNamed B.named
  have hlocks := B.notSynchronized
  have hS : va_S (mA b) s.heap s.heap [] := va_S.rf
  have hl := lv_entry ([.ref b, .int p1, .int p2, .int p3, .int p4]) (n := 9) (Nat.le_of_ble_eq_true rfl)
  rw [lg_entry_eq]
  generalize (lg_sl ([.ref b, .int p1, .int p2, .int p3, .int p4]) ++ List.replicate (9 - (lg_sl ([.ref b, .int p1, .int p2, .int p3, .int p4])).length) Slot.unset).toArray = ls at hl ⊢
  have hl : lv_has ls 9 [(0, .ref b), (1, .int p1), (2, .int p2), (3, .int p3), (4, .int p4)] := hl
  have L6 : ∀  (x5 : Int32) (x6 : Int32) (H : Heap) (locs : List Loc) (ls : Array Slot), wp_valueOf_l6 p1 p2 p3 p4 post  x5 x6 S → mW D cI cB b S H → va_S (mA b) s.heap H locs → lv_has ls 9 [(0, .ref b), (1, .int p1), (2, .int p2), (3, .int p3), (4, .int p4), (5, .int x5), (6, .int x6)] → W p l e (headSpec (ws_ yX7_valueOf cX7_valueOf 9 (some .int)) ({ frames := 1, cells := 0, slots := 0, locals := 24 } : Room)).room s m ([.ref b, .int p1, .int p2, .int p3, .int p4] : List Value).toArray below meth c H locs 0 0 (MQ below (mQp D cI cB b S post) ([.ref b, .int p1, .int p2, .int p3, .int p4] : List Value).toArray s 0 0 (mA b)) (F0 m 6 ls []) := by
    intro  x5 x6  H locs ls h hP hS hl
    obtain ⟨I6, n6, hI, hstep6⟩ := h
    induction n6 using Nat.strongRecOn generalizing x5 x6 H locs ls with
    | ind n6 ih6 =>
      have h : wp_valueOf_b6 p1 p2 p3 p4 post (fun x5 x6 => ∃ mm, mm < n6 ∧ I6 mm (x5, x6))  x5 x6 S := hstep6 n6 _ hI
      clear hI
      unfold wp_valueOf_b6 at h
      refine lv_iload hx hb dX7_valueOf_6 (lv_at hl 6 rfl) ?_
      refine lv_aload_n hx hb dX7_valueOf_8 rfl (lv_at hl 0 rfl) ?_
      refine m_get (v := .int (S 0 27)) hx hb hts hown hK hP 27 (by decide) q1237 rfl rfl dX7_valueOf_9 ?_
      refine lv_icmp_ge (tgt := 103) hx hb dX7_valueOf_12 (by decide) (fun c_19 => ?_) (fun c_19 => ?_)
      · have h := h.1 c_19
        refine lv_iload hx hb dX7_valueOf_103 (lv_at hl 5 rfl) ?_
        exact W.iret (v := x5) hx hb hr (fun t ht hW => ⟨⟨x5, (), rfl, h, by rw [ht]; exact hP, va_K.moved hW.alike hK⟩, hS.F ht⟩) hS.2.2 dX7_valueOf_105
      · have h := h.2 c_19
        refine lv_aload_n hx hb dX7_valueOf_15 rfl (lv_at hl 0 rfl) ?_
        refine m_get (v := .ref (b + 5)) hx hb hts hown hK hP 26 (by decide) q1236 rfl rfl dX7_valueOf_16 ?_
        refine lv_iload hx hb dX7_valueOf_19 (lv_at hl 6 rfl) ?_
        obtain ⟨j_1, hj_1, ej_1, h⟩ := h
        refine m_iald hx hb hK hP (k := 5) mok_5 ej_1 hj_1 dX7_valueOf_21 ?_
        refine lv_istore (lv' := [(7, .int (S 5 j_1)), (0, .ref b), (1, .int p1), (2, .int p2), (3, .int p3), (4, .int p4), (5, .int x5), (6, .int x6)]) hx hb dX7_valueOf_22 hl (by decide) rfl (fun ls hl => ?_)
        refine lv_aload_n hx hb dX7_valueOf_24 rfl (lv_at hl 1 rfl) ?_
        refine lv_iload_n hx hb dX7_valueOf_25 rfl (lv_at hl 2 rfl) ?_
        refine lv_iload hx hb dX7_valueOf_26 (lv_at hl 0 rfl) ?_
        refine m_cVp (As := [.int p1, .int (S 5 j_1)]) (rest := []) ⟨hx, hb, hml, hown, hts⟩ (met_coef l D cI cB b p1 (S 5 j_1)  S _ h) (cwV 2 hts (lw_V q1526 q1528 qs80 q128 q1529) rfl rfl rfl cwd_coef ⟨Nat.le_of_ble_eq_true rfl, Nat.le_of_ble_eq_true rfl⟩) hK hP hS rfl hl.1 rfl (Nat.le_of_ble_eq_true rfl) dX7_valueOf_28 ⟨Nat.zero_le _, Nat.zero_le _⟩ (fun r_2 H locs h hP hS => ?_)
        refine lv_aload_n hx hb dX7_valueOf_31 rfl (lv_at hl 1 rfl) ?_
        refine lv_iload_n hx hb dX7_valueOf_32 rfl (lv_at hl 3 rfl) ?_
        refine lv_iload hx hb dX7_valueOf_33 (lv_at hl 0 rfl) ?_
        refine lv_iconst (v := 0) hx hb dX7_valueOf_35 (by decide) ?_
        refine m_cSp (As := [.int (S 5 j_1), .int 0]) (rest := [.int p2, .ref b, .int r_2]) ⟨hx, hb, hml, hown, hts⟩ (met_exponent l D cI cB b (S 5 j_1) 0  S _ h) (va_cwS 2 hts (lw_S q1545 q1546 q128 q1547) rfl rfl rfl cwd_exponent ⟨Nat.le_of_ble_eq_true rfl, Nat.le_of_ble_eq_true rfl⟩) hK hP hS rfl hl.1 rfl (Nat.le_of_ble_eq_true rfl) dX7_valueOf_36 ⟨Nat.zero_le _, Nat.zero_le _⟩ (fun r_4 H locs h hP hS => ?_)
        refine m_cVp (As := [.int p2, .int r_4]) (rest := [.int r_2]) ⟨hx, hb, hml, hown, hts⟩ (met_power l D cI cB b p2 r_4  S _ h) (cwV 2 hts (lw_V q1589 q1591 qs86 q128 q1592) rfl rfl rfl cwd_power ⟨Nat.le_of_ble_eq_true rfl, Nat.le_of_ble_eq_true rfl⟩) hK hP hS rfl hl.1 rfl (Nat.le_of_ble_eq_true rfl) dX7_valueOf_39 ⟨Nat.zero_le _, Nat.zero_le _⟩ (fun r_6 H locs h hP hS => ?_)
        refine lv_imul hx hb dX7_valueOf_42 ?_
        refine lv_aload_n hx hb dX7_valueOf_43 rfl (lv_at hl 1 rfl) ?_
        refine m_get (v := .int (S 0 5)) hx hb hts hown hK hP 5 (by decide) q1215 rfl rfl dX7_valueOf_44 ?_
        obtain ⟨hne, h⟩ := h
        refine m_irem hx hb dX7_valueOf_47 hne ?_
        refine lv_aload_n hx hb dX7_valueOf_48 rfl (lv_at hl 1 rfl) ?_
        refine lv_iload_n hx hb dX7_valueOf_49 rfl (lv_at hl 4 rfl) ?_
        refine lv_iload hx hb dX7_valueOf_50 (lv_at hl 0 rfl) ?_
        refine lv_iconst (v := 1) hx hb dX7_valueOf_52 (by decide) ?_
        refine m_cSp (As := [.int (S 5 j_1), .int 1]) (rest := [.int p3, .ref b, .int (jrem (r_2 * r_6) (S 0 5))]) ⟨hx, hb, hml, hown, hts⟩ (met_exponent l D cI cB b (S 5 j_1) 1  S _ h) (va_cwS 2 hts (lw_S q1545 q1546 q128 q1547) rfl rfl rfl cwd_exponent ⟨Nat.le_of_ble_eq_true rfl, Nat.le_of_ble_eq_true rfl⟩) hK hP hS rfl hl.1 rfl (Nat.le_of_ble_eq_true rfl) dX7_valueOf_53 ⟨Nat.zero_le _, Nat.zero_le _⟩ (fun r_8 H locs h hP hS => ?_)
        refine m_cVp (As := [.int p3, .int r_8]) (rest := [.int (jrem (r_2 * r_6) (S 0 5))]) ⟨hx, hb, hml, hown, hts⟩ (met_power l D cI cB b p3 r_8  S _ h) (cwV 2 hts (lw_V q1589 q1591 qs86 q128 q1592) rfl rfl rfl cwd_power ⟨Nat.le_of_ble_eq_true rfl, Nat.le_of_ble_eq_true rfl⟩) hK hP hS rfl hl.1 rfl (Nat.le_of_ble_eq_true rfl) dX7_valueOf_56 ⟨Nat.zero_le _, Nat.zero_le _⟩ (fun r_10 H locs h hP hS => ?_)
        refine lv_imul hx hb dX7_valueOf_59 ?_
        refine lv_aload_n hx hb dX7_valueOf_60 rfl (lv_at hl 1 rfl) ?_
        refine m_get (v := .int (S 0 5)) hx hb hts hown hK hP 5 (by decide) q1215 rfl rfl dX7_valueOf_61 ?_
        obtain ⟨hne, h⟩ := h
        refine m_irem hx hb dX7_valueOf_64 hne ?_
        refine lv_aload_n hx hb dX7_valueOf_65 rfl (lv_at hl 1 rfl) ?_
        refine lv_iload hx hb dX7_valueOf_66 (lv_at hl 5 rfl) ?_
        refine lv_iload hx hb dX7_valueOf_68 (lv_at hl 0 rfl) ?_
        refine lv_iconst (v := 2) hx hb dX7_valueOf_70 (by decide) ?_
        refine m_cSp (As := [.int (S 5 j_1), .int 2]) (rest := [.int p4, .ref b, .int (jrem ((jrem (r_2 * r_6) (S 0 5)) * r_10) (S 0 5))]) ⟨hx, hb, hml, hown, hts⟩ (met_exponent l D cI cB b (S 5 j_1) 2  S _ h) (va_cwS 2 hts (lw_S q1545 q1546 q128 q1547) rfl rfl rfl cwd_exponent ⟨Nat.le_of_ble_eq_true rfl, Nat.le_of_ble_eq_true rfl⟩) hK hP hS rfl hl.1 rfl (Nat.le_of_ble_eq_true rfl) dX7_valueOf_71 ⟨Nat.zero_le _, Nat.zero_le _⟩ (fun r_12 H locs h hP hS => ?_)
        refine m_cVp (As := [.int p4, .int r_12]) (rest := [.int (jrem ((jrem (r_2 * r_6) (S 0 5)) * r_10) (S 0 5))]) ⟨hx, hb, hml, hown, hts⟩ (met_power l D cI cB b p4 r_12  S _ h) (cwV 2 hts (lw_V q1589 q1591 qs86 q128 q1592) rfl rfl rfl cwd_power ⟨Nat.le_of_ble_eq_true rfl, Nat.le_of_ble_eq_true rfl⟩) hK hP hS rfl hl.1 rfl (Nat.le_of_ble_eq_true rfl) dX7_valueOf_74 ⟨Nat.zero_le _, Nat.zero_le _⟩ (fun r_14 H locs h hP hS => ?_)
        refine lv_imul hx hb dX7_valueOf_77 ?_
        refine lv_aload_n hx hb dX7_valueOf_78 rfl (lv_at hl 1 rfl) ?_
        refine m_get (v := .int (S 0 5)) hx hb hts hown hK hP 5 (by decide) q1215 rfl rfl dX7_valueOf_79 ?_
        obtain ⟨hne, h⟩ := h
        refine m_irem hx hb dX7_valueOf_82 hne ?_
        refine lv_topi (fun x8_16 ex8_16 => ?_)
        have h := h x8_16 ex8_16
        refine lv_istore (lv' := [(8, .int x8_16), (7, .int (S 5 j_1)), (0, .ref b), (1, .int p1), (2, .int p2), (3, .int p3), (4, .int p4), (5, .int x5), (6, .int x6)]) hx hb dX7_valueOf_83 hl (by decide) rfl (fun ls hl => ?_)
        refine lv_iload hx hb dX7_valueOf_85 (lv_at hl 7 rfl) ?_
        refine lv_iload hx hb dX7_valueOf_87 (lv_at hl 0 rfl) ?_
        refine lv_iadd hx hb dX7_valueOf_89 ?_
        refine lv_aload_n hx hb dX7_valueOf_90 rfl (lv_at hl 2 rfl) ?_
        refine m_get (v := .int (S 0 5)) hx hb hts hown hK hP 5 (by decide) q1215 rfl rfl dX7_valueOf_91 ?_
        obtain ⟨hne, h⟩ := h
        refine m_irem hx hb dX7_valueOf_94 hne ?_
        refine lv_topi (fun x5_17 ex5_17 => ?_)
        have h := h x5_17 ex5_17
        refine lv_istore (lv' := [(5, .int x5_17), (8, .int x8_16), (7, .int (S 5 j_1)), (0, .ref b), (1, .int p1), (2, .int p2), (3, .int p3), (4, .int p4), (6, .int x6)]) hx hb dX7_valueOf_95 hl (by decide) rfl (fun ls hl => ?_)
        obtain ⟨x6_18, ex6_18⟩ : ∃ y : Int32, y = x6 + 1 := ⟨_, rfl⟩
        have h := h x6_18 ex6_18
        refine lv_iinc (v := x6_18) (lv' := [(6, .int x6_18), (5, .int x5_17), (8, .int x8_16), (7, .int (S 5 j_1)), (0, .ref b), (1, .int p1), (2, .int p2), (3, .int p3), (4, .int p4)]) hx hb dX7_valueOf_97 hl (k := 8) rfl (by rw [ex6_18]; rfl) (by decide) rfl (fun ls hl => ?_)
        refine lv_goto (tgt := 6) hx hb dX7_valueOf_100 (by decide) ?_
        obtain ⟨mm, hmm, h⟩ := h
        exact ih6 mm hmm _ _ _ _ _ hP hS (lv_sub hl [4, 5, 6, 7, 8, 1, 0] rfl) h
  unfold wp_valueOf at h
  refine lv_iconst (v := 0) hx hb dX7_valueOf_0 (by decide) ?_
  refine lv_istore (lv' := [(5, .int 0), (0, .ref b), (1, .int p1), (2, .int p2), (3, .int p3), (4, .int p4)]) hx hb dX7_valueOf_1 hl (by decide) rfl (fun ls hl => ?_)
  refine lv_iconst (v := 0) hx hb dX7_valueOf_3 (by decide) ?_
  refine lv_istore (lv' := [(6, .int 0), (5, .int 0), (0, .ref b), (1, .int p1), (2, .int p2), (3, .int p3), (4, .int p4)]) hx hb dX7_valueOf_4 hl (by decide) rfl (fun ls hl => ?_)
  exact L6 _ _  _ _ _ h hP hS (lv_sub hl [2, 3, 4, 5, 6, 1, 0] rfl)
def wp_value_j44 (p1 : Int32) (p2 : Int32) (p3 : Int32) (p4 : Int32) (post : Int32 → St → Prop)  (S : St) : Prop :=
    wp_refused 2 S (fun r_1 S_2 =>
    post r_1 S_2)
def wp_value (p1 : Int32) (p2 : Int32) (p3 : Int32) (p4 : Int32) (S : St) (post : Int32 → St → Prop) : Prop :=
  ∀ S_3 : St, S_3 = bw S 0 0 0 →
  wp_isReg p1 S_3 (fun r_4 =>
  ((¬ r_4 = 0 →
    wp_isValue p2 S_3 (fun r_6 =>
    ((r_6 = 0 →
      wp_value_j44 p1 p2 p3 p4 post  S_3) ∧
     (¬ (r_6 = 0) →
      wp_isValue p3 S_3 (fun r_8 =>
      ((r_8 = 0 →
        wp_value_j44 p1 p2 p3 p4 post  S_3) ∧
       (¬ (r_8 = 0) →
        wp_isValue p4 S_3 (fun r_10 =>
        ((¬ r_10 = 0 →
          wp_laysKeys p1 S_3 (fun S_13 =>
          wp_valueOf p1 p2 p3 p4 S_13 (fun r_14 =>
          wp_good r_14 S_13 (fun r_16 S_17 =>
          post r_16 S_17)))) ∧
         (r_10 = 0 →
          wp_value_j44 p1 p2 p3 p4 post  S_3)))))))))) ∧
   (r_4 = 0 →
    wp_refused 1 S_3 (fun r_21 S_22 =>
    post r_21 S_22))))
set_option maxHeartbeats 4000000 in
theorem met_value (l : Launch) (D : va_G) (cI cB : ClassId) (b : Nat) (p1 : Int32) (p2 : Int32) (p3 : Int32) (p4 : Int32)  (S : St) (post : Int32 → St → Prop) (h : wp_value p1 p2 p3 p4 S post) : Met l yX7_value (ws_ yX7_value cX7_value 5 (some .int)) ({ frames := 2, cells := 0, slots := 0, locals := 52 } : Room) (mPc D cI cB b [.ref b, .int p1, .int p2, .int p3, .int p4] S) (mQi D cI cB b post) 0 0 (mA b) := by
  refine Met.ofW (cc := cX7_value) (maxL := 5) (ret := (some .int)) (by decide) rfl ?_
  intro p e s m args below meth c s₁ B hml hv
  obtain ⟨rfl, hP, hK⟩ := hv
  have hx := B.exec
  have hb := B.bytes
  have hr := B.returns
  have hts := atoms_spec (ws := ws_ yX7_value cX7_value 5 (some .int)) B.pre
  have hts : ∀ w ∈ lw_all, w.before _ s = true := fun w h => hts w (List.mem_cons_of_mem _ h)
  have hown : s.vm.findClass RX7 = some m.cls := findClass_of_methodNamed B.named
  have hlocks := B.notSynchronized
  have hS : va_S (mA b) s.heap s.heap [] := va_S.rf
  have hl := lv_entry ([.ref b, .int p1, .int p2, .int p3, .int p4]) (n := 5) (Nat.le_of_ble_eq_true rfl)
  rw [lg_entry_eq]
  generalize (lg_sl ([.ref b, .int p1, .int p2, .int p3, .int p4]) ++ List.replicate (5 - (lg_sl ([.ref b, .int p1, .int p2, .int p3, .int p4])).length) Slot.unset).toArray = ls at hl ⊢
  have hl : lv_has ls 5 [(0, .ref b), (1, .int p1), (2, .int p2), (3, .int p3), (4, .int p4)] := hl
  have J44 : ∀  (S : St) (H : Heap) (locs : List Loc) (ls : Array Slot), wp_value_j44 p1 p2 p3 p4 post  S → mW D cI cB b S H → va_S (mA b) s.heap H locs → lv_has ls 5 [(0, .ref b)] → W p l e (headSpec (ws_ yX7_value cX7_value 5 (some .int)) ({ frames := 2, cells := 0, slots := 0, locals := 52 } : Room)).room s m ([.ref b, .int p1, .int p2, .int p3, .int p4] : List Value).toArray below meth c H locs 0 0 (MQ below (mQi D cI cB b post) ([.ref b, .int p1, .int p2, .int p3, .int p4] : List Value).toArray s 0 0 (mA b)) (F0 m 44 ls []) := by
    intro  S H locs ls h hP hS hl
    unfold wp_value_j44 at h
    refine lv_aload_n hx hb dX7_value_44 rfl (lv_at hl 0 rfl) ?_
    refine lv_iconst (v := 2) hx hb dX7_value_45 (by decide) ?_
    refine m_cVi (As := [.int 2]) (rest := []) ⟨hx, hb, hml, hown, hts⟩ (met_refused l D cI cB b 2  S _ h) (cwV 1 hts (lw_V q1382 q1384 qs58 q128 q1385) rfl rfl rfl cwd_refused ⟨Nat.le_of_ble_eq_true rfl, Nat.le_of_ble_eq_true rfl⟩) hK hP hS rfl hl.1 rfl (Nat.le_of_ble_eq_true rfl) dX7_value_46 ⟨Nat.zero_le _, Nat.zero_le _⟩ (fun r_1 S_2 H locs h hP hS => ?_)
    exact W.iret (v := r_1) hx hb hr (fun t ht hW => ⟨⟨r_1, S_2, rfl, h, by rw [ht]; exact hP, va_K.moved hW.alike hK⟩, hS.F ht⟩) hS.2.2 dX7_value_49
  unfold wp_value at h
  refine lv_aload_n hx hb dX7_value_0 rfl (lv_at hl 0 rfl) ?_
  refine lv_iconst (v := 0) hx hb dX7_value_1 (by decide) ?_
  obtain ⟨S_3, eS_3⟩ : ∃ z : St, z = bw S 0 0 0 := ⟨_, rfl⟩
  have h := h S_3 eS_3
  refine m_put (S1 := S_3) (v := .int 0) (ty := .int) hx hb hts hown hK hP hS 0 (by decide) q1210 rfl rfl (tyX7_ok 0 (by decide)) rfl rfl (by rw [eS_3]; exact mset_0 b S 0) (by rw [eS_3]; exact bw_0) dX7_value_2 (fun H locs hP hS => ?_)
  refine lv_aload_n hx hb dX7_value_5 rfl (lv_at hl 0 rfl) ?_
  refine lv_iload_n hx hb dX7_value_6 rfl (lv_at hl 1 rfl) ?_
  refine m_cVp (As := [.int p1]) (rest := []) ⟨hx, hb, hml, hown, hts⟩ (met_isReg l D cI cB b p1  S_3 _ h) (cwV 1 hts (lw_V q1534 q1536 qs81 q128 q1537) rfl rfl rfl cwd_isReg ⟨Nat.le_of_ble_eq_true rfl, Nat.le_of_ble_eq_true rfl⟩) hK hP hS rfl hl.1 rfl (Nat.le_of_ble_eq_true rfl) dX7_value_7 ⟨Nat.zero_le _, Nat.zero_le _⟩ (fun r_4 H locs h hP hS => ?_)
  refine lv_if_ne (tgt := 19) hx hb dX7_value_10 (by decide) (fun c_23 => ?_) (fun c_23 => ?_)
  · have h := h.1 c_23
    refine lv_aload_n hx hb dX7_value_19 rfl (lv_at hl 0 rfl) ?_
    refine lv_iload_n hx hb dX7_value_20 rfl (lv_at hl 2 rfl) ?_
    refine m_cVp (As := [.int p2]) (rest := []) ⟨hx, hb, hml, hown, hts⟩ (met_isValue l D cI cB b p2  S_3 _ h) (cwV 1 hts (lw_V q1577 q1579 qs83 q128 q1580) rfl rfl rfl cwd_isValue ⟨Nat.le_of_ble_eq_true rfl, Nat.le_of_ble_eq_true rfl⟩) hK hP hS rfl hl.1 rfl (Nat.le_of_ble_eq_true rfl) dX7_value_21 ⟨Nat.zero_le _, Nat.zero_le _⟩ (fun r_6 H locs h hP hS => ?_)
    refine lv_if_eq (tgt := 44) hx hb dX7_value_24 (by decide) (fun c_20 => ?_) (fun c_20 => ?_)
    · have h := h.1 c_20
      exact J44  _ _ _ _ h hP hS (lv_sub hl [0] rfl)
    · have h := h.2 c_20
      refine lv_aload_n hx hb dX7_value_27 rfl (lv_at hl 0 rfl) ?_
      refine lv_iload_n hx hb dX7_value_28 rfl (lv_at hl 3 rfl) ?_
      refine m_cVp (As := [.int p3]) (rest := []) ⟨hx, hb, hml, hown, hts⟩ (met_isValue l D cI cB b p3  S_3 _ h) (cwV 1 hts (lw_V q1577 q1579 qs83 q128 q1580) rfl rfl rfl cwd_isValue ⟨Nat.le_of_ble_eq_true rfl, Nat.le_of_ble_eq_true rfl⟩) hK hP hS rfl hl.1 rfl (Nat.le_of_ble_eq_true rfl) dX7_value_29 ⟨Nat.zero_le _, Nat.zero_le _⟩ (fun r_8 H locs h hP hS => ?_)
      refine lv_if_eq (tgt := 44) hx hb dX7_value_32 (by decide) (fun c_19 => ?_) (fun c_19 => ?_)
      · have h := h.1 c_19
        exact J44  _ _ _ _ h hP hS (lv_sub hl [0] rfl)
      · have h := h.2 c_19
        refine lv_aload_n hx hb dX7_value_35 rfl (lv_at hl 0 rfl) ?_
        refine lv_iload hx hb dX7_value_36 (lv_at hl 4 rfl) ?_
        refine m_cVp (As := [.int p4]) (rest := []) ⟨hx, hb, hml, hown, hts⟩ (met_isValue l D cI cB b p4  S_3 _ h) (cwV 1 hts (lw_V q1577 q1579 qs83 q128 q1580) rfl rfl rfl cwd_isValue ⟨Nat.le_of_ble_eq_true rfl, Nat.le_of_ble_eq_true rfl⟩) hK hP hS rfl hl.1 rfl (Nat.le_of_ble_eq_true rfl) dX7_value_38 ⟨Nat.zero_le _, Nat.zero_le _⟩ (fun r_10 H locs h hP hS => ?_)
        refine lv_if_ne (tgt := 50) hx hb dX7_value_41 (by decide) (fun c_18 => ?_) (fun c_18 => ?_)
        · have h := h.1 c_18
          refine lv_aload_n hx hb dX7_value_50 rfl (lv_at hl 0 rfl) ?_
          refine lv_iload_n hx hb dX7_value_51 rfl (lv_at hl 1 rfl) ?_
          refine m_cVv (As := [.int p1]) (rest := []) ⟨hx, hb, hml, hown, hts⟩ (met_laysKeys l D cI cB b p1  S_3 _ h) (cwV 1 hts (lw_V q1581 q1583 qs84 q128 q1584) rfl rfl rfl cwd_laysKeys ⟨Nat.le_of_ble_eq_true rfl, Nat.le_of_ble_eq_true rfl⟩) hK hP hS rfl hl.1 rfl (Nat.le_of_ble_eq_true rfl) dX7_value_52 ⟨Nat.zero_le _, Nat.zero_le _⟩ (fun S_13 H locs h hP hS => ?_)
          refine lv_aload_n hx hb dX7_value_55 rfl (lv_at hl 0 rfl) ?_
          refine lv_aload_n hx hb dX7_value_56 rfl (lv_at hl 0 rfl) ?_
          refine lv_iload_n hx hb dX7_value_57 rfl (lv_at hl 1 rfl) ?_
          refine lv_iload_n hx hb dX7_value_58 rfl (lv_at hl 2 rfl) ?_
          refine lv_iload_n hx hb dX7_value_59 rfl (lv_at hl 3 rfl) ?_
          refine lv_iload hx hb dX7_value_60 (lv_at hl 4 rfl) ?_
          refine m_cVp (As := [.int p1, .int p2, .int p3, .int p4]) (rest := [.ref b]) ⟨hx, hb, hml, hown, hts⟩ (met_valueOf l D cI cB b p1 p2 p3 p4  S_13 _ h) (cwV 4 hts (lw_V q1585 q1587 qs85 q128 q1588) rfl rfl rfl cwd_valueOf ⟨Nat.le_of_ble_eq_true rfl, Nat.le_of_ble_eq_true rfl⟩) hK hP hS rfl hl.1 rfl (Nat.le_of_ble_eq_true rfl) dX7_value_62 ⟨Nat.zero_le _, Nat.zero_le _⟩ (fun r_14 H locs h hP hS => ?_)
          refine m_cVi (As := [.int r_14]) (rest := []) ⟨hx, hb, hml, hown, hts⟩ (met_good l D cI cB b r_14  S_13 _ h) (cwV 1 hts (lw_V q1498 q1500 qs76 q128 q1501) rfl rfl rfl cwd_good ⟨Nat.le_of_ble_eq_true rfl, Nat.le_of_ble_eq_true rfl⟩) hK hP hS rfl hl.1 rfl (Nat.le_of_ble_eq_true rfl) dX7_value_65 ⟨Nat.zero_le _, Nat.zero_le _⟩ (fun r_16 S_17 H locs h hP hS => ?_)
          exact W.iret (v := r_16) hx hb hr (fun t ht hW => ⟨⟨r_16, S_17, rfl, h, by rw [ht]; exact hP, va_K.moved hW.alike hK⟩, hS.F ht⟩) hS.2.2 dX7_value_68
        · have h := h.2 c_18
          exact J44  _ _ _ _ h hP hS (lv_sub hl [0] rfl)
  · have h := h.2 c_23
    refine lv_aload_n hx hb dX7_value_13 rfl (lv_at hl 0 rfl) ?_
    refine lv_iconst (v := 1) hx hb dX7_value_14 (by decide) ?_
    refine m_cVi (As := [.int 1]) (rest := []) ⟨hx, hb, hml, hown, hts⟩ (met_refused l D cI cB b 1  S_3 _ h) (cwV 1 hts (lw_V q1382 q1384 qs58 q128 q1385) rfl rfl rfl cwd_refused ⟨Nat.le_of_ble_eq_true rfl, Nat.le_of_ble_eq_true rfl⟩) hK hP hS rfl hl.1 rfl (Nat.le_of_ble_eq_true rfl) dX7_value_15 ⟨Nat.zero_le _, Nat.zero_le _⟩ (fun r_21 S_22 H locs h hP hS => ?_)
    exact W.iret (v := r_21) hx hb hr (fun t ht hW => ⟨⟨r_21, S_22, rfl, h, by rw [ht]; exact hP, va_K.moved hW.alike hK⟩, hS.F ht⟩) hS.2.2 dX7_value_18
def wp_roots_j152 (p1 : Int32) (post : Int32 → St → Prop) (R103 : Int32 → Int32 → Prop) (R112 : Int32 → Int32 → Prop) (R121 : Int32 → Int32 → Prop) (x2 : Int32) (x3 : Int32) (x4 : Int32) (x5 : Int32) (x6 : Int32) (x7 : Int32) (x8 : Int32) (S : St) : Prop :=
                ∀ x8_1 : Int32, x8_1 = x8 + 1 →
                R121 x5 x8_1
def wp_roots_b121 (p1 : Int32) (post : Int32 → St → Prop) (R103 : Int32 → Int32 → Prop) (R112 : Int32 → Int32 → Prop) (R121 : Int32 → Int32 → Prop) (x2 : Int32) (x3 : Int32) (x4 : Int32) (x6 : Int32) (x7 : Int32) (x5 : Int32) (x8 : Int32) (S : St) : Prop :=
              ((x4 ≤ x8 →
                ∀ x7_2 : Int32, x7_2 = x7 + 1 →
                R112 x5 x7_2) ∧
               (¬ (x4 ≤ x8) →
                wp_valueOf p1 x6 x7 x8 S (fun r_3 =>
                ((¬ r_3 = 0 →
                  ∀ x5_5 : Int32, x5_5 = (x5 + 0) →
                  wp_roots_j152 p1 post R103 R112 R121 x2 x3 x4 x5_5 x6 x7 x8 S) ∧
                 (r_3 = 0 →
                  ∀ x5_6 : Int32, x5_6 = (x5 + 1) →
                  wp_roots_j152 p1 post R103 R112 R121 x2 x3 x4 x5_6 x6 x7 x8 S)))))
def wp_roots_l121 (p1 : Int32) (post : Int32 → St → Prop) (R103 : Int32 → Int32 → Prop) (R112 : Int32 → Int32 → Prop) (x2 : Int32) (x3 : Int32) (x4 : Int32) (x6 : Int32) (x7 : Int32) (x5 : Int32) (x8 : Int32) (S : St) : Prop := wLoop (fun (R : (Int32 × Int32) → Prop) (v : Int32 × Int32) => wp_roots_b121 p1 post R103 R112 (fun x5 x8 => R (x5, x8)) x2 x3 x4 x6 x7 v.1 v.2 S) (x5, x8)
def wp_roots_b112 (p1 : Int32) (post : Int32 → St → Prop) (R103 : Int32 → Int32 → Prop) (R112 : Int32 → Int32 → Prop) (x2 : Int32) (x3 : Int32) (x4 : Int32) (x6 : Int32) (x5 : Int32) (x7 : Int32) (S : St) : Prop :=
          ((x3 ≤ x7 →
            ∀ x6_9 : Int32, x6_9 = x6 + 1 →
            R103 x5 x6_9) ∧
           (¬ (x3 ≤ x7) →
            wp_roots_l121 p1 post R103 R112 x2 x3 x4 x6 x7 x5 0 S))
def wp_roots_l112 (p1 : Int32) (post : Int32 → St → Prop) (R103 : Int32 → Int32 → Prop) (x2 : Int32) (x3 : Int32) (x4 : Int32) (x6 : Int32) (x5 : Int32) (x7 : Int32) (S : St) : Prop := wLoop (fun (R : (Int32 × Int32) → Prop) (v : Int32 × Int32) => wp_roots_b112 p1 post R103 (fun x5 x7 => R (x5, x7)) x2 x3 x4 x6 v.1 v.2 S) (x5, x7)
def wp_roots_b103 (p1 : Int32) (post : Int32 → St → Prop) (R103 : Int32 → Int32 → Prop) (x2 : Int32) (x3 : Int32) (x4 : Int32) (x5 : Int32) (x6 : Int32) (S : St) : Prop :=
      ((x2 ≤ x6 →
        wp_good x5 S (fun r_11 S_12 =>
        post r_11 S_12)) ∧
       (¬ (x2 ≤ x6) →
        wp_roots_l112 p1 post R103 x2 x3 x4 x6 x5 0 S))
def wp_roots_l103 (p1 : Int32) (post : Int32 → St → Prop) (x2 : Int32) (x3 : Int32) (x4 : Int32) (x5 : Int32) (x6 : Int32) (S : St) : Prop := wLoop (fun (R : (Int32 × Int32) → Prop) (v : Int32 × Int32) => wp_roots_b103 p1 post (fun x5 x6 => R (x5, x6)) x2 x3 x4 v.1 v.2 S) (x5, x6)
def wp_roots_j74 (p1 : Int32) (post : Int32 → St → Prop) (x2 : Int32) (x3 : Int32) (x4 : Int32) (S : St) : Prop :=
    ((((x2 * x3) * x4) ≤ 10000 →
      wp_laysKeys p1 S (fun S_15 =>
      wp_roots_l103 p1 post x2 x3 x4 0 0 S_15)) ∧
     (¬ (((x2 * x3) * x4) ≤ 10000) →
      wp_refused 5 S (fun r_16 S_17 =>
      post r_16 S_17)))
def wp_roots_j55 (p1 : Int32) (post : Int32 → St → Prop) (x2 : Int32) (x3 : Int32) (S : St) : Prop :=
    wp_degreeBy p1 2 S (fun r_19 =>
    ((r_19 ≤ 0 →
      wp_roots_j74 p1 post x2 x3 1 S) ∧
     (¬ (r_19 ≤ 0) →
      wp_roots_j74 p1 post x2 x3 (S 0 5) S)))
def wp_roots_j37 (p1 : Int32) (post : Int32 → St → Prop) (x2 : Int32) (S : St) : Prop :=
    wp_degreeBy p1 1 S (fun r_22 =>
    ((r_22 ≤ 0 →
      wp_roots_j55 p1 post x2 1 S) ∧
     (¬ (r_22 ≤ 0) →
      wp_roots_j55 p1 post x2 (S 0 5) S)))
def wp_roots (p1 : Int32) (S : St) (post : Int32 → St → Prop) : Prop :=
  ∀ S_25 : St, S_25 = bw S 0 0 0 →
  wp_isReg p1 S_25 (fun r_26 =>
  ((¬ r_26 = 0 →
    wp_degreeBy p1 0 S_25 (fun r_28 =>
    ((r_28 ≤ 0 →
      wp_roots_j37 p1 post 1 S_25) ∧
     (¬ (r_28 ≤ 0) →
      wp_roots_j37 p1 post (S_25 0 5) S_25)))) ∧
   (r_26 = 0 →
    wp_refused 1 S_25 (fun r_31 S_32 =>
    post r_31 S_32))))
set_option maxHeartbeats 4000000 in
theorem met_roots (l : Launch) (D : va_G) (cI cB : ClassId) (b : Nat) (p1 : Int32)  (S : St) (post : Int32 → St → Prop) (h : wp_roots p1 S post) : Met l yX7_roots (ws_ yX7_roots cX7_roots 9 (some .int)) ({ frames := 2, cells := 0, slots := 0, locals := 52 } : Room) (mPc D cI cB b [.ref b, .int p1] S) (mQi D cI cB b post) 0 0 (mA b) := by
  refine Met.ofW (cc := cX7_roots) (maxL := 9) (ret := (some .int)) (by decide) rfl ?_
  intro p e s m args below meth c s₁ B hml hv
  obtain ⟨rfl, hP, hK⟩ := hv
  have hx := B.exec
  have hb := B.bytes
  have hr := B.returns
  have hts := atoms_spec (ws := ws_ yX7_roots cX7_roots 9 (some .int)) B.pre
  have hts : ∀ w ∈ lw_all, w.before _ s = true := fun w h => hts w (List.mem_cons_of_mem _ h)
  have hown : s.vm.findClass RX7 = some m.cls := findClass_of_methodNamed B.named
  have hlocks := B.notSynchronized
  have hS : va_S (mA b) s.heap s.heap [] := va_S.rf
  have hl := lv_entry ([.ref b, .int p1]) (n := 9) (Nat.le_of_ble_eq_true rfl)
  rw [lg_entry_eq]
  generalize (lg_sl ([.ref b, .int p1]) ++ List.replicate (9 - (lg_sl ([.ref b, .int p1])).length) Slot.unset).toArray = ls at hl ⊢
  have hl : lv_has ls 9 [(0, .ref b), (1, .int p1)] := hl
  have L103 : ∀ (x2 : Int32) (x3 : Int32) (x4 : Int32) (x5 : Int32) (x6 : Int32) (S : St) (H : Heap) (locs : List Loc) (ls : Array Slot), wp_roots_l103 p1 post x2 x3 x4 x5 x6 S → mW D cI cB b S H → va_S (mA b) s.heap H locs → lv_has ls 9 [(0, .ref b), (1, .int p1), (2, .int x2), (3, .int x3), (4, .int x4), (5, .int x5), (6, .int x6)] → W p l e (headSpec (ws_ yX7_roots cX7_roots 9 (some .int)) ({ frames := 2, cells := 0, slots := 0, locals := 52 } : Room)).room s m ([.ref b, .int p1] : List Value).toArray below meth c H locs 0 0 (MQ below (mQi D cI cB b post) ([.ref b, .int p1] : List Value).toArray s 0 0 (mA b)) (F0 m 103 ls []) := by
    intro x2 x3 x4 x5 x6 S H locs ls h hP hS hl
    obtain ⟨I103, n103, hI, hstep103⟩ := h
    induction n103 using Nat.strongRecOn generalizing x5 x6 H locs ls with
    | ind n103 ih103 =>
      have h : wp_roots_b103 p1 post (fun x5 x6 => ∃ mm, mm < n103 ∧ I103 mm (x5, x6)) x2 x3 x4 x5 x6 S := hstep103 n103 _ hI
      clear hI
      have L112 : ∀ (x6 : Int32) (x5 : Int32) (x7 : Int32) (H : Heap) (locs : List Loc) (ls : Array Slot), wp_roots_l112 p1 post (fun x5 x6 => ∃ mm, mm < n103 ∧ I103 mm (x5, x6)) x2 x3 x4 x6 x5 x7 S → mW D cI cB b S H → va_S (mA b) s.heap H locs → lv_has ls 9 [(0, .ref b), (1, .int p1), (2, .int x2), (3, .int x3), (4, .int x4), (5, .int x5), (6, .int x6), (7, .int x7)] → W p l e (headSpec (ws_ yX7_roots cX7_roots 9 (some .int)) ({ frames := 2, cells := 0, slots := 0, locals := 52 } : Room)).room s m ([.ref b, .int p1] : List Value).toArray below meth c H locs 0 0 (MQ below (mQi D cI cB b post) ([.ref b, .int p1] : List Value).toArray s 0 0 (mA b)) (F0 m 112 ls []) := by
        intro x6 x5 x7  H locs ls h hP hS hl
        obtain ⟨I112, n112, hI, hstep112⟩ := h
        induction n112 using Nat.strongRecOn generalizing x5 x7 H locs ls with
        | ind n112 ih112 =>
          have h : wp_roots_b112 p1 post (fun x5 x6 => ∃ mm, mm < n103 ∧ I103 mm (x5, x6)) (fun x5 x7 => ∃ mm, mm < n112 ∧ I112 mm (x5, x7)) x2 x3 x4 x6 x5 x7 S := hstep112 n112 _ hI
          clear hI
          have L121 : ∀ (x7 : Int32) (x5 : Int32) (x8 : Int32) (H : Heap) (locs : List Loc) (ls : Array Slot), wp_roots_l121 p1 post (fun x5 x6 => ∃ mm, mm < n103 ∧ I103 mm (x5, x6)) (fun x5 x7 => ∃ mm, mm < n112 ∧ I112 mm (x5, x7)) x2 x3 x4 x6 x7 x5 x8 S → mW D cI cB b S H → va_S (mA b) s.heap H locs → lv_has ls 9 [(0, .ref b), (1, .int p1), (2, .int x2), (3, .int x3), (4, .int x4), (5, .int x5), (6, .int x6), (7, .int x7), (8, .int x8)] → W p l e (headSpec (ws_ yX7_roots cX7_roots 9 (some .int)) ({ frames := 2, cells := 0, slots := 0, locals := 52 } : Room)).room s m ([.ref b, .int p1] : List Value).toArray below meth c H locs 0 0 (MQ below (mQi D cI cB b post) ([.ref b, .int p1] : List Value).toArray s 0 0 (mA b)) (F0 m 121 ls []) := by
            intro x7 x5 x8  H locs ls h hP hS hl
            obtain ⟨I121, n121, hI, hstep121⟩ := h
            induction n121 using Nat.strongRecOn generalizing x5 x8 H locs ls with
            | ind n121 ih121 =>
              have h : wp_roots_b121 p1 post (fun x5 x6 => ∃ mm, mm < n103 ∧ I103 mm (x5, x6)) (fun x5 x7 => ∃ mm, mm < n112 ∧ I112 mm (x5, x7)) (fun x5 x8 => ∃ mm, mm < n121 ∧ I121 mm (x5, x8)) x2 x3 x4 x6 x7 x5 x8 S := hstep121 n121 _ hI
              clear hI
              have J152 : ∀ (x5 : Int32) (x8 : Int32) (H : Heap) (locs : List Loc) (ls : Array Slot), wp_roots_j152 p1 post (fun x5 x6 => ∃ mm, mm < n103 ∧ I103 mm (x5, x6)) (fun x5 x7 => ∃ mm, mm < n112 ∧ I112 mm (x5, x7)) (fun x5 x8 => ∃ mm, mm < n121 ∧ I121 mm (x5, x8)) x2 x3 x4 x5 x6 x7 x8 S → mW D cI cB b S H → va_S (mA b) s.heap H locs → lv_has ls 9 [(0, .ref b), (1, .int p1), (2, .int x2), (3, .int x3), (4, .int x4), (5, .int x5), (6, .int x6), (7, .int x7), (8, .int x8)] → W p l e (headSpec (ws_ yX7_roots cX7_roots 9 (some .int)) ({ frames := 2, cells := 0, slots := 0, locals := 52 } : Room)).room s m ([.ref b, .int p1] : List Value).toArray below meth c H locs 0 0 (MQ below (mQi D cI cB b post) ([.ref b, .int p1] : List Value).toArray s 0 0 (mA b)) (F0 m 152 ls []) := by
                intro x5 x8  H locs ls h hP hS hl
                unfold wp_roots_j152 at h
                obtain ⟨x8_1, ex8_1⟩ : ∃ y : Int32, y = x8 + 1 := ⟨_, rfl⟩
                have h := h x8_1 ex8_1
                refine lv_iinc (v := x8_1) (lv' := [(8, .int x8_1), (0, .ref b), (1, .int p1), (2, .int x2), (3, .int x3), (4, .int x4), (5, .int x5), (6, .int x6), (7, .int x7)]) hx hb dX7_roots_152 hl (k := 8) rfl (by rw [ex8_1]; rfl) (by decide) rfl (fun ls hl => ?_)
                refine lv_goto (tgt := 121) hx hb dX7_roots_155 (by decide) ?_
                obtain ⟨mm, hmm, h⟩ := h
                exact ih121 mm hmm _ _ _ _ _ hP hS (lv_sub hl [1, 2, 3, 4, 5, 6, 7, 8, 0] rfl) h
              unfold wp_roots_b121 at h
              refine lv_iload hx hb dX7_roots_121 (lv_at hl 8 rfl) ?_
              refine lv_iload hx hb dX7_roots_123 (lv_at hl 4 rfl) ?_
              refine lv_icmp_ge (tgt := 158) hx hb dX7_roots_125 (by decide) (fun c_8 => ?_) (fun c_8 => ?_)
              · have h := h.1 c_8
                obtain ⟨x7_2, ex7_2⟩ : ∃ y : Int32, y = x7 + 1 := ⟨_, rfl⟩
                have h := h x7_2 ex7_2
                refine lv_iinc (v := x7_2) (lv' := [(7, .int x7_2), (0, .ref b), (1, .int p1), (2, .int x2), (3, .int x3), (4, .int x4), (5, .int x5), (6, .int x6), (8, .int x8)]) hx hb dX7_roots_158 hl (k := 7) rfl (by rw [ex7_2]; rfl) (by decide) rfl (fun ls hl => ?_)
                refine lv_goto (tgt := 112) hx hb dX7_roots_161 (by decide) ?_
                obtain ⟨mm, hmm, h⟩ := h
                exact ih112 mm hmm _ _ _ _ _ hP hS (lv_sub hl [1, 2, 3, 4, 5, 6, 7, 0] rfl) h
              · have h := h.2 c_8
                refine lv_iload hx hb dX7_roots_128 (lv_at hl 5 rfl) ?_
                refine lv_aload_n hx hb dX7_roots_130 rfl (lv_at hl 0 rfl) ?_
                refine lv_iload_n hx hb dX7_roots_131 rfl (lv_at hl 1 rfl) ?_
                refine lv_iload hx hb dX7_roots_132 (lv_at hl 6 rfl) ?_
                refine lv_iload hx hb dX7_roots_134 (lv_at hl 7 rfl) ?_
                refine lv_iload hx hb dX7_roots_136 (lv_at hl 8 rfl) ?_
                refine m_cVp (As := [.int p1, .int x6, .int x7, .int x8]) (rest := [.int x5]) ⟨hx, hb, hml, hown, hts⟩ (met_valueOf l D cI cB b p1 x6 x7 x8  S _ h) (cwV 4 hts (lw_V q1585 q1587 qs85 q128 q1588) rfl rfl rfl cwd_valueOf ⟨Nat.le_of_ble_eq_true rfl, Nat.le_of_ble_eq_true rfl⟩) hK hP hS rfl hl.1 rfl (Nat.le_of_ble_eq_true rfl) dX7_roots_138 ⟨Nat.zero_le _, Nat.zero_le _⟩ (fun r_3 H locs h hP hS => ?_)
                refine lv_if_ne (tgt := 148) hx hb dX7_roots_141 (by decide) (fun c_7 => ?_) (fun c_7 => ?_)
                · have h := h.1 c_7
                  refine lv_iconst (v := 0) hx hb dX7_roots_148 (by decide) ?_
                  refine lv_iadd hx hb dX7_roots_149 ?_
                  refine lv_topi (fun x5_5 ex5_5 => ?_)
                  have h := h x5_5 ex5_5
                  refine lv_istore (lv' := [(5, .int x5_5), (0, .ref b), (1, .int p1), (2, .int x2), (3, .int x3), (4, .int x4), (6, .int x6), (7, .int x7), (8, .int x8)]) hx hb dX7_roots_150 hl (by decide) rfl (fun ls hl => ?_)
                  exact J152 _ _  _ _ _ h hP hS (lv_sub hl [1, 2, 3, 4, 5, 0, 6, 7, 8] rfl)
                · have h := h.2 c_7
                  refine lv_iconst (v := 1) hx hb dX7_roots_144 (by decide) ?_
                  refine lv_goto (tgt := 149) hx hb dX7_roots_145 (by decide) ?_
                  refine lv_iadd hx hb dX7_roots_149 ?_
                  refine lv_topi (fun x5_6 ex5_6 => ?_)
                  have h := h x5_6 ex5_6
                  refine lv_istore (lv' := [(5, .int x5_6), (0, .ref b), (1, .int p1), (2, .int x2), (3, .int x3), (4, .int x4), (6, .int x6), (7, .int x7), (8, .int x8)]) hx hb dX7_roots_150 hl (by decide) rfl (fun ls hl => ?_)
                  exact J152 _ _  _ _ _ h hP hS (lv_sub hl [1, 2, 3, 4, 5, 0, 6, 7, 8] rfl)
          unfold wp_roots_b112 at h
          refine lv_iload hx hb dX7_roots_112 (lv_at hl 7 rfl) ?_
          refine lv_iload_n hx hb dX7_roots_114 rfl (lv_at hl 3 rfl) ?_
          refine lv_icmp_ge (tgt := 164) hx hb dX7_roots_115 (by decide) (fun c_10 => ?_) (fun c_10 => ?_)
          · have h := h.1 c_10
            obtain ⟨x6_9, ex6_9⟩ : ∃ y : Int32, y = x6 + 1 := ⟨_, rfl⟩
            have h := h x6_9 ex6_9
            refine lv_iinc (v := x6_9) (lv' := [(6, .int x6_9), (0, .ref b), (1, .int p1), (2, .int x2), (3, .int x3), (4, .int x4), (5, .int x5), (7, .int x7)]) hx hb dX7_roots_164 hl (k := 6) rfl (by rw [ex6_9]; rfl) (by decide) rfl (fun ls hl => ?_)
            refine lv_goto (tgt := 103) hx hb dX7_roots_167 (by decide) ?_
            obtain ⟨mm, hmm, h⟩ := h
            exact ih103 mm hmm _ _ _ _ _ hP hS (lv_sub hl [1, 2, 3, 4, 5, 6, 0] rfl) h
          · have h := h.2 c_10
            refine lv_iconst (v := 0) hx hb dX7_roots_118 (by decide) ?_
            refine lv_istore (lv' := [(8, .int 0), (0, .ref b), (1, .int p1), (2, .int x2), (3, .int x3), (4, .int x4), (5, .int x5), (6, .int x6), (7, .int x7)]) hx hb dX7_roots_119 hl (by decide) rfl (fun ls hl => ?_)
            exact L121 _ _ _  _ _ _ h hP hS (lv_sub hl [1, 2, 3, 4, 5, 6, 7, 8, 0] rfl)
      unfold wp_roots_b103 at h
      refine lv_iload hx hb dX7_roots_103 (lv_at hl 6 rfl) ?_
      refine lv_iload_n hx hb dX7_roots_105 rfl (lv_at hl 2 rfl) ?_
      refine lv_icmp_ge (tgt := 170) hx hb dX7_roots_106 (by decide) (fun c_13 => ?_) (fun c_13 => ?_)
      · have h := h.1 c_13
        refine lv_aload_n hx hb dX7_roots_170 rfl (lv_at hl 0 rfl) ?_
        refine lv_iload hx hb dX7_roots_171 (lv_at hl 5 rfl) ?_
        refine m_cVi (As := [.int x5]) (rest := []) ⟨hx, hb, hml, hown, hts⟩ (met_good l D cI cB b x5  S _ h) (cwV 1 hts (lw_V q1498 q1500 qs76 q128 q1501) rfl rfl rfl cwd_good ⟨Nat.le_of_ble_eq_true rfl, Nat.le_of_ble_eq_true rfl⟩) hK hP hS rfl hl.1 rfl (Nat.le_of_ble_eq_true rfl) dX7_roots_173 ⟨Nat.zero_le _, Nat.zero_le _⟩ (fun r_11 S_12 H locs h hP hS => ?_)
        exact W.iret (v := r_11) hx hb hr (fun t ht hW => ⟨⟨r_11, S_12, rfl, h, by rw [ht]; exact hP, va_K.moved hW.alike hK⟩, hS.F ht⟩) hS.2.2 dX7_roots_176
      · have h := h.2 c_13
        refine lv_iconst (v := 0) hx hb dX7_roots_109 (by decide) ?_
        refine lv_istore (lv' := [(7, .int 0), (0, .ref b), (1, .int p1), (2, .int x2), (3, .int x3), (4, .int x4), (5, .int x5), (6, .int x6)]) hx hb dX7_roots_110 hl (by decide) rfl (fun ls hl => ?_)
        exact L112 _ _ _  _ _ _ h hP hS (lv_sub hl [1, 2, 3, 4, 5, 6, 7, 0] rfl)
  have J74 : ∀ (x2 : Int32) (x3 : Int32) (x4 : Int32) (S : St) (H : Heap) (locs : List Loc) (ls : Array Slot), wp_roots_j74 p1 post x2 x3 x4 S → mW D cI cB b S H → va_S (mA b) s.heap H locs → lv_has ls 9 [(0, .ref b), (1, .int p1), (2, .int x2), (3, .int x3), (4, .int x4)] → W p l e (headSpec (ws_ yX7_roots cX7_roots 9 (some .int)) ({ frames := 2, cells := 0, slots := 0, locals := 52 } : Room)).room s m ([.ref b, .int p1] : List Value).toArray below meth c H locs 0 0 (MQ below (mQi D cI cB b post) ([.ref b, .int p1] : List Value).toArray s 0 0 (mA b)) (F0 m 74 ls []) := by
    intro x2 x3 x4 S H locs ls h hP hS hl
    unfold wp_roots_j74 at h
    refine lv_iload_n hx hb dX7_roots_74 rfl (lv_at hl 2 rfl) ?_
    refine lv_iload_n hx hb dX7_roots_75 rfl (lv_at hl 3 rfl) ?_
    refine lv_imul hx hb dX7_roots_76 ?_
    refine lv_iload hx hb dX7_roots_77 (lv_at hl 4 rfl) ?_
    refine lv_imul hx hb dX7_roots_79 ?_
    refine lv_sipush (v := 10000) hx hb dX7_roots_80 (by decide) ?_
    refine lv_icmp_le (tgt := 92) hx hb dX7_roots_83 (by decide) (fun c_18 => ?_) (fun c_18 => ?_)
    · have h := h.1 c_18
      refine lv_aload_n hx hb dX7_roots_92 rfl (lv_at hl 0 rfl) ?_
      refine lv_iload_n hx hb dX7_roots_93 rfl (lv_at hl 1 rfl) ?_
      refine m_cVv (As := [.int p1]) (rest := []) ⟨hx, hb, hml, hown, hts⟩ (met_laysKeys l D cI cB b p1  S _ h) (cwV 1 hts (lw_V q1581 q1583 qs84 q128 q1584) rfl rfl rfl cwd_laysKeys ⟨Nat.le_of_ble_eq_true rfl, Nat.le_of_ble_eq_true rfl⟩) hK hP hS rfl hl.1 rfl (Nat.le_of_ble_eq_true rfl) dX7_roots_94 ⟨Nat.zero_le _, Nat.zero_le _⟩ (fun S_15 H locs h hP hS => ?_)
      refine lv_iconst (v := 0) hx hb dX7_roots_97 (by decide) ?_
      refine lv_istore (lv' := [(5, .int 0), (0, .ref b), (1, .int p1), (2, .int x2), (3, .int x3), (4, .int x4)]) hx hb dX7_roots_98 hl (by decide) rfl (fun ls hl => ?_)
      refine lv_iconst (v := 0) hx hb dX7_roots_100 (by decide) ?_
      refine lv_istore (lv' := [(6, .int 0), (5, .int 0), (0, .ref b), (1, .int p1), (2, .int x2), (3, .int x3), (4, .int x4)]) hx hb dX7_roots_101 hl (by decide) rfl (fun ls hl => ?_)
      exact L103 _ _ _ _ _ _ _ _ _ h hP hS (lv_sub hl [2, 3, 4, 5, 6, 1, 0] rfl)
    · have h := h.2 c_18
      refine lv_aload_n hx hb dX7_roots_86 rfl (lv_at hl 0 rfl) ?_
      refine lv_iconst (v := 5) hx hb dX7_roots_87 (by decide) ?_
      refine m_cVi (As := [.int 5]) (rest := []) ⟨hx, hb, hml, hown, hts⟩ (met_refused l D cI cB b 5  S _ h) (cwV 1 hts (lw_V q1382 q1384 qs58 q128 q1385) rfl rfl rfl cwd_refused ⟨Nat.le_of_ble_eq_true rfl, Nat.le_of_ble_eq_true rfl⟩) hK hP hS rfl hl.1 rfl (Nat.le_of_ble_eq_true rfl) dX7_roots_88 ⟨Nat.zero_le _, Nat.zero_le _⟩ (fun r_16 S_17 H locs h hP hS => ?_)
      exact W.iret (v := r_16) hx hb hr (fun t ht hW => ⟨⟨r_16, S_17, rfl, h, by rw [ht]; exact hP, va_K.moved hW.alike hK⟩, hS.F ht⟩) hS.2.2 dX7_roots_91
  have J55 : ∀ (x2 : Int32) (x3 : Int32) (S : St) (H : Heap) (locs : List Loc) (ls : Array Slot), wp_roots_j55 p1 post x2 x3 S → mW D cI cB b S H → va_S (mA b) s.heap H locs → lv_has ls 9 [(0, .ref b), (1, .int p1), (2, .int x2), (3, .int x3)] → W p l e (headSpec (ws_ yX7_roots cX7_roots 9 (some .int)) ({ frames := 2, cells := 0, slots := 0, locals := 52 } : Room)).room s m ([.ref b, .int p1] : List Value).toArray below meth c H locs 0 0 (MQ below (mQi D cI cB b post) ([.ref b, .int p1] : List Value).toArray s 0 0 (mA b)) (F0 m 55 ls []) := by
    intro x2 x3 S H locs ls h hP hS hl
    unfold wp_roots_j55 at h
    refine lv_aload_n hx hb dX7_roots_55 rfl (lv_at hl 0 rfl) ?_
    refine lv_iload_n hx hb dX7_roots_56 rfl (lv_at hl 1 rfl) ?_
    refine lv_iconst (v := 2) hx hb dX7_roots_57 (by decide) ?_
    refine m_cVp (As := [.int p1, .int 2]) (rest := []) ⟨hx, hb, hml, hown, hts⟩ (met_degreeBy l D cI cB b p1 2  S _ h) (cwV 2 hts (lw_V q1559 q1561 qs82 q128 q1562) rfl rfl rfl cwd_degreeBy ⟨Nat.le_of_ble_eq_true rfl, Nat.le_of_ble_eq_true rfl⟩) hK hP hS rfl hl.1 rfl (Nat.le_of_ble_eq_true rfl) dX7_roots_58 ⟨Nat.zero_le _, Nat.zero_le _⟩ (fun r_19 H locs h hP hS => ?_)
    refine lv_if_le (tgt := 71) hx hb dX7_roots_61 (by decide) (fun c_21 => ?_) (fun c_21 => ?_)
    · have h := h.1 c_21
      refine lv_iconst (v := 1) hx hb dX7_roots_71 (by decide) ?_
      refine lv_istore (lv' := [(4, .int 1), (0, .ref b), (1, .int p1), (2, .int x2), (3, .int x3)]) hx hb dX7_roots_72 hl (by decide) rfl (fun ls hl => ?_)
      exact J74 _ _ _ _ _ _ _ h hP hS (lv_sub hl [1, 2, 3, 4, 0] rfl)
    · have h := h.2 c_21
      refine lv_aload_n hx hb dX7_roots_64 rfl (lv_at hl 0 rfl) ?_
      refine m_get (v := .int (S 0 5)) hx hb hts hown hK hP 5 (by decide) q1215 rfl rfl dX7_roots_65 ?_
      refine lv_goto (tgt := 72) hx hb dX7_roots_68 (by decide) ?_
      refine lv_istore (lv' := [(4, .int (S 0 5)), (0, .ref b), (1, .int p1), (2, .int x2), (3, .int x3)]) hx hb dX7_roots_72 hl (by decide) rfl (fun ls hl => ?_)
      exact J74 _ _ _ _ _ _ _ h hP hS (lv_sub hl [1, 2, 3, 4, 0] rfl)
  have J37 : ∀ (x2 : Int32) (S : St) (H : Heap) (locs : List Loc) (ls : Array Slot), wp_roots_j37 p1 post x2 S → mW D cI cB b S H → va_S (mA b) s.heap H locs → lv_has ls 9 [(0, .ref b), (1, .int p1), (2, .int x2)] → W p l e (headSpec (ws_ yX7_roots cX7_roots 9 (some .int)) ({ frames := 2, cells := 0, slots := 0, locals := 52 } : Room)).room s m ([.ref b, .int p1] : List Value).toArray below meth c H locs 0 0 (MQ below (mQi D cI cB b post) ([.ref b, .int p1] : List Value).toArray s 0 0 (mA b)) (F0 m 37 ls []) := by
    intro x2 S H locs ls h hP hS hl
    unfold wp_roots_j37 at h
    refine lv_aload_n hx hb dX7_roots_37 rfl (lv_at hl 0 rfl) ?_
    refine lv_iload_n hx hb dX7_roots_38 rfl (lv_at hl 1 rfl) ?_
    refine lv_iconst (v := 1) hx hb dX7_roots_39 (by decide) ?_
    refine m_cVp (As := [.int p1, .int 1]) (rest := []) ⟨hx, hb, hml, hown, hts⟩ (met_degreeBy l D cI cB b p1 1  S _ h) (cwV 2 hts (lw_V q1559 q1561 qs82 q128 q1562) rfl rfl rfl cwd_degreeBy ⟨Nat.le_of_ble_eq_true rfl, Nat.le_of_ble_eq_true rfl⟩) hK hP hS rfl hl.1 rfl (Nat.le_of_ble_eq_true rfl) dX7_roots_40 ⟨Nat.zero_le _, Nat.zero_le _⟩ (fun r_22 H locs h hP hS => ?_)
    refine lv_if_le (tgt := 53) hx hb dX7_roots_43 (by decide) (fun c_24 => ?_) (fun c_24 => ?_)
    · have h := h.1 c_24
      refine lv_iconst (v := 1) hx hb dX7_roots_53 (by decide) ?_
      refine lv_istore_n (lv' := [(3, .int 1), (0, .ref b), (1, .int p1), (2, .int x2)]) hx hb dX7_roots_54 rfl hl (by decide) rfl (fun ls hl => ?_)
      exact J55 _ _ _ _ _ _ h hP hS (lv_sub hl [1, 2, 3, 0] rfl)
    · have h := h.2 c_24
      refine lv_aload_n hx hb dX7_roots_46 rfl (lv_at hl 0 rfl) ?_
      refine m_get (v := .int (S 0 5)) hx hb hts hown hK hP 5 (by decide) q1215 rfl rfl dX7_roots_47 ?_
      refine lv_goto (tgt := 54) hx hb dX7_roots_50 (by decide) ?_
      refine lv_istore_n (lv' := [(3, .int (S 0 5)), (0, .ref b), (1, .int p1), (2, .int x2)]) hx hb dX7_roots_54 rfl hl (by decide) rfl (fun ls hl => ?_)
      exact J55 _ _ _ _ _ _ h hP hS (lv_sub hl [1, 2, 3, 0] rfl)
  unfold wp_roots at h
  refine lv_aload_n hx hb dX7_roots_0 rfl (lv_at hl 0 rfl) ?_
  refine lv_iconst (v := 0) hx hb dX7_roots_1 (by decide) ?_
  obtain ⟨S_25, eS_25⟩ : ∃ z : St, z = bw S 0 0 0 := ⟨_, rfl⟩
  have h := h S_25 eS_25
  refine m_put (S1 := S_25) (v := .int 0) (ty := .int) hx hb hts hown hK hP hS 0 (by decide) q1210 rfl rfl (tyX7_ok 0 (by decide)) rfl rfl (by rw [eS_25]; exact mset_0 b S 0) (by rw [eS_25]; exact bw_0) dX7_roots_2 (fun H locs hP hS => ?_)
  refine lv_aload_n hx hb dX7_roots_5 rfl (lv_at hl 0 rfl) ?_
  refine lv_iload_n hx hb dX7_roots_6 rfl (lv_at hl 1 rfl) ?_
  refine m_cVp (As := [.int p1]) (rest := []) ⟨hx, hb, hml, hown, hts⟩ (met_isReg l D cI cB b p1  S_25 _ h) (cwV 1 hts (lw_V q1534 q1536 qs81 q128 q1537) rfl rfl rfl cwd_isReg ⟨Nat.le_of_ble_eq_true rfl, Nat.le_of_ble_eq_true rfl⟩) hK hP hS rfl hl.1 rfl (Nat.le_of_ble_eq_true rfl) dX7_roots_7 ⟨Nat.zero_le _, Nat.zero_le _⟩ (fun r_26 H locs h hP hS => ?_)
  refine lv_if_ne (tgt := 19) hx hb dX7_roots_10 (by decide) (fun c_33 => ?_) (fun c_33 => ?_)
  · have h := h.1 c_33
    refine lv_aload_n hx hb dX7_roots_19 rfl (lv_at hl 0 rfl) ?_
    refine lv_iload_n hx hb dX7_roots_20 rfl (lv_at hl 1 rfl) ?_
    refine lv_iconst (v := 0) hx hb dX7_roots_21 (by decide) ?_
    refine m_cVp (As := [.int p1, .int 0]) (rest := []) ⟨hx, hb, hml, hown, hts⟩ (met_degreeBy l D cI cB b p1 0  S_25 _ h) (cwV 2 hts (lw_V q1559 q1561 qs82 q128 q1562) rfl rfl rfl cwd_degreeBy ⟨Nat.le_of_ble_eq_true rfl, Nat.le_of_ble_eq_true rfl⟩) hK hP hS rfl hl.1 rfl (Nat.le_of_ble_eq_true rfl) dX7_roots_22 ⟨Nat.zero_le _, Nat.zero_le _⟩ (fun r_28 H locs h hP hS => ?_)
    refine lv_if_le (tgt := 35) hx hb dX7_roots_25 (by decide) (fun c_30 => ?_) (fun c_30 => ?_)
    · have h := h.1 c_30
      refine lv_iconst (v := 1) hx hb dX7_roots_35 (by decide) ?_
      refine lv_istore_n (lv' := [(2, .int 1), (0, .ref b), (1, .int p1)]) hx hb dX7_roots_36 rfl hl (by decide) rfl (fun ls hl => ?_)
      exact J37 _ _ _ _ _ h hP hS (lv_sub hl [1, 2, 0] rfl)
    · have h := h.2 c_30
      refine lv_aload_n hx hb dX7_roots_28 rfl (lv_at hl 0 rfl) ?_
      refine m_get (v := .int (S_25 0 5)) hx hb hts hown hK hP 5 (by decide) q1215 rfl rfl dX7_roots_29 ?_
      refine lv_goto (tgt := 36) hx hb dX7_roots_32 (by decide) ?_
      refine lv_istore_n (lv' := [(2, .int (S_25 0 5)), (0, .ref b), (1, .int p1)]) hx hb dX7_roots_36 rfl hl (by decide) rfl (fun ls hl => ?_)
      exact J37 _ _ _ _ _ h hP hS (lv_sub hl [1, 2, 0] rfl)
  · have h := h.2 c_33
    refine lv_aload_n hx hb dX7_roots_13 rfl (lv_at hl 0 rfl) ?_
    refine lv_iconst (v := 1) hx hb dX7_roots_14 (by decide) ?_
    refine m_cVi (As := [.int 1]) (rest := []) ⟨hx, hb, hml, hown, hts⟩ (met_refused l D cI cB b 1  S_25 _ h) (cwV 1 hts (lw_V q1382 q1384 qs58 q128 q1385) rfl rfl rfl cwd_refused ⟨Nat.le_of_ble_eq_true rfl, Nat.le_of_ble_eq_true rfl⟩) hK hP hS rfl hl.1 rfl (Nat.le_of_ble_eq_true rfl) dX7_roots_15 ⟨Nat.zero_le _, Nat.zero_le _⟩ (fun r_31 S_32 H locs h hP hS => ?_)
    exact W.iret (v := r_31) hx hb hr (fun t ht hW => ⟨⟨r_31, S_32, rfl, h, by rw [ht]; exact hP, va_K.moved hW.alike hK⟩, hS.F ht⟩) hS.2.2 dX7_roots_18
def wp_same_j21 (p1 : Int32) (p2 : Int32) (post : Int32 → St → Prop)  (S : St) : Prop :=
    wp_refused 1 S (fun r_1 S_2 =>
    post r_1 S_2)
def wp_same_j67 (p1 : Int32) (p2 : Int32) (post : Int32 → St → Prop) (R32 : Int32 → Int32 → Prop) (x3 : Int32) (x4 : Int32) (S : St) : Prop :=
        ∀ x4_3 : Int32, x4_3 = x4 + 1 →
        R32 x3 x4_3
def wp_same_j65 (p1 : Int32) (p2 : Int32) (post : Int32 → St → Prop) (R32 : Int32 → Int32 → Prop) (x4 : Int32) (S : St) : Prop :=
        wp_same_j67 p1 p2 post R32 0 x4 S
def wp_same_b32 (p1 : Int32) (p2 : Int32) (post : Int32 → St → Prop) (R32 : Int32 → Int32 → Prop)  (x3 : Int32) (x4 : Int32) (S : St) : Prop :=
      ((4096 ≤ x4 →
        ((x3 = 0 →
          wp_good 0 S (fun r_4 S_5 =>
          post r_4 S_5)) ∧
         (¬ (x3 = 0) →
          wp_good 1 S (fun r_6 S_7 =>
          post r_6 S_7)))) ∧
       (¬ (4096 ≤ x4) →
        ((x3 = 0 →
          wp_same_j65 p1 p2 post R32 x4 S) ∧
         (¬ (x3 = 0) →
          wp_coef p1 x4 S (fun r_9 =>
          wp_coef p2 x4 S (fun r_11 =>
          ((¬ r_9 = r_11 →
            wp_same_j65 p1 p2 post R32 x4 S) ∧
           (r_9 = r_11 →
            wp_same_j67 p1 p2 post R32 1 x4 S))))))))
def wp_same_l32 (p1 : Int32) (p2 : Int32) (post : Int32 → St → Prop)  (x3 : Int32) (x4 : Int32) (S : St) : Prop := wLoop (fun (R : (Int32 × Int32) → Prop) (v : Int32 × Int32) => wp_same_b32 p1 p2 post (fun x3 x4 => R (x3, x4))  v.1 v.2 S) (x3, x4)
def wp_same (p1 : Int32) (p2 : Int32) (S : St) (post : Int32 → St → Prop) : Prop :=
  ∀ S_16 : St, S_16 = bw S 0 0 0 →
  wp_isReg p1 S_16 (fun r_17 =>
  ((r_17 = 0 →
    wp_same_j21 p1 p2 post  S_16) ∧
   (¬ (r_17 = 0) →
    wp_isReg p2 S_16 (fun r_19 =>
    ((¬ r_19 = 0 →
      wp_same_l32 p1 p2 post 1 0 S_16) ∧
     (r_19 = 0 →
      wp_same_j21 p1 p2 post  S_16))))))
set_option maxHeartbeats 4000000 in
theorem met_same (l : Launch) (D : va_G) (cI cB : ClassId) (b : Nat) (p1 : Int32) (p2 : Int32)  (S : St) (post : Int32 → St → Prop) (h : wp_same p1 p2 S post) : Met l yX7_same (ws_ yX7_same cX7_same 5 (some .int)) ({ frames := 2, cells := 0, slots := 0, locals := 43 } : Room) (mPc D cI cB b [.ref b, .int p1, .int p2] S) (mQi D cI cB b post) 0 0 (mA b) := by
  refine Met.ofW (cc := cX7_same) (maxL := 5) (ret := (some .int)) (by decide) rfl ?_
  intro p e s m args below meth c s₁ B hml hv
  obtain ⟨rfl, hP, hK⟩ := hv
  have hx := B.exec
  have hb := B.bytes
  have hr := B.returns
  have hts := atoms_spec (ws := ws_ yX7_same cX7_same 5 (some .int)) B.pre
  have hts : ∀ w ∈ lw_all, w.before _ s = true := fun w h => hts w (List.mem_cons_of_mem _ h)
  have hown : s.vm.findClass RX7 = some m.cls := findClass_of_methodNamed B.named
  have hlocks := B.notSynchronized
  have hS : va_S (mA b) s.heap s.heap [] := va_S.rf
  have hl := lv_entry ([.ref b, .int p1, .int p2]) (n := 5) (Nat.le_of_ble_eq_true rfl)
  rw [lg_entry_eq]
  generalize (lg_sl ([.ref b, .int p1, .int p2]) ++ List.replicate (5 - (lg_sl ([.ref b, .int p1, .int p2])).length) Slot.unset).toArray = ls at hl ⊢
  have hl : lv_has ls 5 [(0, .ref b), (1, .int p1), (2, .int p2)] := hl
  have J21 : ∀  (S : St) (H : Heap) (locs : List Loc) (ls : Array Slot), wp_same_j21 p1 p2 post  S → mW D cI cB b S H → va_S (mA b) s.heap H locs → lv_has ls 5 [(0, .ref b)] → W p l e (headSpec (ws_ yX7_same cX7_same 5 (some .int)) ({ frames := 2, cells := 0, slots := 0, locals := 43 } : Room)).room s m ([.ref b, .int p1, .int p2] : List Value).toArray below meth c H locs 0 0 (MQ below (mQi D cI cB b post) ([.ref b, .int p1, .int p2] : List Value).toArray s 0 0 (mA b)) (F0 m 21 ls []) := by
    intro  S H locs ls h hP hS hl
    unfold wp_same_j21 at h
    refine lv_aload_n hx hb dX7_same_21 rfl (lv_at hl 0 rfl) ?_
    refine lv_iconst (v := 1) hx hb dX7_same_22 (by decide) ?_
    refine m_cVi (As := [.int 1]) (rest := []) ⟨hx, hb, hml, hown, hts⟩ (met_refused l D cI cB b 1  S _ h) (cwV 1 hts (lw_V q1382 q1384 qs58 q128 q1385) rfl rfl rfl cwd_refused ⟨Nat.le_of_ble_eq_true rfl, Nat.le_of_ble_eq_true rfl⟩) hK hP hS rfl hl.1 rfl (Nat.le_of_ble_eq_true rfl) dX7_same_23 ⟨Nat.zero_le _, Nat.zero_le _⟩ (fun r_1 S_2 H locs h hP hS => ?_)
    exact W.iret (v := r_1) hx hb hr (fun t ht hW => ⟨⟨r_1, S_2, rfl, h, by rw [ht]; exact hP, va_K.moved hW.alike hK⟩, hS.F ht⟩) hS.2.2 dX7_same_26
  have L32 : ∀  (x3 : Int32) (x4 : Int32) (S : St) (H : Heap) (locs : List Loc) (ls : Array Slot), wp_same_l32 p1 p2 post  x3 x4 S → mW D cI cB b S H → va_S (mA b) s.heap H locs → lv_has ls 5 [(0, .ref b), (1, .int p1), (2, .int p2), (3, .int x3), (4, .int x4)] → W p l e (headSpec (ws_ yX7_same cX7_same 5 (some .int)) ({ frames := 2, cells := 0, slots := 0, locals := 43 } : Room)).room s m ([.ref b, .int p1, .int p2] : List Value).toArray below meth c H locs 0 0 (MQ below (mQi D cI cB b post) ([.ref b, .int p1, .int p2] : List Value).toArray s 0 0 (mA b)) (F0 m 32 ls []) := by
    intro  x3 x4 S H locs ls h hP hS hl
    obtain ⟨I32, n32, hI, hstep32⟩ := h
    induction n32 using Nat.strongRecOn generalizing x3 x4 H locs ls with
    | ind n32 ih32 =>
      have h : wp_same_b32 p1 p2 post (fun x3 x4 => ∃ mm, mm < n32 ∧ I32 mm (x3, x4))  x3 x4 S := hstep32 n32 _ hI
      clear hI
      have J67 : ∀ (x3 : Int32) (x4 : Int32) (H : Heap) (locs : List Loc) (ls : Array Slot), wp_same_j67 p1 p2 post (fun x3 x4 => ∃ mm, mm < n32 ∧ I32 mm (x3, x4)) x3 x4 S → mW D cI cB b S H → va_S (mA b) s.heap H locs → lv_has ls 5 [(0, .ref b), (1, .int p1), (2, .int p2), (3, .int x3), (4, .int x4)] → W p l e (headSpec (ws_ yX7_same cX7_same 5 (some .int)) ({ frames := 2, cells := 0, slots := 0, locals := 43 } : Room)).room s m ([.ref b, .int p1, .int p2] : List Value).toArray below meth c H locs 0 0 (MQ below (mQi D cI cB b post) ([.ref b, .int p1, .int p2] : List Value).toArray s 0 0 (mA b)) (F0 m 67 ls []) := by
        intro x3 x4  H locs ls h hP hS hl
        unfold wp_same_j67 at h
        obtain ⟨x4_3, ex4_3⟩ : ∃ y : Int32, y = x4 + 1 := ⟨_, rfl⟩
        have h := h x4_3 ex4_3
        refine lv_iinc (v := x4_3) (lv' := [(4, .int x4_3), (0, .ref b), (1, .int p1), (2, .int p2), (3, .int x3)]) hx hb dX7_same_67 hl (k := 4) rfl (by rw [ex4_3]; rfl) (by decide) rfl (fun ls hl => ?_)
        refine lv_goto (tgt := 32) hx hb dX7_same_70 (by decide) ?_
        obtain ⟨mm, hmm, h⟩ := h
        exact ih32 mm hmm _ _ _ _ _ hP hS (lv_sub hl [1, 2, 3, 4, 0] rfl) h
      have J65 : ∀ (x4 : Int32) (H : Heap) (locs : List Loc) (ls : Array Slot), wp_same_j65 p1 p2 post (fun x3 x4 => ∃ mm, mm < n32 ∧ I32 mm (x3, x4)) x4 S → mW D cI cB b S H → va_S (mA b) s.heap H locs → lv_has ls 5 [(0, .ref b), (1, .int p1), (2, .int p2), (4, .int x4)] → W p l e (headSpec (ws_ yX7_same cX7_same 5 (some .int)) ({ frames := 2, cells := 0, slots := 0, locals := 43 } : Room)).room s m ([.ref b, .int p1, .int p2] : List Value).toArray below meth c H locs 0 0 (MQ below (mQi D cI cB b post) ([.ref b, .int p1, .int p2] : List Value).toArray s 0 0 (mA b)) (F0 m 65 ls []) := by
        intro x4  H locs ls h hP hS hl
        unfold wp_same_j65 at h
        refine lv_iconst (v := 0) hx hb dX7_same_65 (by decide) ?_
        refine lv_istore_n (lv' := [(3, .int 0), (0, .ref b), (1, .int p1), (2, .int p2), (4, .int x4)]) hx hb dX7_same_66 rfl hl (by decide) rfl (fun ls hl => ?_)
        exact J67 _ _  _ _ _ h hP hS (lv_sub hl [1, 2, 3, 0, 4] rfl)
      unfold wp_same_b32 at h
      refine lv_iload hx hb dX7_same_32 (lv_at hl 4 rfl) ?_
      refine lv_sipush (v := 4096) hx hb dX7_same_34 (by decide) ?_
      refine lv_icmp_ge (tgt := 73) hx hb dX7_same_37 (by decide) (fun c_15 => ?_) (fun c_15 => ?_)
      · have h := h.1 c_15
        refine lv_aload_n hx hb dX7_same_73 rfl (lv_at hl 0 rfl) ?_
        refine lv_iload_n hx hb dX7_same_74 rfl (lv_at hl 3 rfl) ?_
        refine lv_if_eq (tgt := 82) hx hb dX7_same_75 (by decide) (fun c_8 => ?_) (fun c_8 => ?_)
        · have h := h.1 c_8
          refine lv_iconst (v := 0) hx hb dX7_same_82 (by decide) ?_
          refine m_cVi (As := [.int 0]) (rest := []) ⟨hx, hb, hml, hown, hts⟩ (met_good l D cI cB b 0  S _ h) (cwV 1 hts (lw_V q1498 q1500 qs76 q128 q1501) rfl rfl rfl cwd_good ⟨Nat.le_of_ble_eq_true rfl, Nat.le_of_ble_eq_true rfl⟩) hK hP hS rfl hl.1 rfl (Nat.le_of_ble_eq_true rfl) dX7_same_83 ⟨Nat.zero_le _, Nat.zero_le _⟩ (fun r_4 S_5 H locs h hP hS => ?_)
          exact W.iret (v := r_4) hx hb hr (fun t ht hW => ⟨⟨r_4, S_5, rfl, h, by rw [ht]; exact hP, va_K.moved hW.alike hK⟩, hS.F ht⟩) hS.2.2 dX7_same_86
        · have h := h.2 c_8
          refine lv_iconst (v := 1) hx hb dX7_same_78 (by decide) ?_
          refine lv_goto (tgt := 83) hx hb dX7_same_79 (by decide) ?_
          refine m_cVi (As := [.int 1]) (rest := []) ⟨hx, hb, hml, hown, hts⟩ (met_good l D cI cB b 1  S _ h) (cwV 1 hts (lw_V q1498 q1500 qs76 q128 q1501) rfl rfl rfl cwd_good ⟨Nat.le_of_ble_eq_true rfl, Nat.le_of_ble_eq_true rfl⟩) hK hP hS rfl hl.1 rfl (Nat.le_of_ble_eq_true rfl) dX7_same_83 ⟨Nat.zero_le _, Nat.zero_le _⟩ (fun r_6 S_7 H locs h hP hS => ?_)
          exact W.iret (v := r_6) hx hb hr (fun t ht hW => ⟨⟨r_6, S_7, rfl, h, by rw [ht]; exact hP, va_K.moved hW.alike hK⟩, hS.F ht⟩) hS.2.2 dX7_same_86
      · have h := h.2 c_15
        refine lv_iload_n hx hb dX7_same_40 rfl (lv_at hl 3 rfl) ?_
        refine lv_if_eq (tgt := 65) hx hb dX7_same_41 (by decide) (fun c_14 => ?_) (fun c_14 => ?_)
        · have h := h.1 c_14
          exact J65 _  _ _ _ h hP hS (lv_sub hl [0, 1, 2, 4] rfl)
        · have h := h.2 c_14
          refine lv_aload_n hx hb dX7_same_44 rfl (lv_at hl 0 rfl) ?_
          refine lv_iload_n hx hb dX7_same_45 rfl (lv_at hl 1 rfl) ?_
          refine lv_iload hx hb dX7_same_46 (lv_at hl 4 rfl) ?_
          refine m_cVp (As := [.int p1, .int x4]) (rest := []) ⟨hx, hb, hml, hown, hts⟩ (met_coef l D cI cB b p1 x4  S _ h) (cwV 2 hts (lw_V q1526 q1528 qs80 q128 q1529) rfl rfl rfl cwd_coef ⟨Nat.le_of_ble_eq_true rfl, Nat.le_of_ble_eq_true rfl⟩) hK hP hS rfl hl.1 rfl (Nat.le_of_ble_eq_true rfl) dX7_same_48 ⟨Nat.zero_le _, Nat.zero_le _⟩ (fun r_9 H locs h hP hS => ?_)
          refine lv_aload_n hx hb dX7_same_51 rfl (lv_at hl 0 rfl) ?_
          refine lv_iload_n hx hb dX7_same_52 rfl (lv_at hl 2 rfl) ?_
          refine lv_iload hx hb dX7_same_53 (lv_at hl 4 rfl) ?_
          refine m_cVp (As := [.int p2, .int x4]) (rest := [.int r_9]) ⟨hx, hb, hml, hown, hts⟩ (met_coef l D cI cB b p2 x4  S _ h) (cwV 2 hts (lw_V q1526 q1528 qs80 q128 q1529) rfl rfl rfl cwd_coef ⟨Nat.le_of_ble_eq_true rfl, Nat.le_of_ble_eq_true rfl⟩) hK hP hS rfl hl.1 rfl (Nat.le_of_ble_eq_true rfl) dX7_same_55 ⟨Nat.zero_le _, Nat.zero_le _⟩ (fun r_11 H locs h hP hS => ?_)
          refine lv_icmp_ne (tgt := 65) hx hb dX7_same_58 (by decide) (fun c_13 => ?_) (fun c_13 => ?_)
          · have h := h.1 c_13
            exact J65 _  _ _ _ h hP hS (lv_sub hl [0, 1, 2, 4] rfl)
          · have h := h.2 c_13
            refine lv_iconst (v := 1) hx hb dX7_same_61 (by decide) ?_
            refine lv_goto (tgt := 66) hx hb dX7_same_62 (by decide) ?_
            refine lv_istore_n (lv' := [(3, .int 1), (0, .ref b), (1, .int p1), (2, .int p2), (4, .int x4)]) hx hb dX7_same_66 rfl hl (by decide) rfl (fun ls hl => ?_)
            exact J67 _ _  _ _ _ h hP hS (lv_sub hl [1, 2, 3, 0, 4] rfl)
  unfold wp_same at h
  refine lv_aload_n hx hb dX7_same_0 rfl (lv_at hl 0 rfl) ?_
  refine lv_iconst (v := 0) hx hb dX7_same_1 (by decide) ?_
  obtain ⟨S_16, eS_16⟩ : ∃ z : St, z = bw S 0 0 0 := ⟨_, rfl⟩
  have h := h S_16 eS_16
  refine m_put (S1 := S_16) (v := .int 0) (ty := .int) hx hb hts hown hK hP hS 0 (by decide) q1210 rfl rfl (tyX7_ok 0 (by decide)) rfl rfl (by rw [eS_16]; exact mset_0 b S 0) (by rw [eS_16]; exact bw_0) dX7_same_2 (fun H locs hP hS => ?_)
  refine lv_aload_n hx hb dX7_same_5 rfl (lv_at hl 0 rfl) ?_
  refine lv_iload_n hx hb dX7_same_6 rfl (lv_at hl 1 rfl) ?_
  refine m_cVp (As := [.int p1]) (rest := []) ⟨hx, hb, hml, hown, hts⟩ (met_isReg l D cI cB b p1  S_16 _ h) (cwV 1 hts (lw_V q1534 q1536 qs81 q128 q1537) rfl rfl rfl cwd_isReg ⟨Nat.le_of_ble_eq_true rfl, Nat.le_of_ble_eq_true rfl⟩) hK hP hS rfl hl.1 rfl (Nat.le_of_ble_eq_true rfl) dX7_same_7 ⟨Nat.zero_le _, Nat.zero_le _⟩ (fun r_17 H locs h hP hS => ?_)
  refine lv_if_eq (tgt := 21) hx hb dX7_same_10 (by decide) (fun c_22 => ?_) (fun c_22 => ?_)
  · have h := h.1 c_22
    exact J21  _ _ _ _ h hP hS (lv_sub hl [0] rfl)
  · have h := h.2 c_22
    refine lv_aload_n hx hb dX7_same_13 rfl (lv_at hl 0 rfl) ?_
    refine lv_iload_n hx hb dX7_same_14 rfl (lv_at hl 2 rfl) ?_
    refine m_cVp (As := [.int p2]) (rest := []) ⟨hx, hb, hml, hown, hts⟩ (met_isReg l D cI cB b p2  S_16 _ h) (cwV 1 hts (lw_V q1534 q1536 qs81 q128 q1537) rfl rfl rfl cwd_isReg ⟨Nat.le_of_ble_eq_true rfl, Nat.le_of_ble_eq_true rfl⟩) hK hP hS rfl hl.1 rfl (Nat.le_of_ble_eq_true rfl) dX7_same_15 ⟨Nat.zero_le _, Nat.zero_le _⟩ (fun r_19 H locs h hP hS => ?_)
    refine lv_if_ne (tgt := 27) hx hb dX7_same_18 (by decide) (fun c_21 => ?_) (fun c_21 => ?_)
    · have h := h.1 c_21
      refine lv_iconst (v := 1) hx hb dX7_same_27 (by decide) ?_
      refine lv_istore_n (lv' := [(3, .int 1), (0, .ref b), (1, .int p1), (2, .int p2)]) hx hb dX7_same_28 rfl hl (by decide) rfl (fun ls hl => ?_)
      refine lv_iconst (v := 0) hx hb dX7_same_29 (by decide) ?_
      refine lv_istore (lv' := [(4, .int 0), (3, .int 1), (0, .ref b), (1, .int p1), (2, .int p2)]) hx hb dX7_same_30 hl (by decide) rfl (fun ls hl => ?_)
      exact L32 _ _ _ _ _ _ h hP hS (lv_sub hl [2, 3, 4, 1, 0] rfl)
    · have h := h.2 c_21
      exact J21  _ _ _ _ h hP hS (lv_sub hl [0] rfl)
def wp_compares_j31 (p1 : Int32) (p2 : Int32) (p3 : Int32) (p4 : Int32) (p5 : Int32) (post : Int32 → Prop) (x5 : Int32) (S : St) : Prop :=
    ((¬ p3 = 2 →
      wp_exponent p1 p4 S (fun r_1 =>
      wp_exponent p2 p4 S (fun r_3 =>
      ∀ x7_5 : Int32, x7_5 = (r_1 - r_3) →
      wp_exponent p1 p5 S (fun r_6 =>
      wp_exponent p2 p5 S (fun r_8 =>
      ∀ x8_10 : Int32, x8_10 = (r_6 - r_8) →
      ((x7_5 = 0 →
        ((x8_10 = 0 →
          wp_exponent p1 x5 S (fun r_11 =>
          wp_exponent p2 x5 S (fun r_13 =>
          post (r_11 - r_13)))) ∧
         (¬ (x8_10 = 0) →
          post x8_10))) ∧
       (¬ (x7_5 = 0) →
        post x7_5))))))) ∧
     (p3 = 2 →
      wp_exponent p2 x5 S (fun r_17 =>
      wp_exponent p1 x5 S (fun r_19 =>
      ∀ x7_21 : Int32, x7_21 = (r_17 - r_19) →
      ((x7_21 = 0 →
        wp_exponent p2 p5 S (fun r_22 =>
        wp_exponent p1 p5 S (fun r_24 =>
        post (r_22 - r_24)))) ∧
       (¬ (x7_21 = 0) →
        post x7_21))))))
def wp_compares (p1 : Int32) (p2 : Int32) (p3 : Int32) (p4 : Int32) (p5 : Int32) (S : St) (post : Int32 → Prop) : Prop :=
  ∀ x5_28 : Int32, x5_28 = ((3 - p4) - p5) →
  wp_degreeOf p1 S (fun r_29 =>
  wp_degreeOf p2 S (fun r_31 =>
  ∀ x6_33 : Int32, x6_33 = (r_29 - r_31) →
  ((p3 = 0 →
    wp_compares_j31 p1 p2 p3 p4 p5 post x5_28 S) ∧
   (¬ (p3 = 0) →
    ((x6_33 = 0 →
      wp_compares_j31 p1 p2 p3 p4 p5 post x5_28 S) ∧
     (¬ (x6_33 = 0) →
      post x6_33))))))
set_option maxHeartbeats 4000000 in
theorem met_compares (l : Launch) (D : va_G) (cI cB : ClassId) (b : Nat) (p1 : Int32) (p2 : Int32) (p3 : Int32) (p4 : Int32) (p5 : Int32)  (S : St) (post : Int32 → Prop) (h : wp_compares p1 p2 p3 p4 p5 S post) : Met l yX7_compares (ws_ yX7_compares cX7_compares 9 (some .int)) ({ frames := 2, cells := 0, slots := 0, locals := 41 } : Room) (mPc D cI cB b [.int p1, .int p2, .int p3, .int p4, .int p5] S) (mQp D cI cB b S post) 0 0 (mA b) := by
  refine Met.ofW (cc := cX7_compares) (maxL := 9) (ret := (some .int)) (by decide) rfl ?_
  intro p e s m args below meth c s₁ B hml hv
  obtain ⟨rfl, hP, hK⟩ := hv
  have hx := B.exec
  have hb := B.bytes
  have hr := B.returns
  have hts := atoms_spec (ws := ws_ yX7_compares cX7_compares 9 (some .int)) B.pre
  have hts : ∀ w ∈ lw_all, w.before _ s = true := fun w h => hts w (List.mem_cons_of_mem _ h)
  have hown : s.vm.findClass RX7 = some m.cls := findClass_of_methodNamed B.named
  have hlocks := B.notSynchronized
  have hS : va_S (mA b) s.heap s.heap [] := va_S.rf
  have hl := lv_entry ([.int p1, .int p2, .int p3, .int p4, .int p5]) (n := 9) (Nat.le_of_ble_eq_true rfl)
  rw [lg_entry_eq]
  generalize (lg_sl ([.int p1, .int p2, .int p3, .int p4, .int p5]) ++ List.replicate (9 - (lg_sl ([.int p1, .int p2, .int p3, .int p4, .int p5])).length) Slot.unset).toArray = ls at hl ⊢
  have hl : lv_has ls 9 [(0, .int p1), (1, .int p2), (2, .int p3), (3, .int p4), (4, .int p5)] := hl
  have J31 : ∀ (x5 : Int32) (H : Heap) (locs : List Loc) (ls : Array Slot), wp_compares_j31 p1 p2 p3 p4 p5 post x5 S → mW D cI cB b S H → va_S (mA b) s.heap H locs → lv_has ls 9 [(0, .int p1), (1, .int p2), (2, .int p3), (3, .int p4), (4, .int p5), (5, .int x5)] → W p l e (headSpec (ws_ yX7_compares cX7_compares 9 (some .int)) ({ frames := 2, cells := 0, slots := 0, locals := 41 } : Room)).room s m ([.int p1, .int p2, .int p3, .int p4, .int p5] : List Value).toArray below meth c H locs 0 0 (MQ below (mQp D cI cB b S post) ([.int p1, .int p2, .int p3, .int p4, .int p5] : List Value).toArray s 0 0 (mA b)) (F0 m 31 ls []) := by
    intro x5  H locs ls h hP hS hl
    unfold wp_compares_j31 at h
    refine lv_iload_n hx hb dX7_compares_31 rfl (lv_at hl 2 rfl) ?_
    refine lv_iconst (v := 2) hx hb dX7_compares_32 (by decide) ?_
    refine lv_icmp_ne (tgt := 75) hx hb dX7_compares_33 (by decide) (fun c_27 => ?_) (fun c_27 => ?_)
    · have h := h.1 c_27
      refine lv_iload_n hx hb dX7_compares_75 rfl (lv_at hl 0 rfl) ?_
      refine lv_iload_n hx hb dX7_compares_76 rfl (lv_at hl 3 rfl) ?_
      refine m_cSp (As := [.int p1, .int p4]) (rest := []) ⟨hx, hb, hml, hown, hts⟩ (met_exponent l D cI cB b p1 p4  S _ h) (va_cwS 2 hts (lw_S q1545 q1546 q128 q1547) rfl rfl rfl cwd_exponent ⟨Nat.le_of_ble_eq_true rfl, Nat.le_of_ble_eq_true rfl⟩) hK hP hS rfl hl.1 rfl (Nat.le_of_ble_eq_true rfl) dX7_compares_77 ⟨Nat.zero_le _, Nat.zero_le _⟩ (fun r_1 H locs h hP hS => ?_)
      refine lv_iload_n hx hb dX7_compares_80 rfl (lv_at hl 1 rfl) ?_
      refine lv_iload_n hx hb dX7_compares_81 rfl (lv_at hl 3 rfl) ?_
      refine m_cSp (As := [.int p2, .int p4]) (rest := [.int r_1]) ⟨hx, hb, hml, hown, hts⟩ (met_exponent l D cI cB b p2 p4  S _ h) (va_cwS 2 hts (lw_S q1545 q1546 q128 q1547) rfl rfl rfl cwd_exponent ⟨Nat.le_of_ble_eq_true rfl, Nat.le_of_ble_eq_true rfl⟩) hK hP hS rfl hl.1 rfl (Nat.le_of_ble_eq_true rfl) dX7_compares_82 ⟨Nat.zero_le _, Nat.zero_le _⟩ (fun r_3 H locs h hP hS => ?_)
      refine lv_isub hx hb dX7_compares_85 ?_
      refine lv_topi (fun x7_5 ex7_5 => ?_)
      have h := h x7_5 ex7_5
      refine lv_istore (lv' := [(7, .int x7_5), (0, .int p1), (1, .int p2), (2, .int p3), (3, .int p4), (4, .int p5), (5, .int x5)]) hx hb dX7_compares_86 hl (by decide) rfl (fun ls hl => ?_)
      refine lv_iload_n hx hb dX7_compares_88 rfl (lv_at hl 1 rfl) ?_
      refine lv_iload hx hb dX7_compares_89 (lv_at hl 5 rfl) ?_
      refine m_cSp (As := [.int p1, .int p5]) (rest := []) ⟨hx, hb, hml, hown, hts⟩ (met_exponent l D cI cB b p1 p5  S _ h) (va_cwS 2 hts (lw_S q1545 q1546 q128 q1547) rfl rfl rfl cwd_exponent ⟨Nat.le_of_ble_eq_true rfl, Nat.le_of_ble_eq_true rfl⟩) hK hP hS rfl hl.1 rfl (Nat.le_of_ble_eq_true rfl) dX7_compares_91 ⟨Nat.zero_le _, Nat.zero_le _⟩ (fun r_6 H locs h hP hS => ?_)
      refine lv_iload_n hx hb dX7_compares_94 rfl (lv_at hl 2 rfl) ?_
      refine lv_iload hx hb dX7_compares_95 (lv_at hl 5 rfl) ?_
      refine m_cSp (As := [.int p2, .int p5]) (rest := [.int r_6]) ⟨hx, hb, hml, hown, hts⟩ (met_exponent l D cI cB b p2 p5  S _ h) (va_cwS 2 hts (lw_S q1545 q1546 q128 q1547) rfl rfl rfl cwd_exponent ⟨Nat.le_of_ble_eq_true rfl, Nat.le_of_ble_eq_true rfl⟩) hK hP hS rfl hl.1 rfl (Nat.le_of_ble_eq_true rfl) dX7_compares_97 ⟨Nat.zero_le _, Nat.zero_le _⟩ (fun r_8 H locs h hP hS => ?_)
      refine lv_isub hx hb dX7_compares_100 ?_
      refine lv_topi (fun x8_10 ex8_10 => ?_)
      have h := h x8_10 ex8_10
      refine lv_istore (lv' := [(8, .int x8_10), (7, .int x7_5), (0, .int p1), (1, .int p2), (2, .int p3), (3, .int p4), (4, .int p5), (5, .int x5)]) hx hb dX7_compares_101 hl (by decide) rfl (fun ls hl => ?_)
      refine lv_iload hx hb dX7_compares_103 (lv_at hl 1 rfl) ?_
      refine lv_if_eq (tgt := 113) hx hb dX7_compares_105 (by decide) (fun c_16 => ?_) (fun c_16 => ?_)
      · have h := h.1 c_16
        refine lv_iload hx hb dX7_compares_113 (lv_at hl 0 rfl) ?_
        refine lv_if_eq (tgt := 123) hx hb dX7_compares_115 (by decide) (fun c_15 => ?_) (fun c_15 => ?_)
        · have h := h.1 c_15
          refine lv_iload_n hx hb dX7_compares_123 rfl (lv_at hl 2 rfl) ?_
          refine lv_iload hx hb dX7_compares_124 (lv_at hl 7 rfl) ?_
          refine m_cSp (As := [.int p1, .int x5]) (rest := []) ⟨hx, hb, hml, hown, hts⟩ (met_exponent l D cI cB b p1 x5  S _ h) (va_cwS 2 hts (lw_S q1545 q1546 q128 q1547) rfl rfl rfl cwd_exponent ⟨Nat.le_of_ble_eq_true rfl, Nat.le_of_ble_eq_true rfl⟩) hK hP hS rfl hl.1 rfl (Nat.le_of_ble_eq_true rfl) dX7_compares_126 ⟨Nat.zero_le _, Nat.zero_le _⟩ (fun r_11 H locs h hP hS => ?_)
          refine lv_iload_n hx hb dX7_compares_129 rfl (lv_at hl 3 rfl) ?_
          refine lv_iload hx hb dX7_compares_130 (lv_at hl 7 rfl) ?_
          refine m_cSp (As := [.int p2, .int x5]) (rest := [.int r_11]) ⟨hx, hb, hml, hown, hts⟩ (met_exponent l D cI cB b p2 x5  S _ h) (va_cwS 2 hts (lw_S q1545 q1546 q128 q1547) rfl rfl rfl cwd_exponent ⟨Nat.le_of_ble_eq_true rfl, Nat.le_of_ble_eq_true rfl⟩) hK hP hS rfl hl.1 rfl (Nat.le_of_ble_eq_true rfl) dX7_compares_132 ⟨Nat.zero_le _, Nat.zero_le _⟩ (fun r_13 H locs h hP hS => ?_)
          refine lv_isub hx hb dX7_compares_135 ?_
          exact W.iret (v := (r_11 - r_13)) hx hb hr (fun t ht hW => ⟨⟨(r_11 - r_13), (), rfl, h, by rw [ht]; exact hP, va_K.moved hW.alike hK⟩, hS.F ht⟩) hS.2.2 dX7_compares_136
        · have h := h.2 c_15
          refine lv_iload hx hb dX7_compares_118 (lv_at hl 0 rfl) ?_
          refine lv_goto (tgt := 136) hx hb dX7_compares_120 (by decide) ?_
          exact W.iret (v := x8_10) hx hb hr (fun t ht hW => ⟨⟨x8_10, (), rfl, h, by rw [ht]; exact hP, va_K.moved hW.alike hK⟩, hS.F ht⟩) hS.2.2 dX7_compares_136
      · have h := h.2 c_16
        refine lv_iload hx hb dX7_compares_108 (lv_at hl 1 rfl) ?_
        refine lv_goto (tgt := 136) hx hb dX7_compares_110 (by decide) ?_
        exact W.iret (v := x7_5) hx hb hr (fun t ht hW => ⟨⟨x7_5, (), rfl, h, by rw [ht]; exact hP, va_K.moved hW.alike hK⟩, hS.F ht⟩) hS.2.2 dX7_compares_136
    · have h := h.2 c_27
      refine lv_iload_n hx hb dX7_compares_36 rfl (lv_at hl 1 rfl) ?_
      refine lv_iload hx hb dX7_compares_37 (lv_at hl 5 rfl) ?_
      refine m_cSp (As := [.int p2, .int x5]) (rest := []) ⟨hx, hb, hml, hown, hts⟩ (met_exponent l D cI cB b p2 x5  S _ h) (va_cwS 2 hts (lw_S q1545 q1546 q128 q1547) rfl rfl rfl cwd_exponent ⟨Nat.le_of_ble_eq_true rfl, Nat.le_of_ble_eq_true rfl⟩) hK hP hS rfl hl.1 rfl (Nat.le_of_ble_eq_true rfl) dX7_compares_39 ⟨Nat.zero_le _, Nat.zero_le _⟩ (fun r_17 H locs h hP hS => ?_)
      refine lv_iload_n hx hb dX7_compares_42 rfl (lv_at hl 0 rfl) ?_
      refine lv_iload hx hb dX7_compares_43 (lv_at hl 5 rfl) ?_
      refine m_cSp (As := [.int p1, .int x5]) (rest := [.int r_17]) ⟨hx, hb, hml, hown, hts⟩ (met_exponent l D cI cB b p1 x5  S _ h) (va_cwS 2 hts (lw_S q1545 q1546 q128 q1547) rfl rfl rfl cwd_exponent ⟨Nat.le_of_ble_eq_true rfl, Nat.le_of_ble_eq_true rfl⟩) hK hP hS rfl hl.1 rfl (Nat.le_of_ble_eq_true rfl) dX7_compares_45 ⟨Nat.zero_le _, Nat.zero_le _⟩ (fun r_19 H locs h hP hS => ?_)
      refine lv_isub hx hb dX7_compares_48 ?_
      refine lv_topi (fun x7_21 ex7_21 => ?_)
      have h := h x7_21 ex7_21
      refine lv_istore (lv' := [(7, .int x7_21), (0, .int p1), (1, .int p2), (2, .int p3), (3, .int p4), (4, .int p5), (5, .int x5)]) hx hb dX7_compares_49 hl (by decide) rfl (fun ls hl => ?_)
      refine lv_iload hx hb dX7_compares_51 (lv_at hl 0 rfl) ?_
      refine lv_if_eq (tgt := 61) hx hb dX7_compares_53 (by decide) (fun c_26 => ?_) (fun c_26 => ?_)
      · have h := h.1 c_26
        refine lv_iload_n hx hb dX7_compares_61 rfl (lv_at hl 2 rfl) ?_
        refine lv_iload hx hb dX7_compares_62 (lv_at hl 5 rfl) ?_
        refine m_cSp (As := [.int p2, .int p5]) (rest := []) ⟨hx, hb, hml, hown, hts⟩ (met_exponent l D cI cB b p2 p5  S _ h) (va_cwS 2 hts (lw_S q1545 q1546 q128 q1547) rfl rfl rfl cwd_exponent ⟨Nat.le_of_ble_eq_true rfl, Nat.le_of_ble_eq_true rfl⟩) hK hP hS rfl hl.1 rfl (Nat.le_of_ble_eq_true rfl) dX7_compares_64 ⟨Nat.zero_le _, Nat.zero_le _⟩ (fun r_22 H locs h hP hS => ?_)
        refine lv_iload_n hx hb dX7_compares_67 rfl (lv_at hl 1 rfl) ?_
        refine lv_iload hx hb dX7_compares_68 (lv_at hl 5 rfl) ?_
        refine m_cSp (As := [.int p1, .int p5]) (rest := [.int r_22]) ⟨hx, hb, hml, hown, hts⟩ (met_exponent l D cI cB b p1 p5  S _ h) (va_cwS 2 hts (lw_S q1545 q1546 q128 q1547) rfl rfl rfl cwd_exponent ⟨Nat.le_of_ble_eq_true rfl, Nat.le_of_ble_eq_true rfl⟩) hK hP hS rfl hl.1 rfl (Nat.le_of_ble_eq_true rfl) dX7_compares_70 ⟨Nat.zero_le _, Nat.zero_le _⟩ (fun r_24 H locs h hP hS => ?_)
        refine lv_isub hx hb dX7_compares_73 ?_
        exact W.iret (v := (r_22 - r_24)) hx hb hr (fun t ht hW => ⟨⟨(r_22 - r_24), (), rfl, h, by rw [ht]; exact hP, va_K.moved hW.alike hK⟩, hS.F ht⟩) hS.2.2 dX7_compares_74
      · have h := h.2 c_26
        refine lv_iload hx hb dX7_compares_56 (lv_at hl 0 rfl) ?_
        refine lv_goto (tgt := 74) hx hb dX7_compares_58 (by decide) ?_
        exact W.iret (v := x7_21) hx hb hr (fun t ht hW => ⟨⟨x7_21, (), rfl, h, by rw [ht]; exact hP, va_K.moved hW.alike hK⟩, hS.F ht⟩) hS.2.2 dX7_compares_74
  unfold wp_compares at h
  refine lv_iconst (v := 3) hx hb dX7_compares_0 (by decide) ?_
  refine lv_iload_n hx hb dX7_compares_1 rfl (lv_at hl 3 rfl) ?_
  refine lv_isub hx hb dX7_compares_2 ?_
  refine lv_iload hx hb dX7_compares_3 (lv_at hl 4 rfl) ?_
  refine lv_isub hx hb dX7_compares_5 ?_
  refine lv_topi (fun x5_28 ex5_28 => ?_)
  have h := h x5_28 ex5_28
  refine lv_istore (lv' := [(5, .int x5_28), (0, .int p1), (1, .int p2), (2, .int p3), (3, .int p4), (4, .int p5)]) hx hb dX7_compares_6 hl (by decide) rfl (fun ls hl => ?_)
  refine lv_iload_n hx hb dX7_compares_8 rfl (lv_at hl 1 rfl) ?_
  refine m_cSp (As := [.int p1]) (rest := []) ⟨hx, hb, hml, hown, hts⟩ (met_degreeOf l D cI cB b p1  S _ h) (va_cwS 1 hts (lw_S q1542 q1543 q128 q1544) rfl rfl rfl cwd_degreeOf ⟨Nat.le_of_ble_eq_true rfl, Nat.le_of_ble_eq_true rfl⟩) hK hP hS rfl hl.1 rfl (Nat.le_of_ble_eq_true rfl) dX7_compares_9 ⟨Nat.zero_le _, Nat.zero_le _⟩ (fun r_29 H locs h hP hS => ?_)
  refine lv_iload_n hx hb dX7_compares_12 rfl (lv_at hl 2 rfl) ?_
  refine m_cSp (As := [.int p2]) (rest := [.int r_29]) ⟨hx, hb, hml, hown, hts⟩ (met_degreeOf l D cI cB b p2  S _ h) (va_cwS 1 hts (lw_S q1542 q1543 q128 q1544) rfl rfl rfl cwd_degreeOf ⟨Nat.le_of_ble_eq_true rfl, Nat.le_of_ble_eq_true rfl⟩) hK hP hS rfl hl.1 rfl (Nat.le_of_ble_eq_true rfl) dX7_compares_13 ⟨Nat.zero_le _, Nat.zero_le _⟩ (fun r_31 H locs h hP hS => ?_)
  refine lv_isub hx hb dX7_compares_16 ?_
  refine lv_topi (fun x6_33 ex6_33 => ?_)
  have h := h x6_33 ex6_33
  refine lv_istore (lv' := [(6, .int x6_33), (5, .int x5_28), (0, .int p1), (1, .int p2), (2, .int p3), (3, .int p4), (4, .int p5)]) hx hb dX7_compares_17 hl (by decide) rfl (fun ls hl => ?_)
  refine lv_iload_n hx hb dX7_compares_19 rfl (lv_at hl 4 rfl) ?_
  refine lv_if_eq (tgt := 31) hx hb dX7_compares_20 (by decide) (fun c_35 => ?_) (fun c_35 => ?_)
  · have h := h.1 c_35
    exact J31 _  _ _ _ h hP hS (lv_sub hl [2, 3, 4, 5, 6, 1] rfl)
  · have h := h.2 c_35
    refine lv_iload hx hb dX7_compares_23 (lv_at hl 0 rfl) ?_
    refine lv_if_eq (tgt := 31) hx hb dX7_compares_25 (by decide) (fun c_34 => ?_) (fun c_34 => ?_)
    · have h := h.1 c_34
      exact J31 _  _ _ _ h hP hS (lv_sub hl [2, 3, 4, 5, 6, 1] rfl)
    · have h := h.2 c_34
      refine lv_iload hx hb dX7_compares_28 (lv_at hl 0 rfl) ?_
      exact W.iret (v := x6_33) hx hb hr (fun t ht hW => ⟨⟨x6_33, (), rfl, h, by rw [ht]; exact hP, va_K.moved hW.alike hK⟩, hS.F ht⟩) hS.2.2 dX7_compares_30
def wp_ahead_j68 (p1 : Int32) (p2 : Int32) (p3 : Int32) (p4 : Int32) (p5 : Int32) (p6 : Int32) (post : Int32 → St → Prop) (x7 : Int32) (S : St) : Prop :=
    ((x7 ≤ 0 →
      wp_keyOf p1 p2 p3 S (fun r_1 =>
      wp_keyOf p4 p5 p6 S (fun r_3 =>
      wp_compares r_1 r_3 (S 0 6) (S 0 7) (S 0 8) S (fun r_5 =>
      ((r_5 ≤ 0 →
        ((0 ≤ r_5 →
          wp_good 0 S (fun r_7 S_8 =>
          post r_7 S_8)) ∧
         (¬ (0 ≤ r_5) →
          wp_good (-1) S (fun r_9 S_10 =>
          post r_9 S_10)))) ∧
       (¬ (r_5 ≤ 0) →
        wp_good 1 S (fun r_12 S_13 =>
        post r_12 S_13))))))) ∧
     (¬ (x7 ≤ 0) →
      wp_refused x7 S (fun r_15 S_16 =>
      post (-2) S_16)))
def wp_ahead_j65 (p1 : Int32) (p2 : Int32) (p3 : Int32) (p4 : Int32) (p5 : Int32) (p6 : Int32) (post : Int32 → St → Prop)  (S : St) : Prop :=
    wp_ahead_j68 p1 p2 p3 p4 p5 p6 post 2 S
def wp_ahead (p1 : Int32) (p2 : Int32) (p3 : Int32) (p4 : Int32) (p5 : Int32) (p6 : Int32) (S : St) (post : Int32 → St → Prop) : Prop :=
  ∀ S_18 : St, S_18 = bw S 0 0 0 →
  ((¬ (S_18 0 14) = 0 →
    wp_isExponent p1 S_18 (fun r_19 =>
    ((r_19 = 0 →
      wp_ahead_j65 p1 p2 p3 p4 p5 p6 post  S_18) ∧
     (¬ (r_19 = 0) →
      wp_isExponent p2 S_18 (fun r_21 =>
      ((r_21 = 0 →
        wp_ahead_j65 p1 p2 p3 p4 p5 p6 post  S_18) ∧
       (¬ (r_21 = 0) →
        wp_isExponent p3 S_18 (fun r_23 =>
        ((r_23 = 0 →
          wp_ahead_j65 p1 p2 p3 p4 p5 p6 post  S_18) ∧
         (¬ (r_23 = 0) →
          wp_isExponent p4 S_18 (fun r_25 =>
          ((r_25 = 0 →
            wp_ahead_j65 p1 p2 p3 p4 p5 p6 post  S_18) ∧
           (¬ (r_25 = 0) →
            wp_isExponent p5 S_18 (fun r_27 =>
            ((r_27 = 0 →
              wp_ahead_j65 p1 p2 p3 p4 p5 p6 post  S_18) ∧
             (¬ (r_27 = 0) →
              wp_isExponent p6 S_18 (fun r_29 =>
              ((r_29 = 0 →
                wp_ahead_j65 p1 p2 p3 p4 p5 p6 post  S_18) ∧
               (¬ (r_29 = 0) →
                wp_ahead_j68 p1 p2 p3 p4 p5 p6 post 0 S_18))))))))))))))))))) ∧
   ((S_18 0 14) = 0 →
    wp_ahead_j68 p1 p2 p3 p4 p5 p6 post 1 S_18))
set_option maxHeartbeats 4000000 in
theorem met_ahead (l : Launch) (D : va_G) (cI cB : ClassId) (b : Nat) (p1 : Int32) (p2 : Int32) (p3 : Int32) (p4 : Int32) (p5 : Int32) (p6 : Int32)  (S : St) (post : Int32 → St → Prop) (h : wp_ahead p1 p2 p3 p4 p5 p6 S post) : Met l yX7_ahead (ws_ yX7_ahead cX7_ahead 9 (some .int)) ({ frames := 3, cells := 0, slots := 0, locals := 69 } : Room) (mPc D cI cB b [.ref b, .int p1, .int p2, .int p3, .int p4, .int p5, .int p6] S) (mQi D cI cB b post) 0 0 (mA b) := by
  refine Met.ofW (cc := cX7_ahead) (maxL := 9) (ret := (some .int)) (by decide) rfl ?_
  intro p e s m args below meth c s₁ B hml hv
  obtain ⟨rfl, hP, hK⟩ := hv
  have hx := B.exec
  have hb := B.bytes
  have hr := B.returns
  have hts := atoms_spec (ws := ws_ yX7_ahead cX7_ahead 9 (some .int)) B.pre
  have hts : ∀ w ∈ lw_all, w.before _ s = true := fun w h => hts w (List.mem_cons_of_mem _ h)
  have hown : s.vm.findClass RX7 = some m.cls := findClass_of_methodNamed B.named
  have hlocks := B.notSynchronized
  have hS : va_S (mA b) s.heap s.heap [] := va_S.rf
  have hl := lv_entry ([.ref b, .int p1, .int p2, .int p3, .int p4, .int p5, .int p6]) (n := 9) (Nat.le_of_ble_eq_true rfl)
  rw [lg_entry_eq]
  generalize (lg_sl ([.ref b, .int p1, .int p2, .int p3, .int p4, .int p5, .int p6]) ++ List.replicate (9 - (lg_sl ([.ref b, .int p1, .int p2, .int p3, .int p4, .int p5, .int p6])).length) Slot.unset).toArray = ls at hl ⊢
  have hl : lv_has ls 9 [(0, .ref b), (1, .int p1), (2, .int p2), (3, .int p3), (4, .int p4), (5, .int p5), (6, .int p6)] := hl
  have J68 : ∀ (x7 : Int32) (S : St) (H : Heap) (locs : List Loc) (ls : Array Slot), wp_ahead_j68 p1 p2 p3 p4 p5 p6 post x7 S → mW D cI cB b S H → va_S (mA b) s.heap H locs → lv_has ls 9 [(0, .ref b), (1, .int p1), (2, .int p2), (3, .int p3), (4, .int p4), (5, .int p5), (6, .int p6), (7, .int x7)] → W p l e (headSpec (ws_ yX7_ahead cX7_ahead 9 (some .int)) ({ frames := 3, cells := 0, slots := 0, locals := 69 } : Room)).room s m ([.ref b, .int p1, .int p2, .int p3, .int p4, .int p5, .int p6] : List Value).toArray below meth c H locs 0 0 (MQ below (mQi D cI cB b post) ([.ref b, .int p1, .int p2, .int p3, .int p4, .int p5, .int p6] : List Value).toArray s 0 0 (mA b)) (F0 m 68 ls []) := by
    intro x7 S H locs ls h hP hS hl
    unfold wp_ahead_j68 at h
    refine lv_iload hx hb dX7_ahead_68 (lv_at hl 7 rfl) ?_
    refine lv_if_le (tgt := 83) hx hb dX7_ahead_70 (by decide) (fun c_17 => ?_) (fun c_17 => ?_)
    · have h := h.1 c_17
      refine lv_iload_n hx hb dX7_ahead_83 rfl (lv_at hl 1 rfl) ?_
      refine lv_iload_n hx hb dX7_ahead_84 rfl (lv_at hl 2 rfl) ?_
      refine lv_iload_n hx hb dX7_ahead_85 rfl (lv_at hl 3 rfl) ?_
      refine m_cSp (As := [.int p1, .int p2, .int p3]) (rest := []) ⟨hx, hb, hml, hown, hts⟩ (met_keyOf l D cI cB b p1 p2 p3  S _ h) (va_cwS 3 hts (lw_S q1570 q1571 q128 q1572) rfl rfl rfl cwd_keyOf ⟨Nat.le_of_ble_eq_true rfl, Nat.le_of_ble_eq_true rfl⟩) hK hP hS rfl hl.1 rfl (Nat.le_of_ble_eq_true rfl) dX7_ahead_86 ⟨Nat.zero_le _, Nat.zero_le _⟩ (fun r_1 H locs h hP hS => ?_)
      refine lv_iload hx hb dX7_ahead_89 (lv_at hl 4 rfl) ?_
      refine lv_iload hx hb dX7_ahead_91 (lv_at hl 5 rfl) ?_
      refine lv_iload hx hb dX7_ahead_93 (lv_at hl 6 rfl) ?_
      refine m_cSp (As := [.int p4, .int p5, .int p6]) (rest := [.int r_1]) ⟨hx, hb, hml, hown, hts⟩ (met_keyOf l D cI cB b p4 p5 p6  S _ h) (va_cwS 3 hts (lw_S q1570 q1571 q128 q1572) rfl rfl rfl cwd_keyOf ⟨Nat.le_of_ble_eq_true rfl, Nat.le_of_ble_eq_true rfl⟩) hK hP hS rfl hl.1 rfl (Nat.le_of_ble_eq_true rfl) dX7_ahead_95 ⟨Nat.zero_le _, Nat.zero_le _⟩ (fun r_3 H locs h hP hS => ?_)
      refine lv_aload_n hx hb dX7_ahead_98 rfl (lv_at hl 0 rfl) ?_
      refine m_get (v := .int (S 0 6)) hx hb hts hown hK hP 6 (by decide) q1216 rfl rfl dX7_ahead_99 ?_
      refine lv_aload_n hx hb dX7_ahead_102 rfl (lv_at hl 0 rfl) ?_
      refine m_get (v := .int (S 0 7)) hx hb hts hown hK hP 7 (by decide) q1217 rfl rfl dX7_ahead_103 ?_
      refine lv_aload_n hx hb dX7_ahead_106 rfl (lv_at hl 0 rfl) ?_
      refine m_get (v := .int (S 0 8)) hx hb hts hown hK hP 8 (by decide) q1218 rfl rfl dX7_ahead_107 ?_
      refine m_cSp (As := [.int r_1, .int r_3, .int (S 0 6), .int (S 0 7), .int (S 0 8)]) (rest := []) ⟨hx, hb, hml, hown, hts⟩ (met_compares l D cI cB b r_1 r_3 (S 0 6) (S 0 7) (S 0 8)  S _ h) (va_cwS 5 hts (lw_S q1605 q1606 q128 q1607) rfl rfl rfl cwd_compares ⟨Nat.le_of_ble_eq_true rfl, Nat.le_of_ble_eq_true rfl⟩) hK hP hS rfl hl.1 rfl (Nat.le_of_ble_eq_true rfl) dX7_ahead_110 ⟨Nat.zero_le _, Nat.zero_le _⟩ (fun r_5 H locs h hP hS => ?_)
      refine lv_istore (lv' := [(8, .int r_5), (0, .ref b), (1, .int p1), (2, .int p2), (3, .int p3), (4, .int p4), (5, .int p5), (6, .int p6), (7, .int x7)]) hx hb dX7_ahead_113 hl (by decide) rfl (fun ls hl => ?_)
      refine lv_aload_n hx hb dX7_ahead_115 rfl (lv_at hl 1 rfl) ?_
      refine lv_iload hx hb dX7_ahead_116 (lv_at hl 0 rfl) ?_
      refine lv_if_le (tgt := 125) hx hb dX7_ahead_118 (by decide) (fun c_14 => ?_) (fun c_14 => ?_)
      · have h := h.1 c_14
        refine lv_iload hx hb dX7_ahead_125 (lv_at hl 0 rfl) ?_
        refine lv_if_ge (tgt := 134) hx hb dX7_ahead_127 (by decide) (fun c_11 => ?_) (fun c_11 => ?_)
        · have h := h.1 c_11
          refine lv_iconst (v := 0) hx hb dX7_ahead_134 (by decide) ?_
          refine m_cVi (As := [.int 0]) (rest := []) ⟨hx, hb, hml, hown, hts⟩ (met_good l D cI cB b 0  S _ h) (cwV 1 hts (lw_V q1498 q1500 qs76 q128 q1501) rfl rfl rfl cwd_good ⟨Nat.le_of_ble_eq_true rfl, Nat.le_of_ble_eq_true rfl⟩) hK hP hS rfl hl.1 rfl (Nat.le_of_ble_eq_true rfl) dX7_ahead_135 ⟨Nat.zero_le _, Nat.zero_le _⟩ (fun r_7 S_8 H locs h hP hS => ?_)
          exact W.iret (v := r_7) hx hb hr (fun t ht hW => ⟨⟨r_7, S_8, rfl, h, by rw [ht]; exact hP, va_K.moved hW.alike hK⟩, hS.F ht⟩) hS.2.2 dX7_ahead_138
        · have h := h.2 c_11
          refine lv_iconst (v := (-1)) hx hb dX7_ahead_130 (by decide) ?_
          refine lv_goto (tgt := 135) hx hb dX7_ahead_131 (by decide) ?_
          refine m_cVi (As := [.int (-1)]) (rest := []) ⟨hx, hb, hml, hown, hts⟩ (met_good l D cI cB b (-1)  S _ h) (cwV 1 hts (lw_V q1498 q1500 qs76 q128 q1501) rfl rfl rfl cwd_good ⟨Nat.le_of_ble_eq_true rfl, Nat.le_of_ble_eq_true rfl⟩) hK hP hS rfl hl.1 rfl (Nat.le_of_ble_eq_true rfl) dX7_ahead_135 ⟨Nat.zero_le _, Nat.zero_le _⟩ (fun r_9 S_10 H locs h hP hS => ?_)
          exact W.iret (v := r_9) hx hb hr (fun t ht hW => ⟨⟨r_9, S_10, rfl, h, by rw [ht]; exact hP, va_K.moved hW.alike hK⟩, hS.F ht⟩) hS.2.2 dX7_ahead_138
      · have h := h.2 c_14
        refine lv_iconst (v := 1) hx hb dX7_ahead_121 (by decide) ?_
        refine lv_goto (tgt := 135) hx hb dX7_ahead_122 (by decide) ?_
        refine m_cVi (As := [.int 1]) (rest := []) ⟨hx, hb, hml, hown, hts⟩ (met_good l D cI cB b 1  S _ h) (cwV 1 hts (lw_V q1498 q1500 qs76 q128 q1501) rfl rfl rfl cwd_good ⟨Nat.le_of_ble_eq_true rfl, Nat.le_of_ble_eq_true rfl⟩) hK hP hS rfl hl.1 rfl (Nat.le_of_ble_eq_true rfl) dX7_ahead_135 ⟨Nat.zero_le _, Nat.zero_le _⟩ (fun r_12 S_13 H locs h hP hS => ?_)
        exact W.iret (v := r_12) hx hb hr (fun t ht hW => ⟨⟨r_12, S_13, rfl, h, by rw [ht]; exact hP, va_K.moved hW.alike hK⟩, hS.F ht⟩) hS.2.2 dX7_ahead_138
    · have h := h.2 c_17
      refine lv_aload_n hx hb dX7_ahead_73 rfl (lv_at hl 0 rfl) ?_
      refine lv_iload hx hb dX7_ahead_74 (lv_at hl 7 rfl) ?_
      refine m_cVi (As := [.int x7]) (rest := []) ⟨hx, hb, hml, hown, hts⟩ (met_refused l D cI cB b x7  S _ h) (cwV 1 hts (lw_V q1382 q1384 qs58 q128 q1385) rfl rfl rfl cwd_refused ⟨Nat.le_of_ble_eq_true rfl, Nat.le_of_ble_eq_true rfl⟩) hK hP hS rfl hl.1 rfl (Nat.le_of_ble_eq_true rfl) dX7_ahead_76 ⟨Nat.zero_le _, Nat.zero_le _⟩ (fun r_15 S_16 H locs h hP hS => ?_)
      refine lv_pop hx hb dX7_ahead_79 rfl ?_
      refine lv_bipush (v := (-2)) hx hb dX7_ahead_80 (by decide) ?_
      exact W.iret (v := (-2)) hx hb hr (fun t ht hW => ⟨⟨(-2), S_16, rfl, h, by rw [ht]; exact hP, va_K.moved hW.alike hK⟩, hS.F ht⟩) hS.2.2 dX7_ahead_82
  have J65 : ∀  (S : St) (H : Heap) (locs : List Loc) (ls : Array Slot), wp_ahead_j65 p1 p2 p3 p4 p5 p6 post  S → mW D cI cB b S H → va_S (mA b) s.heap H locs → lv_has ls 9 [(0, .ref b), (1, .int p1), (2, .int p2), (3, .int p3), (4, .int p4), (5, .int p5), (6, .int p6)] → W p l e (headSpec (ws_ yX7_ahead cX7_ahead 9 (some .int)) ({ frames := 3, cells := 0, slots := 0, locals := 69 } : Room)).room s m ([.ref b, .int p1, .int p2, .int p3, .int p4, .int p5, .int p6] : List Value).toArray below meth c H locs 0 0 (MQ below (mQi D cI cB b post) ([.ref b, .int p1, .int p2, .int p3, .int p4, .int p5, .int p6] : List Value).toArray s 0 0 (mA b)) (F0 m 65 ls []) := by
    intro  S H locs ls h hP hS hl
    unfold wp_ahead_j65 at h
    refine lv_iconst (v := 2) hx hb dX7_ahead_65 (by decide) ?_
    refine lv_istore (lv' := [(7, .int 2), (0, .ref b), (1, .int p1), (2, .int p2), (3, .int p3), (4, .int p4), (5, .int p5), (6, .int p6)]) hx hb dX7_ahead_66 hl (by decide) rfl (fun ls hl => ?_)
    exact J68 _ _ _ _ _ h hP hS (lv_sub hl [1, 2, 3, 4, 5, 6, 7, 0] rfl)
  unfold wp_ahead at h
  refine lv_aload_n hx hb dX7_ahead_0 rfl (lv_at hl 0 rfl) ?_
  refine lv_iconst (v := 0) hx hb dX7_ahead_1 (by decide) ?_
  obtain ⟨S_18, eS_18⟩ : ∃ z : St, z = bw S 0 0 0 := ⟨_, rfl⟩
  have h := h S_18 eS_18
  refine m_put (S1 := S_18) (v := .int 0) (ty := .int) hx hb hts hown hK hP hS 0 (by decide) q1210 rfl rfl (tyX7_ok 0 (by decide)) rfl rfl (by rw [eS_18]; exact mset_0 b S 0) (by rw [eS_18]; exact bw_0) dX7_ahead_2 (fun H locs hP hS => ?_)
  refine lv_aload_n hx hb dX7_ahead_5 rfl (lv_at hl 0 rfl) ?_
  refine m_get (v := .int (S_18 0 14)) hx hb hts hown hK hP 14 (by decide) q1224 rfl rfl dX7_ahead_6 ?_
  refine lv_if_ne (tgt := 16) hx hb dX7_ahead_9 (by decide) (fun c_37 => ?_) (fun c_37 => ?_)
  · have h := h.1 c_37
    refine lv_iload_n hx hb dX7_ahead_16 rfl (lv_at hl 1 rfl) ?_
    refine m_cSp (As := [.int p1]) (rest := []) ⟨hx, hb, hml, hown, hts⟩ (met_isExponent l D cI cB b p1  S_18 _ h) (va_cwS 1 hts (lw_S q1567 q1568 q128 q1569) rfl rfl rfl cwd_isExponent ⟨Nat.le_of_ble_eq_true rfl, Nat.le_of_ble_eq_true rfl⟩) hK hP hS rfl hl.1 rfl (Nat.le_of_ble_eq_true rfl) dX7_ahead_17 ⟨Nat.zero_le _, Nat.zero_le _⟩ (fun r_19 H locs h hP hS => ?_)
    refine lv_if_eq (tgt := 65) hx hb dX7_ahead_20 (by decide) (fun c_36 => ?_) (fun c_36 => ?_)
    · have h := h.1 c_36
      exact J65  _ _ _ _ h hP hS (lv_sub hl [0, 1, 2, 3, 4, 5, 6] rfl)
    · have h := h.2 c_36
      refine lv_iload_n hx hb dX7_ahead_23 rfl (lv_at hl 2 rfl) ?_
      refine m_cSp (As := [.int p2]) (rest := []) ⟨hx, hb, hml, hown, hts⟩ (met_isExponent l D cI cB b p2  S_18 _ h) (va_cwS 1 hts (lw_S q1567 q1568 q128 q1569) rfl rfl rfl cwd_isExponent ⟨Nat.le_of_ble_eq_true rfl, Nat.le_of_ble_eq_true rfl⟩) hK hP hS rfl hl.1 rfl (Nat.le_of_ble_eq_true rfl) dX7_ahead_24 ⟨Nat.zero_le _, Nat.zero_le _⟩ (fun r_21 H locs h hP hS => ?_)
      refine lv_if_eq (tgt := 65) hx hb dX7_ahead_27 (by decide) (fun c_35 => ?_) (fun c_35 => ?_)
      · have h := h.1 c_35
        exact J65  _ _ _ _ h hP hS (lv_sub hl [0, 1, 2, 3, 4, 5, 6] rfl)
      · have h := h.2 c_35
        refine lv_iload_n hx hb dX7_ahead_30 rfl (lv_at hl 3 rfl) ?_
        refine m_cSp (As := [.int p3]) (rest := []) ⟨hx, hb, hml, hown, hts⟩ (met_isExponent l D cI cB b p3  S_18 _ h) (va_cwS 1 hts (lw_S q1567 q1568 q128 q1569) rfl rfl rfl cwd_isExponent ⟨Nat.le_of_ble_eq_true rfl, Nat.le_of_ble_eq_true rfl⟩) hK hP hS rfl hl.1 rfl (Nat.le_of_ble_eq_true rfl) dX7_ahead_31 ⟨Nat.zero_le _, Nat.zero_le _⟩ (fun r_23 H locs h hP hS => ?_)
        refine lv_if_eq (tgt := 65) hx hb dX7_ahead_34 (by decide) (fun c_34 => ?_) (fun c_34 => ?_)
        · have h := h.1 c_34
          exact J65  _ _ _ _ h hP hS (lv_sub hl [0, 1, 2, 3, 4, 5, 6] rfl)
        · have h := h.2 c_34
          refine lv_iload hx hb dX7_ahead_37 (lv_at hl 4 rfl) ?_
          refine m_cSp (As := [.int p4]) (rest := []) ⟨hx, hb, hml, hown, hts⟩ (met_isExponent l D cI cB b p4  S_18 _ h) (va_cwS 1 hts (lw_S q1567 q1568 q128 q1569) rfl rfl rfl cwd_isExponent ⟨Nat.le_of_ble_eq_true rfl, Nat.le_of_ble_eq_true rfl⟩) hK hP hS rfl hl.1 rfl (Nat.le_of_ble_eq_true rfl) dX7_ahead_39 ⟨Nat.zero_le _, Nat.zero_le _⟩ (fun r_25 H locs h hP hS => ?_)
          refine lv_if_eq (tgt := 65) hx hb dX7_ahead_42 (by decide) (fun c_33 => ?_) (fun c_33 => ?_)
          · have h := h.1 c_33
            exact J65  _ _ _ _ h hP hS (lv_sub hl [0, 1, 2, 3, 4, 5, 6] rfl)
          · have h := h.2 c_33
            refine lv_iload hx hb dX7_ahead_45 (lv_at hl 5 rfl) ?_
            refine m_cSp (As := [.int p5]) (rest := []) ⟨hx, hb, hml, hown, hts⟩ (met_isExponent l D cI cB b p5  S_18 _ h) (va_cwS 1 hts (lw_S q1567 q1568 q128 q1569) rfl rfl rfl cwd_isExponent ⟨Nat.le_of_ble_eq_true rfl, Nat.le_of_ble_eq_true rfl⟩) hK hP hS rfl hl.1 rfl (Nat.le_of_ble_eq_true rfl) dX7_ahead_47 ⟨Nat.zero_le _, Nat.zero_le _⟩ (fun r_27 H locs h hP hS => ?_)
            refine lv_if_eq (tgt := 65) hx hb dX7_ahead_50 (by decide) (fun c_32 => ?_) (fun c_32 => ?_)
            · have h := h.1 c_32
              exact J65  _ _ _ _ h hP hS (lv_sub hl [0, 1, 2, 3, 4, 5, 6] rfl)
            · have h := h.2 c_32
              refine lv_iload hx hb dX7_ahead_53 (lv_at hl 6 rfl) ?_
              refine m_cSp (As := [.int p6]) (rest := []) ⟨hx, hb, hml, hown, hts⟩ (met_isExponent l D cI cB b p6  S_18 _ h) (va_cwS 1 hts (lw_S q1567 q1568 q128 q1569) rfl rfl rfl cwd_isExponent ⟨Nat.le_of_ble_eq_true rfl, Nat.le_of_ble_eq_true rfl⟩) hK hP hS rfl hl.1 rfl (Nat.le_of_ble_eq_true rfl) dX7_ahead_55 ⟨Nat.zero_le _, Nat.zero_le _⟩ (fun r_29 H locs h hP hS => ?_)
              refine lv_if_eq (tgt := 65) hx hb dX7_ahead_58 (by decide) (fun c_31 => ?_) (fun c_31 => ?_)
              · have h := h.1 c_31
                exact J65  _ _ _ _ h hP hS (lv_sub hl [0, 1, 2, 3, 4, 5, 6] rfl)
              · have h := h.2 c_31
                refine lv_iconst (v := 0) hx hb dX7_ahead_61 (by decide) ?_
                refine lv_goto (tgt := 66) hx hb dX7_ahead_62 (by decide) ?_
                refine lv_istore (lv' := [(7, .int 0), (0, .ref b), (1, .int p1), (2, .int p2), (3, .int p3), (4, .int p4), (5, .int p5), (6, .int p6)]) hx hb dX7_ahead_66 hl (by decide) rfl (fun ls hl => ?_)
                exact J68 _ _ _ _ _ h hP hS (lv_sub hl [1, 2, 3, 4, 5, 6, 7, 0] rfl)
  · have h := h.2 c_37
    refine lv_iconst (v := 1) hx hb dX7_ahead_12 (by decide) ?_
    refine lv_goto (tgt := 66) hx hb dX7_ahead_13 (by decide) ?_
    refine lv_istore (lv' := [(7, .int 1), (0, .ref b), (1, .int p1), (2, .int p2), (3, .int p3), (4, .int p4), (5, .int p5), (6, .int p6)]) hx hb dX7_ahead_66 hl (by decide) rfl (fun ls hl => ?_)
    exact J68 _ _ _ _ _ h hP hS (lv_sub hl [1, 2, 3, 4, 5, 6, 7, 0] rfl)
def wp_isOrder (p1 : Int32) (p2 : Int32) (p3 : Int32) (S : St) (post : Int32 → Prop) : Prop :=
  wp_in p1 0 2 S (fun r_1 =>
  ((r_1 = 0 →
    post 0) ∧
   (¬ (r_1 = 0) →
    wp_isUnknown p2 S (fun r_3 =>
    ((r_3 = 0 →
      post 0) ∧
     (¬ (r_3 = 0) →
      wp_isUnknown p3 S (fun r_5 =>
      ((r_5 = 0 →
        post 0) ∧
       (¬ (r_5 = 0) →
        ((p2 = p3 →
          post 0) ∧
         (¬ (p2 = p3) →
          post 1)))))))))))
set_option maxHeartbeats 4000000 in
theorem met_isOrder (l : Launch) (D : va_G) (cI cB : ClassId) (b : Nat) (p1 : Int32) (p2 : Int32) (p3 : Int32)  (S : St) (post : Int32 → Prop) (h : wp_isOrder p1 p2 p3 S post) : Met l yX7_isOrder (ws_ yX7_isOrder cX7_isOrder 3 (some .boolean)) ({ frames := 2, cells := 0, slots := 0, locals := 42 } : Room) (mPc D cI cB b [.int p1, .int p2, .int p3] S) (mQp D cI cB b S post) 0 0 (mA b) := by
  refine Met.ofW (cc := cX7_isOrder) (maxL := 3) (ret := (some .boolean)) (by decide) rfl ?_
  intro p e s m args below meth c s₁ B hml hv
  obtain ⟨rfl, hP, hK⟩ := hv
  have hx := B.exec
  have hb := B.bytes
  have hr := B.returns
  have hts := atoms_spec (ws := ws_ yX7_isOrder cX7_isOrder 3 (some .boolean)) B.pre
  have hts : ∀ w ∈ lw_all, w.before _ s = true := fun w h => hts w (List.mem_cons_of_mem _ h)
  have hown : s.vm.findClass RX7 = some m.cls := findClass_of_methodNamed B.named
  have hlocks := B.notSynchronized
  have hS : va_S (mA b) s.heap s.heap [] := va_S.rf
  have hl := lv_entry ([.int p1, .int p2, .int p3]) (n := 3) (Nat.le_of_ble_eq_true rfl)
  rw [lg_entry_eq]
  generalize (lg_sl ([.int p1, .int p2, .int p3]) ++ List.replicate (3 - (lg_sl ([.int p1, .int p2, .int p3])).length) Slot.unset).toArray = ls at hl ⊢
  have hl : lv_has ls 3 [(0, .int p1), (1, .int p2), (2, .int p3)] := hl
  unfold wp_isOrder at h
  refine lv_iload_n hx hb dX7_isOrder_0 rfl (lv_at hl 0 rfl) ?_
  refine lv_iconst (v := 0) hx hb dX7_isOrder_1 (by decide) ?_
  refine lv_iconst (v := 2) hx hb dX7_isOrder_2 (by decide) ?_
  refine m_cSp (As := [.int p1, .int 0, .int 2]) (rest := []) ⟨hx, hb, hml, hown, hts⟩ (met_in l D cI cB b p1 0 2  S _ h) (va_cwS 3 hts (lw_S q1398 q1399 q128 q1400) rfl rfl rfl cwd_in ⟨Nat.le_of_ble_eq_true rfl, Nat.le_of_ble_eq_true rfl⟩) hK hP hS rfl hl.1 rfl (Nat.le_of_ble_eq_true rfl) dX7_isOrder_3 ⟨Nat.zero_le _, Nat.zero_le _⟩ (fun r_1 H locs h hP hS => ?_)
  refine lv_if_eq (tgt := 32) hx hb dX7_isOrder_6 (by decide) (fun c_10 => ?_) (fun c_10 => ?_)
  · have h := h.1 c_10
    refine lv_iconst (v := 0) hx hb dX7_isOrder_32 (by decide) ?_
    exact W.zret (v := 0) hx hb hr rfl (fun t ht hW => ⟨⟨0, (), rfl, h, by rw [ht]; exact hP, va_K.moved hW.alike hK⟩, hS.F ht⟩) hS.2.2 dX7_isOrder_33
  · have h := h.2 c_10
    refine lv_iload_n hx hb dX7_isOrder_9 rfl (lv_at hl 1 rfl) ?_
    refine m_cSp (As := [.int p2]) (rest := []) ⟨hx, hb, hml, hown, hts⟩ (met_isUnknown l D cI cB b p2  S _ h) (va_cwS 1 hts (lw_S q1556 q1557 q128 q1558) rfl rfl rfl cwd_isUnknown ⟨Nat.le_of_ble_eq_true rfl, Nat.le_of_ble_eq_true rfl⟩) hK hP hS rfl hl.1 rfl (Nat.le_of_ble_eq_true rfl) dX7_isOrder_10 ⟨Nat.zero_le _, Nat.zero_le _⟩ (fun r_3 H locs h hP hS => ?_)
    refine lv_if_eq (tgt := 32) hx hb dX7_isOrder_13 (by decide) (fun c_9 => ?_) (fun c_9 => ?_)
    · have h := h.1 c_9
      refine lv_iconst (v := 0) hx hb dX7_isOrder_32 (by decide) ?_
      exact W.zret (v := 0) hx hb hr rfl (fun t ht hW => ⟨⟨0, (), rfl, h, by rw [ht]; exact hP, va_K.moved hW.alike hK⟩, hS.F ht⟩) hS.2.2 dX7_isOrder_33
    · have h := h.2 c_9
      refine lv_iload_n hx hb dX7_isOrder_16 rfl (lv_at hl 2 rfl) ?_
      refine m_cSp (As := [.int p3]) (rest := []) ⟨hx, hb, hml, hown, hts⟩ (met_isUnknown l D cI cB b p3  S _ h) (va_cwS 1 hts (lw_S q1556 q1557 q128 q1558) rfl rfl rfl cwd_isUnknown ⟨Nat.le_of_ble_eq_true rfl, Nat.le_of_ble_eq_true rfl⟩) hK hP hS rfl hl.1 rfl (Nat.le_of_ble_eq_true rfl) dX7_isOrder_17 ⟨Nat.zero_le _, Nat.zero_le _⟩ (fun r_5 H locs h hP hS => ?_)
      refine lv_if_eq (tgt := 32) hx hb dX7_isOrder_20 (by decide) (fun c_8 => ?_) (fun c_8 => ?_)
      · have h := h.1 c_8
        refine lv_iconst (v := 0) hx hb dX7_isOrder_32 (by decide) ?_
        exact W.zret (v := 0) hx hb hr rfl (fun t ht hW => ⟨⟨0, (), rfl, h, by rw [ht]; exact hP, va_K.moved hW.alike hK⟩, hS.F ht⟩) hS.2.2 dX7_isOrder_33
      · have h := h.2 c_8
        refine lv_iload_n hx hb dX7_isOrder_23 rfl (lv_at hl 1 rfl) ?_
        refine lv_iload_n hx hb dX7_isOrder_24 rfl (lv_at hl 2 rfl) ?_
        refine lv_icmp_eq (tgt := 32) hx hb dX7_isOrder_25 (by decide) (fun c_7 => ?_) (fun c_7 => ?_)
        · have h := h.1 c_7
          refine lv_iconst (v := 0) hx hb dX7_isOrder_32 (by decide) ?_
          exact W.zret (v := 0) hx hb hr rfl (fun t ht hW => ⟨⟨0, (), rfl, h, by rw [ht]; exact hP, va_K.moved hW.alike hK⟩, hS.F ht⟩) hS.2.2 dX7_isOrder_33
        · have h := h.2 c_7
          refine lv_iconst (v := 1) hx hb dX7_isOrder_28 (by decide) ?_
          refine lv_goto (tgt := 33) hx hb dX7_isOrder_29 (by decide) ?_
          exact W.zret (v := 1) hx hb hr rfl (fun t ht hW => ⟨⟨1, (), rfl, h, by rw [ht]; exact hP, va_K.moved hW.alike hK⟩, hS.F ht⟩) hS.2.2 dX7_isOrder_33
def wp_leadBy_j83 (p1 : Int32) (p2 : Int32) (p3 : Int32) (p4 : Int32) (post : Int32 → St → Prop) (R41 : Int32 → Int32 → Prop) (x5 : Int32) (x6 : Int32) (S : St) : Prop :=
        ∀ x6_1 : Int32, x6_1 = x6 + 1 →
        R41 x5 x6_1
def wp_leadBy_j79 (p1 : Int32) (p2 : Int32) (p3 : Int32) (p4 : Int32) (post : Int32 → St → Prop) (R41 : Int32 → Int32 → Prop) (x6 : Int32) (S : St) : Prop :=
        wp_leadBy_j83 p1 p2 p3 p4 post R41 x6 x6 S
def wp_leadBy_b41 (p1 : Int32) (p2 : Int32) (p3 : Int32) (p4 : Int32) (post : Int32 → St → Prop) (R41 : Int32 → Int32 → Prop)  (x5 : Int32) (x6 : Int32) (S : St) : Prop :=
      ((4096 ≤ x6 →
        ((¬ x5 = (-1) →
          wp_good x5 S (fun r_2 S_3 =>
          post r_2 S_3)) ∧
         (x5 = (-1) →
          wp_good (-2) S (fun r_4 S_5 =>
          post r_4 S_5)))) ∧
       (¬ (4096 ≤ x6) →
        wp_coef p1 x6 S (fun r_7 =>
        ((r_7 = 0 →
          wp_leadBy_j83 p1 p2 p3 p4 post R41 x5 x6 S) ∧
         (¬ (r_7 = 0) →
          ((x5 = (-1) →
            wp_leadBy_j79 p1 p2 p3 p4 post R41 x6 S) ∧
           (¬ (x5 = (-1)) →
            wp_compares x6 x5 p2 p3 p4 S (fun r_9 =>
            ((r_9 ≤ 0 →
              wp_leadBy_j83 p1 p2 p3 p4 post R41 x5 x6 S) ∧
             (¬ (r_9 ≤ 0) →
              wp_leadBy_j79 p1 p2 p3 p4 post R41 x6 S))))))))))
def wp_leadBy_l41 (p1 : Int32) (p2 : Int32) (p3 : Int32) (p4 : Int32) (post : Int32 → St → Prop)  (x5 : Int32) (x6 : Int32) (S : St) : Prop := wLoop (fun (R : (Int32 × Int32) → Prop) (v : Int32 × Int32) => wp_leadBy_b41 p1 p2 p3 p4 post (fun x5 x6 => R (x5, x6))  v.1 v.2 S) (x5, x6)
def wp_leadBy (p1 : Int32) (p2 : Int32) (p3 : Int32) (p4 : Int32) (S : St) (post : Int32 → St → Prop) : Prop :=
  ∀ S_15 : St, S_15 = bw S 0 0 0 →
  wp_isReg p1 S_15 (fun r_16 =>
  ((¬ r_16 = 0 →
    wp_isOrder p2 p3 p4 S_15 (fun r_18 =>
    ((¬ r_18 = 0 →
      wp_leadBy_l41 p1 p2 p3 p4 post (-1) 0 S_15) ∧
     (r_18 = 0 →
      wp_refused 2 S_15 (fun r_20 S_21 =>
      post r_20 S_21))))) ∧
   (r_16 = 0 →
    wp_refused 1 S_15 (fun r_23 S_24 =>
    post r_23 S_24))))
set_option maxHeartbeats 4000000 in
theorem met_leadBy (l : Launch) (D : va_G) (cI cB : ClassId) (b : Nat) (p1 : Int32) (p2 : Int32) (p3 : Int32) (p4 : Int32)  (S : St) (post : Int32 → St → Prop) (h : wp_leadBy p1 p2 p3 p4 S post) : Met l yX7_leadBy (ws_ yX7_leadBy cX7_leadBy 7 (some .int)) ({ frames := 3, cells := 0, slots := 0, locals := 69 } : Room) (mPc D cI cB b [.ref b, .int p1, .int p2, .int p3, .int p4] S) (mQi D cI cB b post) 0 0 (mA b) := by
  refine Met.ofW (cc := cX7_leadBy) (maxL := 7) (ret := (some .int)) (by decide) rfl ?_
  intro p e s m args below meth c s₁ B hml hv
  obtain ⟨rfl, hP, hK⟩ := hv
  have hx := B.exec
  have hb := B.bytes
  have hr := B.returns
  have hts := atoms_spec (ws := ws_ yX7_leadBy cX7_leadBy 7 (some .int)) B.pre
  have hts : ∀ w ∈ lw_all, w.before _ s = true := fun w h => hts w (List.mem_cons_of_mem _ h)
  have hown : s.vm.findClass RX7 = some m.cls := findClass_of_methodNamed B.named
  have hlocks := B.notSynchronized
  have hS : va_S (mA b) s.heap s.heap [] := va_S.rf
  have hl := lv_entry ([.ref b, .int p1, .int p2, .int p3, .int p4]) (n := 7) (Nat.le_of_ble_eq_true rfl)
  rw [lg_entry_eq]
  generalize (lg_sl ([.ref b, .int p1, .int p2, .int p3, .int p4]) ++ List.replicate (7 - (lg_sl ([.ref b, .int p1, .int p2, .int p3, .int p4])).length) Slot.unset).toArray = ls at hl ⊢
  have hl : lv_has ls 7 [(0, .ref b), (1, .int p1), (2, .int p2), (3, .int p3), (4, .int p4)] := hl
  have L41 : ∀  (x5 : Int32) (x6 : Int32) (S : St) (H : Heap) (locs : List Loc) (ls : Array Slot), wp_leadBy_l41 p1 p2 p3 p4 post  x5 x6 S → mW D cI cB b S H → va_S (mA b) s.heap H locs → lv_has ls 7 [(0, .ref b), (1, .int p1), (2, .int p2), (3, .int p3), (4, .int p4), (5, .int x5), (6, .int x6)] → W p l e (headSpec (ws_ yX7_leadBy cX7_leadBy 7 (some .int)) ({ frames := 3, cells := 0, slots := 0, locals := 69 } : Room)).room s m ([.ref b, .int p1, .int p2, .int p3, .int p4] : List Value).toArray below meth c H locs 0 0 (MQ below (mQi D cI cB b post) ([.ref b, .int p1, .int p2, .int p3, .int p4] : List Value).toArray s 0 0 (mA b)) (F0 m 41 ls []) := by
    intro  x5 x6 S H locs ls h hP hS hl
    obtain ⟨I41, n41, hI, hstep41⟩ := h
    induction n41 using Nat.strongRecOn generalizing x5 x6 H locs ls with
    | ind n41 ih41 =>
      have h : wp_leadBy_b41 p1 p2 p3 p4 post (fun x5 x6 => ∃ mm, mm < n41 ∧ I41 mm (x5, x6))  x5 x6 S := hstep41 n41 _ hI
      clear hI
      have J83 : ∀ (x5 : Int32) (x6 : Int32) (H : Heap) (locs : List Loc) (ls : Array Slot), wp_leadBy_j83 p1 p2 p3 p4 post (fun x5 x6 => ∃ mm, mm < n41 ∧ I41 mm (x5, x6)) x5 x6 S → mW D cI cB b S H → va_S (mA b) s.heap H locs → lv_has ls 7 [(0, .ref b), (1, .int p1), (2, .int p2), (3, .int p3), (4, .int p4), (5, .int x5), (6, .int x6)] → W p l e (headSpec (ws_ yX7_leadBy cX7_leadBy 7 (some .int)) ({ frames := 3, cells := 0, slots := 0, locals := 69 } : Room)).room s m ([.ref b, .int p1, .int p2, .int p3, .int p4] : List Value).toArray below meth c H locs 0 0 (MQ below (mQi D cI cB b post) ([.ref b, .int p1, .int p2, .int p3, .int p4] : List Value).toArray s 0 0 (mA b)) (F0 m 83 ls []) := by
        intro x5 x6  H locs ls h hP hS hl
        unfold wp_leadBy_j83 at h
        obtain ⟨x6_1, ex6_1⟩ : ∃ y : Int32, y = x6 + 1 := ⟨_, rfl⟩
        have h := h x6_1 ex6_1
        refine lv_iinc (v := x6_1) (lv' := [(6, .int x6_1), (0, .ref b), (1, .int p1), (2, .int p2), (3, .int p3), (4, .int p4), (5, .int x5)]) hx hb dX7_leadBy_83 hl (k := 6) rfl (by rw [ex6_1]; rfl) (by decide) rfl (fun ls hl => ?_)
        refine lv_goto (tgt := 41) hx hb dX7_leadBy_86 (by decide) ?_
        obtain ⟨mm, hmm, h⟩ := h
        exact ih41 mm hmm _ _ _ _ _ hP hS (lv_sub hl [1, 2, 3, 4, 5, 6, 0] rfl) h
      have J79 : ∀ (x6 : Int32) (H : Heap) (locs : List Loc) (ls : Array Slot), wp_leadBy_j79 p1 p2 p3 p4 post (fun x5 x6 => ∃ mm, mm < n41 ∧ I41 mm (x5, x6)) x6 S → mW D cI cB b S H → va_S (mA b) s.heap H locs → lv_has ls 7 [(0, .ref b), (1, .int p1), (2, .int p2), (3, .int p3), (4, .int p4), (6, .int x6)] → W p l e (headSpec (ws_ yX7_leadBy cX7_leadBy 7 (some .int)) ({ frames := 3, cells := 0, slots := 0, locals := 69 } : Room)).room s m ([.ref b, .int p1, .int p2, .int p3, .int p4] : List Value).toArray below meth c H locs 0 0 (MQ below (mQi D cI cB b post) ([.ref b, .int p1, .int p2, .int p3, .int p4] : List Value).toArray s 0 0 (mA b)) (F0 m 79 ls []) := by
        intro x6  H locs ls h hP hS hl
        unfold wp_leadBy_j79 at h
        refine lv_iload hx hb dX7_leadBy_79 (lv_at hl 5 rfl) ?_
        refine lv_istore (lv' := [(5, .int x6), (0, .ref b), (1, .int p1), (2, .int p2), (3, .int p3), (4, .int p4), (6, .int x6)]) hx hb dX7_leadBy_81 hl (by decide) rfl (fun ls hl => ?_)
        exact J83 _ _  _ _ _ h hP hS (lv_sub hl [1, 2, 3, 4, 5, 0, 6] rfl)
      unfold wp_leadBy_b41 at h
      refine lv_iload hx hb dX7_leadBy_41 (lv_at hl 6 rfl) ?_
      refine lv_sipush (v := 4096) hx hb dX7_leadBy_43 (by decide) ?_
      refine lv_icmp_ge (tgt := 89) hx hb dX7_leadBy_46 (by decide) (fun c_14 => ?_) (fun c_14 => ?_)
      · have h := h.1 c_14
        refine lv_aload_n hx hb dX7_leadBy_89 rfl (lv_at hl 0 rfl) ?_
        refine lv_iload hx hb dX7_leadBy_90 (lv_at hl 5 rfl) ?_
        refine lv_iconst (v := (-1)) hx hb dX7_leadBy_92 (by decide) ?_
        refine lv_icmp_ne (tgt := 101) hx hb dX7_leadBy_93 (by decide) (fun c_6 => ?_) (fun c_6 => ?_)
        · have h := h.1 c_6
          refine lv_iload hx hb dX7_leadBy_101 (lv_at hl 5 rfl) ?_
          refine m_cVi (As := [.int x5]) (rest := []) ⟨hx, hb, hml, hown, hts⟩ (met_good l D cI cB b x5  S _ h) (cwV 1 hts (lw_V q1498 q1500 qs76 q128 q1501) rfl rfl rfl cwd_good ⟨Nat.le_of_ble_eq_true rfl, Nat.le_of_ble_eq_true rfl⟩) hK hP hS rfl hl.1 rfl (Nat.le_of_ble_eq_true rfl) dX7_leadBy_103 ⟨Nat.zero_le _, Nat.zero_le _⟩ (fun r_2 S_3 H locs h hP hS => ?_)
          exact W.iret (v := r_2) hx hb hr (fun t ht hW => ⟨⟨r_2, S_3, rfl, h, by rw [ht]; exact hP, va_K.moved hW.alike hK⟩, hS.F ht⟩) hS.2.2 dX7_leadBy_106
        · have h := h.2 c_6
          refine lv_bipush (v := (-2)) hx hb dX7_leadBy_96 (by decide) ?_
          refine lv_goto (tgt := 103) hx hb dX7_leadBy_98 (by decide) ?_
          refine m_cVi (As := [.int (-2)]) (rest := []) ⟨hx, hb, hml, hown, hts⟩ (met_good l D cI cB b (-2)  S _ h) (cwV 1 hts (lw_V q1498 q1500 qs76 q128 q1501) rfl rfl rfl cwd_good ⟨Nat.le_of_ble_eq_true rfl, Nat.le_of_ble_eq_true rfl⟩) hK hP hS rfl hl.1 rfl (Nat.le_of_ble_eq_true rfl) dX7_leadBy_103 ⟨Nat.zero_le _, Nat.zero_le _⟩ (fun r_4 S_5 H locs h hP hS => ?_)
          exact W.iret (v := r_4) hx hb hr (fun t ht hW => ⟨⟨r_4, S_5, rfl, h, by rw [ht]; exact hP, va_K.moved hW.alike hK⟩, hS.F ht⟩) hS.2.2 dX7_leadBy_106
      · have h := h.2 c_14
        refine lv_aload_n hx hb dX7_leadBy_49 rfl (lv_at hl 0 rfl) ?_
        refine lv_iload_n hx hb dX7_leadBy_50 rfl (lv_at hl 1 rfl) ?_
        refine lv_iload hx hb dX7_leadBy_51 (lv_at hl 6 rfl) ?_
        refine m_cVp (As := [.int p1, .int x6]) (rest := []) ⟨hx, hb, hml, hown, hts⟩ (met_coef l D cI cB b p1 x6  S _ h) (cwV 2 hts (lw_V q1526 q1528 qs80 q128 q1529) rfl rfl rfl cwd_coef ⟨Nat.le_of_ble_eq_true rfl, Nat.le_of_ble_eq_true rfl⟩) hK hP hS rfl hl.1 rfl (Nat.le_of_ble_eq_true rfl) dX7_leadBy_53 ⟨Nat.zero_le _, Nat.zero_le _⟩ (fun r_7 H locs h hP hS => ?_)
        refine lv_if_eq (tgt := 83) hx hb dX7_leadBy_56 (by decide) (fun c_13 => ?_) (fun c_13 => ?_)
        · have h := h.1 c_13
          exact J83 _ _  _ _ _ h hP hS (lv_sub hl [0, 1, 2, 3, 4, 5, 6] rfl)
        · have h := h.2 c_13
          refine lv_iload hx hb dX7_leadBy_59 (lv_at hl 5 rfl) ?_
          refine lv_iconst (v := (-1)) hx hb dX7_leadBy_61 (by decide) ?_
          refine lv_icmp_eq (tgt := 79) hx hb dX7_leadBy_62 (by decide) (fun c_12 => ?_) (fun c_12 => ?_)
          · have h := h.1 c_12
            exact J79 _  _ _ _ h hP hS (lv_sub hl [0, 1, 2, 3, 4, 6] rfl)
          · have h := h.2 c_12
            refine lv_iload hx hb dX7_leadBy_65 (lv_at hl 6 rfl) ?_
            refine lv_iload hx hb dX7_leadBy_67 (lv_at hl 5 rfl) ?_
            refine lv_iload_n hx hb dX7_leadBy_69 rfl (lv_at hl 2 rfl) ?_
            refine lv_iload_n hx hb dX7_leadBy_70 rfl (lv_at hl 3 rfl) ?_
            refine lv_iload hx hb dX7_leadBy_71 (lv_at hl 4 rfl) ?_
            refine m_cSp (As := [.int x6, .int x5, .int p2, .int p3, .int p4]) (rest := []) ⟨hx, hb, hml, hown, hts⟩ (met_compares l D cI cB b x6 x5 p2 p3 p4  S _ h) (va_cwS 5 hts (lw_S q1605 q1606 q128 q1607) rfl rfl rfl cwd_compares ⟨Nat.le_of_ble_eq_true rfl, Nat.le_of_ble_eq_true rfl⟩) hK hP hS rfl hl.1 rfl (Nat.le_of_ble_eq_true rfl) dX7_leadBy_73 ⟨Nat.zero_le _, Nat.zero_le _⟩ (fun r_9 H locs h hP hS => ?_)
            refine lv_if_le (tgt := 83) hx hb dX7_leadBy_76 (by decide) (fun c_11 => ?_) (fun c_11 => ?_)
            · have h := h.1 c_11
              exact J83 _ _  _ _ _ h hP hS (lv_sub hl [0, 1, 2, 3, 4, 5, 6] rfl)
            · have h := h.2 c_11
              exact J79 _  _ _ _ h hP hS (lv_sub hl [0, 1, 2, 3, 4, 6] rfl)
  unfold wp_leadBy at h
  refine lv_aload_n hx hb dX7_leadBy_0 rfl (lv_at hl 0 rfl) ?_
  refine lv_iconst (v := 0) hx hb dX7_leadBy_1 (by decide) ?_
  obtain ⟨S_15, eS_15⟩ : ∃ z : St, z = bw S 0 0 0 := ⟨_, rfl⟩
  have h := h S_15 eS_15
  refine m_put (S1 := S_15) (v := .int 0) (ty := .int) hx hb hts hown hK hP hS 0 (by decide) q1210 rfl rfl (tyX7_ok 0 (by decide)) rfl rfl (by rw [eS_15]; exact mset_0 b S 0) (by rw [eS_15]; exact bw_0) dX7_leadBy_2 (fun H locs hP hS => ?_)
  refine lv_aload_n hx hb dX7_leadBy_5 rfl (lv_at hl 0 rfl) ?_
  refine lv_iload_n hx hb dX7_leadBy_6 rfl (lv_at hl 1 rfl) ?_
  refine m_cVp (As := [.int p1]) (rest := []) ⟨hx, hb, hml, hown, hts⟩ (met_isReg l D cI cB b p1  S_15 _ h) (cwV 1 hts (lw_V q1534 q1536 qs81 q128 q1537) rfl rfl rfl cwd_isReg ⟨Nat.le_of_ble_eq_true rfl, Nat.le_of_ble_eq_true rfl⟩) hK hP hS rfl hl.1 rfl (Nat.le_of_ble_eq_true rfl) dX7_leadBy_7 ⟨Nat.zero_le _, Nat.zero_le _⟩ (fun r_16 H locs h hP hS => ?_)
  refine lv_if_ne (tgt := 19) hx hb dX7_leadBy_10 (by decide) (fun c_25 => ?_) (fun c_25 => ?_)
  · have h := h.1 c_25
    refine lv_iload_n hx hb dX7_leadBy_19 rfl (lv_at hl 2 rfl) ?_
    refine lv_iload_n hx hb dX7_leadBy_20 rfl (lv_at hl 3 rfl) ?_
    refine lv_iload hx hb dX7_leadBy_21 (lv_at hl 4 rfl) ?_
    refine m_cSp (As := [.int p2, .int p3, .int p4]) (rest := []) ⟨hx, hb, hml, hown, hts⟩ (met_isOrder l D cI cB b p2 p3 p4  S_15 _ h) (va_cwS 3 hts (lw_S q1612 q1613 q128 q1614) rfl rfl rfl cwd_isOrder ⟨Nat.le_of_ble_eq_true rfl, Nat.le_of_ble_eq_true rfl⟩) hK hP hS rfl hl.1 rfl (Nat.le_of_ble_eq_true rfl) dX7_leadBy_23 ⟨Nat.zero_le _, Nat.zero_le _⟩ (fun r_18 H locs h hP hS => ?_)
    refine lv_if_ne (tgt := 35) hx hb dX7_leadBy_26 (by decide) (fun c_22 => ?_) (fun c_22 => ?_)
    · have h := h.1 c_22
      refine lv_iconst (v := (-1)) hx hb dX7_leadBy_35 (by decide) ?_
      refine lv_istore (lv' := [(5, .int (-1)), (0, .ref b), (1, .int p1), (2, .int p2), (3, .int p3), (4, .int p4)]) hx hb dX7_leadBy_36 hl (by decide) rfl (fun ls hl => ?_)
      refine lv_iconst (v := 0) hx hb dX7_leadBy_38 (by decide) ?_
      refine lv_istore (lv' := [(6, .int 0), (5, .int (-1)), (0, .ref b), (1, .int p1), (2, .int p2), (3, .int p3), (4, .int p4)]) hx hb dX7_leadBy_39 hl (by decide) rfl (fun ls hl => ?_)
      exact L41 _ _ _ _ _ _ h hP hS (lv_sub hl [2, 3, 4, 5, 6, 1, 0] rfl)
    · have h := h.2 c_22
      refine lv_aload_n hx hb dX7_leadBy_29 rfl (lv_at hl 0 rfl) ?_
      refine lv_iconst (v := 2) hx hb dX7_leadBy_30 (by decide) ?_
      refine m_cVi (As := [.int 2]) (rest := []) ⟨hx, hb, hml, hown, hts⟩ (met_refused l D cI cB b 2  S_15 _ h) (cwV 1 hts (lw_V q1382 q1384 qs58 q128 q1385) rfl rfl rfl cwd_refused ⟨Nat.le_of_ble_eq_true rfl, Nat.le_of_ble_eq_true rfl⟩) hK hP hS rfl hl.1 rfl (Nat.le_of_ble_eq_true rfl) dX7_leadBy_31 ⟨Nat.zero_le _, Nat.zero_le _⟩ (fun r_20 S_21 H locs h hP hS => ?_)
      exact W.iret (v := r_20) hx hb hr (fun t ht hW => ⟨⟨r_20, S_21, rfl, h, by rw [ht]; exact hP, va_K.moved hW.alike hK⟩, hS.F ht⟩) hS.2.2 dX7_leadBy_34
  · have h := h.2 c_25
    refine lv_aload_n hx hb dX7_leadBy_13 rfl (lv_at hl 0 rfl) ?_
    refine lv_iconst (v := 1) hx hb dX7_leadBy_14 (by decide) ?_
    refine m_cVi (As := [.int 1]) (rest := []) ⟨hx, hb, hml, hown, hts⟩ (met_refused l D cI cB b 1  S_15 _ h) (cwV 1 hts (lw_V q1382 q1384 qs58 q128 q1385) rfl rfl rfl cwd_refused ⟨Nat.le_of_ble_eq_true rfl, Nat.le_of_ble_eq_true rfl⟩) hK hP hS rfl hl.1 rfl (Nat.le_of_ble_eq_true rfl) dX7_leadBy_15 ⟨Nat.zero_le _, Nat.zero_le _⟩ (fun r_23 S_24 H locs h hP hS => ?_)
    exact W.iret (v := r_23) hx hb hr (fun t ht hW => ⟨⟨r_23, S_24, rfl, h, by rw [ht]; exact hP, va_K.moved hW.alike hK⟩, hS.F ht⟩) hS.2.2 dX7_leadBy_18
def wp_refusesSet_j40 (p1 : Int32) (post : Int32 → Prop) (R15 : Int32 → Prop) (x2 : Int32) (S : St) : Prop :=
        ∀ x2_1 : Int32, x2_1 = x2 + 1 →
        R15 x2_1
def wp_refusesSet_b15 (p1 : Int32) (post : Int32 → Prop) (R15 : Int32 → Prop)  (x2 : Int32) (S : St) : Prop :=
      ((8 ≤ x2 →
        post 0) ∧
       (¬ (8 ≤ x2) →
        ((¬ ((jshr p1 x2) &&& 1) = 1 →
          wp_refusesSet_j40 p1 post R15 x2 S) ∧
         (((jshr p1 x2) &&& 1) = 1 →
          wp_isZero x2 S (fun r_2 =>
          ((r_2 = 0 →
            wp_refusesSet_j40 p1 post R15 x2 S) ∧
           (¬ (r_2 = 0) →
            post 5)))))))
def wp_refusesSet_l15 (p1 : Int32) (post : Int32 → Prop)  (x2 : Int32) (S : St) : Prop := wLoop (fun (R : Int32 → Prop) (v : Int32) => wp_refusesSet_b15 p1 post (fun x2 => R x2)  v S) x2
def wp_refusesSet (p1 : Int32) (S : St) (post : Int32 → Prop) : Prop :=
  wp_in p1 1 255 S (fun r_7 =>
  ((¬ r_7 = 0 →
    wp_refusesSet_l15 p1 post 0 S) ∧
   (r_7 = 0 →
    post 2)))
set_option maxHeartbeats 4000000 in
theorem met_refusesSet (l : Launch) (D : va_G) (cI cB : ClassId) (b : Nat) (p1 : Int32)  (S : St) (post : Int32 → Prop) (h : wp_refusesSet p1 S post) : Met l yX7_refusesSet (ws_ yX7_refusesSet cX7_refusesSet 3 (some .int)) ({ frames := 3, cells := 0, slots := 0, locals := 66 } : Room) (mPc D cI cB b [.ref b, .int p1] S) (mQp D cI cB b S post) 0 0 (mA b) := by
  refine Met.ofW (cc := cX7_refusesSet) (maxL := 3) (ret := (some .int)) (by decide) rfl ?_
  intro p e s m args below meth c s₁ B hml hv
  obtain ⟨rfl, hP, hK⟩ := hv
  have hx := B.exec
  have hb := B.bytes
  have hr := B.returns
  have hts := atoms_spec (ws := ws_ yX7_refusesSet cX7_refusesSet 3 (some .int)) B.pre
  have hts : ∀ w ∈ lw_all, w.before _ s = true := fun w h => hts w (List.mem_cons_of_mem _ h)
  have hown : s.vm.findClass RX7 = some m.cls := findClass_of_methodNamed B.named
  have hlocks := B.notSynchronized
  have hS : va_S (mA b) s.heap s.heap [] := va_S.rf
  have hl := lv_entry ([.ref b, .int p1]) (n := 3) (Nat.le_of_ble_eq_true rfl)
  rw [lg_entry_eq]
  generalize (lg_sl ([.ref b, .int p1]) ++ List.replicate (3 - (lg_sl ([.ref b, .int p1])).length) Slot.unset).toArray = ls at hl ⊢
  have hl : lv_has ls 3 [(0, .ref b), (1, .int p1)] := hl
  have L15 : ∀  (x2 : Int32) (H : Heap) (locs : List Loc) (ls : Array Slot), wp_refusesSet_l15 p1 post  x2 S → mW D cI cB b S H → va_S (mA b) s.heap H locs → lv_has ls 3 [(0, .ref b), (1, .int p1), (2, .int x2)] → W p l e (headSpec (ws_ yX7_refusesSet cX7_refusesSet 3 (some .int)) ({ frames := 3, cells := 0, slots := 0, locals := 66 } : Room)).room s m ([.ref b, .int p1] : List Value).toArray below meth c H locs 0 0 (MQ below (mQp D cI cB b S post) ([.ref b, .int p1] : List Value).toArray s 0 0 (mA b)) (F0 m 15 ls []) := by
    intro  x2  H locs ls h hP hS hl
    obtain ⟨I15, n15, hI, hstep15⟩ := h
    induction n15 using Nat.strongRecOn generalizing x2 H locs ls with
    | ind n15 ih15 =>
      have h : wp_refusesSet_b15 p1 post (fun x2 => ∃ mm, mm < n15 ∧ I15 mm x2)  x2 S := hstep15 n15 _ hI
      clear hI
      have J40 : ∀ (x2 : Int32) (H : Heap) (locs : List Loc) (ls : Array Slot), wp_refusesSet_j40 p1 post (fun x2 => ∃ mm, mm < n15 ∧ I15 mm x2) x2 S → mW D cI cB b S H → va_S (mA b) s.heap H locs → lv_has ls 3 [(0, .ref b), (1, .int p1), (2, .int x2)] → W p l e (headSpec (ws_ yX7_refusesSet cX7_refusesSet 3 (some .int)) ({ frames := 3, cells := 0, slots := 0, locals := 66 } : Room)).room s m ([.ref b, .int p1] : List Value).toArray below meth c H locs 0 0 (MQ below (mQp D cI cB b S post) ([.ref b, .int p1] : List Value).toArray s 0 0 (mA b)) (F0 m 40 ls []) := by
        intro x2  H locs ls h hP hS hl
        unfold wp_refusesSet_j40 at h
        obtain ⟨x2_1, ex2_1⟩ : ∃ y : Int32, y = x2 + 1 := ⟨_, rfl⟩
        have h := h x2_1 ex2_1
        refine lv_iinc (v := x2_1) (lv' := [(2, .int x2_1), (0, .ref b), (1, .int p1)]) hx hb dX7_refusesSet_40 hl (k := 2) rfl (by rw [ex2_1]; rfl) (by decide) rfl (fun ls hl => ?_)
        refine lv_goto (tgt := 15) hx hb dX7_refusesSet_43 (by decide) ?_
        obtain ⟨mm, hmm, h⟩ := h
        exact ih15 mm hmm _ _ _ _ hP hS (lv_sub hl [1, 2, 0] rfl) h
      unfold wp_refusesSet_b15 at h
      refine lv_iload_n hx hb dX7_refusesSet_15 rfl (lv_at hl 2 rfl) ?_
      refine lv_bipush (v := 8) hx hb dX7_refusesSet_16 (by decide) ?_
      refine lv_icmp_ge (tgt := 46) hx hb dX7_refusesSet_18 (by decide) (fun c_6 => ?_) (fun c_6 => ?_)
      · have h := h.1 c_6
        refine lv_iconst (v := 0) hx hb dX7_refusesSet_46 (by decide) ?_
        exact W.iret (v := 0) hx hb hr (fun t ht hW => ⟨⟨0, (), rfl, h, by rw [ht]; exact hP, va_K.moved hW.alike hK⟩, hS.F ht⟩) hS.2.2 dX7_refusesSet_47
      · have h := h.2 c_6
        refine lv_iload_n hx hb dX7_refusesSet_21 rfl (lv_at hl 1 rfl) ?_
        refine lv_iload_n hx hb dX7_refusesSet_22 rfl (lv_at hl 2 rfl) ?_
        refine m_ishr hx hb dX7_refusesSet_23 ?_
        refine lv_iconst (v := 1) hx hb dX7_refusesSet_24 (by decide) ?_
        refine lv_iand hx hb dX7_refusesSet_25 ?_
        refine lv_iconst (v := 1) hx hb dX7_refusesSet_26 (by decide) ?_
        refine lv_icmp_ne (tgt := 40) hx hb dX7_refusesSet_27 (by decide) (fun c_5 => ?_) (fun c_5 => ?_)
        · have h := h.1 c_5
          exact J40 _  _ _ _ h hP hS (lv_sub hl [0, 1, 2] rfl)
        · have h := h.2 c_5
          refine lv_aload_n hx hb dX7_refusesSet_30 rfl (lv_at hl 0 rfl) ?_
          refine lv_iload_n hx hb dX7_refusesSet_31 rfl (lv_at hl 2 rfl) ?_
          refine m_cVp (As := [.int x2]) (rest := []) ⟨hx, hb, hml, hown, hts⟩ (met_isZero l D cI cB b x2  S _ h) (cwV 1 hts (lw_V q1518 q1520 qs78 q128 q1521) rfl rfl rfl cwd_isZero ⟨Nat.le_of_ble_eq_true rfl, Nat.le_of_ble_eq_true rfl⟩) hK hP hS rfl hl.1 rfl (Nat.le_of_ble_eq_true rfl) dX7_refusesSet_32 ⟨Nat.zero_le _, Nat.zero_le _⟩ (fun r_2 H locs h hP hS => ?_)
          refine lv_if_eq (tgt := 40) hx hb dX7_refusesSet_35 (by decide) (fun c_4 => ?_) (fun c_4 => ?_)
          · have h := h.1 c_4
            exact J40 _  _ _ _ h hP hS (lv_sub hl [0, 1, 2] rfl)
          · have h := h.2 c_4
            refine lv_iconst (v := 5) hx hb dX7_refusesSet_38 (by decide) ?_
            exact W.iret (v := 5) hx hb hr (fun t ht hW => ⟨⟨5, (), rfl, h, by rw [ht]; exact hP, va_K.moved hW.alike hK⟩, hS.F ht⟩) hS.2.2 dX7_refusesSet_39
  unfold wp_refusesSet at h
  refine lv_iload_n hx hb dX7_refusesSet_0 rfl (lv_at hl 1 rfl) ?_
  refine lv_iconst (v := 1) hx hb dX7_refusesSet_1 (by decide) ?_
  refine lv_sipush (v := 255) hx hb dX7_refusesSet_2 (by decide) ?_
  refine m_cSp (As := [.int p1, .int 1, .int 255]) (rest := []) ⟨hx, hb, hml, hown, hts⟩ (met_in l D cI cB b p1 1 255  S _ h) (va_cwS 3 hts (lw_S q1398 q1399 q128 q1400) rfl rfl rfl cwd_in ⟨Nat.le_of_ble_eq_true rfl, Nat.le_of_ble_eq_true rfl⟩) hK hP hS rfl hl.1 rfl (Nat.le_of_ble_eq_true rfl) dX7_refusesSet_5 ⟨Nat.zero_le _, Nat.zero_le _⟩ (fun r_7 H locs h hP hS => ?_)
  refine lv_if_ne (tgt := 13) hx hb dX7_refusesSet_8 (by decide) (fun c_9 => ?_) (fun c_9 => ?_)
  · have h := h.1 c_9
    refine lv_iconst (v := 0) hx hb dX7_refusesSet_13 (by decide) ?_
    refine lv_istore_n (lv' := [(2, .int 0), (0, .ref b), (1, .int p1)]) hx hb dX7_refusesSet_14 rfl hl (by decide) rfl (fun ls hl => ?_)
    exact L15 _  _ _ _ h hP hS (lv_sub hl [1, 2, 0] rfl)
  · have h := h.2 c_9
    refine lv_iconst (v := 2) hx hb dX7_refusesSet_11 (by decide) ?_
    exact W.iret (v := 2) hx hb hr (fun t ht hW => ⟨⟨2, (), rfl, h, by rw [ht]; exact hP, va_K.moved hW.alike hK⟩, hS.F ht⟩) hS.2.2 dX7_refusesSet_12
def wp_refusesDivision (p1 : Int32) (p2 : Int32) (S : St) (post : Int32 → Prop) : Prop :=
  wp_isReg p1 S (fun r_1 =>
  ((¬ r_1 = 0 →
    wp_refusesSet p2 S (fun r_3 =>
    post r_3)) ∧
   (r_1 = 0 →
    post 1)))
set_option maxHeartbeats 4000000 in
theorem met_refusesDivision (l : Launch) (D : va_G) (cI cB : ClassId) (b : Nat) (p1 : Int32) (p2 : Int32)  (S : St) (post : Int32 → Prop) (h : wp_refusesDivision p1 p2 S post) : Met l yX7_refusesDivision (ws_ yX7_refusesDivision cX7_refusesDivision 3 (some .int)) ({ frames := 4, cells := 0, slots := 0, locals := 88 } : Room) (mPc D cI cB b [.ref b, .int p1, .int p2] S) (mQp D cI cB b S post) 0 0 (mA b) := by
  refine Met.ofW (cc := cX7_refusesDivision) (maxL := 3) (ret := (some .int)) (by decide) rfl ?_
  intro p e s m args below meth c s₁ B hml hv
  obtain ⟨rfl, hP, hK⟩ := hv
  have hx := B.exec
  have hb := B.bytes
  have hr := B.returns
  have hts := atoms_spec (ws := ws_ yX7_refusesDivision cX7_refusesDivision 3 (some .int)) B.pre
  have hts : ∀ w ∈ lw_all, w.before _ s = true := fun w h => hts w (List.mem_cons_of_mem _ h)
  have hown : s.vm.findClass RX7 = some m.cls := findClass_of_methodNamed B.named
  have hlocks := B.notSynchronized
  have hS : va_S (mA b) s.heap s.heap [] := va_S.rf
  have hl := lv_entry ([.ref b, .int p1, .int p2]) (n := 3) (Nat.le_of_ble_eq_true rfl)
  rw [lg_entry_eq]
  generalize (lg_sl ([.ref b, .int p1, .int p2]) ++ List.replicate (3 - (lg_sl ([.ref b, .int p1, .int p2])).length) Slot.unset).toArray = ls at hl ⊢
  have hl : lv_has ls 3 [(0, .ref b), (1, .int p1), (2, .int p2)] := hl
  unfold wp_refusesDivision at h
  refine lv_aload_n hx hb dX7_refusesDivision_0 rfl (lv_at hl 0 rfl) ?_
  refine lv_iload_n hx hb dX7_refusesDivision_1 rfl (lv_at hl 1 rfl) ?_
  refine m_cVp (As := [.int p1]) (rest := []) ⟨hx, hb, hml, hown, hts⟩ (met_isReg l D cI cB b p1  S _ h) (cwV 1 hts (lw_V q1534 q1536 qs81 q128 q1537) rfl rfl rfl cwd_isReg ⟨Nat.le_of_ble_eq_true rfl, Nat.le_of_ble_eq_true rfl⟩) hK hP hS rfl hl.1 rfl (Nat.le_of_ble_eq_true rfl) dX7_refusesDivision_2 ⟨Nat.zero_le _, Nat.zero_le _⟩ (fun r_1 H locs h hP hS => ?_)
  refine lv_if_ne (tgt := 12) hx hb dX7_refusesDivision_5 (by decide) (fun c_5 => ?_) (fun c_5 => ?_)
  · have h := h.1 c_5
    refine lv_aload_n hx hb dX7_refusesDivision_12 rfl (lv_at hl 0 rfl) ?_
    refine lv_iload_n hx hb dX7_refusesDivision_13 rfl (lv_at hl 2 rfl) ?_
    refine m_cVp (As := [.int p2]) (rest := []) ⟨hx, hb, hml, hown, hts⟩ (met_refusesSet l D cI cB b p2  S _ h) (cwV 1 hts (lw_V q1623 q1625 qs88 q128 q1626) rfl rfl rfl cwd_refusesSet ⟨Nat.le_of_ble_eq_true rfl, Nat.le_of_ble_eq_true rfl⟩) hK hP hS rfl hl.1 rfl (Nat.le_of_ble_eq_true rfl) dX7_refusesDivision_14 ⟨Nat.zero_le _, Nat.zero_le _⟩ (fun r_3 H locs h hP hS => ?_)
    exact W.iret (v := r_3) hx hb hr (fun t ht hW => ⟨⟨r_3, (), rfl, h, by rw [ht]; exact hP, va_K.moved hW.alike hK⟩, hS.F ht⟩) hS.2.2 dX7_refusesDivision_17
  · have h := h.2 c_5
    refine lv_iconst (v := 1) hx hb dX7_refusesDivision_8 (by decide) ?_
    refine lv_goto (tgt := 17) hx hb dX7_refusesDivision_9 (by decide) ?_
    exact W.iret (v := 1) hx hb hr (fun t ht hW => ⟨⟨1, (), rfl, h, by rw [ht]; exact hP, va_K.moved hW.alike hK⟩, hS.F ht⟩) hS.2.2 dX7_refusesDivision_17
def wp_laysRegister_b2 (p1 : Int32) (post : St → Prop) (R2 : Int32 → St → Prop)  (x2 : Int32) (S : St) : Prop :=
      ((4096 ≤ x2 →
        ∀ S_1 : St, S_1 = bw S 0 29 1 →
        post S_1) ∧
       (¬ (4096 ≤ x2) →
        wp_coef p1 x2 S (fun r_2 =>
        ∃ j_4 : Nat, j_4 < 4096 ∧ x2 = nI j_4 ∧ ∀ S_5 : St, S_5 = bw S 6 j_4 r_2 →
        ∀ x2_6 : Int32, x2_6 = x2 + 1 →
        R2 x2_6 S_5)))
def wp_laysRegister_l2 (p1 : Int32) (post : St → Prop)  (x2 : Int32) (S : St) : Prop := wLoop (fun (R : (Int32 × St) → Prop) (v : Int32 × St) => wp_laysRegister_b2 p1 post (fun x2 S => R (x2, S))  v.1 v.2) (x2, S)
def wp_laysRegister (p1 : Int32) (S : St) (post : St → Prop) : Prop :=
  wp_laysRegister_l2 p1 post 0 S
set_option maxHeartbeats 4000000 in
theorem met_laysRegister (l : Launch) (D : va_G) (cI cB : ClassId) (b : Nat) (p1 : Int32)  (S : St) (post : St → Prop) (h : wp_laysRegister p1 S post) : Met l yX7_laysRegister (ws_ yX7_laysRegister cX7_laysRegister 3 none) ({ frames := 1, cells := 0, slots := 0, locals := 22 } : Room) (mPc D cI cB b [.ref b, .int p1] S) (mQv D cI cB b post) 0 0 (mA b) := by
  refine Met.ofW (cc := cX7_laysRegister) (maxL := 3) (ret := none) (by decide) rfl ?_
  intro p e s m args below meth c s₁ B hml hv
  obtain ⟨rfl, hP, hK⟩ := hv
  have hx := B.exec
  have hb := B.bytes
  have hr := B.returns
  have hts := atoms_spec (ws := ws_ yX7_laysRegister cX7_laysRegister 3 none) B.pre
  have hts : ∀ w ∈ lw_all, w.before _ s = true := fun w h => hts w (List.mem_cons_of_mem _ h)
  have hown : s.vm.findClass RX7 = some m.cls := findClass_of_methodNamed B.named
  have hlocks := B.notSynchronized
  have hS : va_S (mA b) s.heap s.heap [] := va_S.rf
  have hl := lv_entry ([.ref b, .int p1]) (n := 3) (Nat.le_of_ble_eq_true rfl)
  rw [lg_entry_eq]
  generalize (lg_sl ([.ref b, .int p1]) ++ List.replicate (3 - (lg_sl ([.ref b, .int p1])).length) Slot.unset).toArray = ls at hl ⊢
  have hl : lv_has ls 3 [(0, .ref b), (1, .int p1)] := hl
  have L2 : ∀  (x2 : Int32) (S : St) (H : Heap) (locs : List Loc) (ls : Array Slot), wp_laysRegister_l2 p1 post  x2 S → mW D cI cB b S H → va_S (mA b) s.heap H locs → lv_has ls 3 [(0, .ref b), (1, .int p1), (2, .int x2)] → W p l e (headSpec (ws_ yX7_laysRegister cX7_laysRegister 3 none) ({ frames := 1, cells := 0, slots := 0, locals := 22 } : Room)).room s m ([.ref b, .int p1] : List Value).toArray below meth c H locs 0 0 (MQ below (mQv D cI cB b post) ([.ref b, .int p1] : List Value).toArray s 0 0 (mA b)) (F0 m 2 ls []) := by
    intro  x2 S H locs ls h hP hS hl
    obtain ⟨I2, n2, hI, hstep2⟩ := h
    induction n2 using Nat.strongRecOn generalizing x2 S H locs ls with
    | ind n2 ih2 =>
      have h : wp_laysRegister_b2 p1 post (fun x2 S => ∃ mm, mm < n2 ∧ I2 mm (x2, S))  x2 S := hstep2 n2 _ hI
      clear hI
      unfold wp_laysRegister_b2 at h
      refine lv_iload_n hx hb dX7_laysRegister_2 rfl (lv_at hl 2 rfl) ?_
      refine lv_sipush (v := 4096) hx hb dX7_laysRegister_3 (by decide) ?_
      refine lv_icmp_ge (tgt := 27) hx hb dX7_laysRegister_6 (by decide) (fun c_7 => ?_) (fun c_7 => ?_)
      · have h := h.1 c_7
        refine lv_aload_n hx hb dX7_laysRegister_27 rfl (lv_at hl 0 rfl) ?_
        refine lv_iconst (v := 1) hx hb dX7_laysRegister_28 (by decide) ?_
        obtain ⟨S_1, eS_1⟩ : ∃ z : St, z = bw S 0 29 1 := ⟨_, rfl⟩
        have h := h S_1 eS_1
        refine m_put (S1 := S_1) (v := .int 1) (ty := .boolean) hx hb hts hown hK hP hS 29 (by decide) q1239 rfl rfl (tyX7_ok 29 (by decide)) rfl rfl (by rw [eS_1]; exact mset_29 b S 1) (by rw [eS_1]; exact bw_0) dX7_laysRegister_29 (fun H locs hP hS => ?_)
        exact W.vret hx hb hr (fun t ht hW => ⟨⟨S_1, rfl, h, by rw [ht]; exact hP, va_K.moved hW.alike hK⟩, hS.F ht⟩) hS.2.2 dX7_laysRegister_32
      · have h := h.2 c_7
        refine lv_aload_n hx hb dX7_laysRegister_9 rfl (lv_at hl 0 rfl) ?_
        refine m_get (v := .ref (b + 6)) hx hb hts hown hK hP 28 (by decide) q1238 rfl rfl dX7_laysRegister_10 ?_
        refine lv_iload_n hx hb dX7_laysRegister_13 rfl (lv_at hl 2 rfl) ?_
        refine lv_aload_n hx hb dX7_laysRegister_14 rfl (lv_at hl 0 rfl) ?_
        refine lv_iload_n hx hb dX7_laysRegister_15 rfl (lv_at hl 1 rfl) ?_
        refine lv_iload_n hx hb dX7_laysRegister_16 rfl (lv_at hl 2 rfl) ?_
        refine m_cVp (As := [.int p1, .int x2]) (rest := [.int x2, .ref (b + 6)]) ⟨hx, hb, hml, hown, hts⟩ (met_coef l D cI cB b p1 x2  S _ h) (cwV 2 hts (lw_V q1526 q1528 qs80 q128 q1529) rfl rfl rfl cwd_coef ⟨Nat.le_of_ble_eq_true rfl, Nat.le_of_ble_eq_true rfl⟩) hK hP hS rfl hl.1 rfl (Nat.le_of_ble_eq_true rfl) dX7_laysRegister_17 ⟨Nat.zero_le _, Nat.zero_le _⟩ (fun r_2 H locs h hP hS => ?_)
        obtain ⟨j_4, hj_4, ej_4, h⟩ := h
        obtain ⟨S_5, eS_5⟩ : ∃ z : St, z = bw S 6 j_4 r_2 := ⟨_, rfl⟩
        have h := h S_5 eS_5
        refine m_iast hx hb hK hP hS (k := 6) mok_6 ej_4 hj_4 dX7_laysRegister_20 (fun H locs hP hS => ?_)
        rw [← eS_5] at hP
        obtain ⟨x2_6, ex2_6⟩ : ∃ y : Int32, y = x2 + 1 := ⟨_, rfl⟩
        have h := h x2_6 ex2_6
        refine lv_iinc (v := x2_6) (lv' := [(2, .int x2_6), (0, .ref b), (1, .int p1)]) hx hb dX7_laysRegister_21 hl (k := 2) rfl (by rw [ex2_6]; rfl) (by decide) rfl (fun ls hl => ?_)
        refine lv_goto (tgt := 2) hx hb dX7_laysRegister_24 (by decide) ?_
        obtain ⟨mm, hmm, h⟩ := h
        exact ih2 mm hmm _ _ _ _ _ hP hS (lv_sub hl [1, 2, 0] rfl) h
  unfold wp_laysRegister at h
  refine lv_iconst (v := 0) hx hb dX7_laysRegister_0 (by decide) ?_
  refine lv_istore_n (lv' := [(2, .int 0), (0, .ref b), (1, .int p1)]) hx hb dX7_laysRegister_1 rfl hl (by decide) rfl (fun ls hl => ?_)
  exact L2 _ _ _ _ _ h hP hS (lv_sub hl [1, 2, 0] rfl)
def wp_leadOf_b2 (p1 : Int32) (post : Int32 → Prop) (R2 : Int32 → Prop)  (x2 : Int32) (S : St) : Prop :=
      ((4096 ≤ x2 →
        post (-1)) ∧
       (¬ (4096 ≤ x2) →
        ∃ j_1 : Nat, j_1 < 4096 ∧ x2 = nI j_1 ∧
        wp_coef p1 (S 4 j_1) S (fun r_2 =>
        ((r_2 = 0 →
          ∀ x2_4 : Int32, x2_4 = x2 + 1 →
          R2 x2_4) ∧
         (¬ (r_2 = 0) →
          ∃ j_5 : Nat, j_5 < 4096 ∧ x2 = nI j_5 ∧
          post (S 4 j_5))))))
def wp_leadOf_l2 (p1 : Int32) (post : Int32 → Prop)  (x2 : Int32) (S : St) : Prop := wLoop (fun (R : Int32 → Prop) (v : Int32) => wp_leadOf_b2 p1 post (fun x2 => R x2)  v S) x2
def wp_leadOf (p1 : Int32) (S : St) (post : Int32 → Prop) : Prop :=
  wp_leadOf_l2 p1 post 0 S
set_option maxHeartbeats 4000000 in
theorem met_leadOf (l : Launch) (D : va_G) (cI cB : ClassId) (b : Nat) (p1 : Int32)  (S : St) (post : Int32 → Prop) (h : wp_leadOf p1 S post) : Met l yX7_leadOf (ws_ yX7_leadOf cX7_leadOf 3 (some .int)) ({ frames := 1, cells := 0, slots := 0, locals := 22 } : Room) (mPc D cI cB b [.ref b, .int p1] S) (mQp D cI cB b S post) 0 0 (mA b) := by
  refine Met.ofW (cc := cX7_leadOf) (maxL := 3) (ret := (some .int)) (by decide) rfl ?_
  intro p e s m args below meth c s₁ B hml hv
  obtain ⟨rfl, hP, hK⟩ := hv
  have hx := B.exec
  have hb := B.bytes
  have hr := B.returns
  have hts := atoms_spec (ws := ws_ yX7_leadOf cX7_leadOf 3 (some .int)) B.pre
  have hts : ∀ w ∈ lw_all, w.before _ s = true := fun w h => hts w (List.mem_cons_of_mem _ h)
  have hown : s.vm.findClass RX7 = some m.cls := findClass_of_methodNamed B.named
  have hlocks := B.notSynchronized
  have hS : va_S (mA b) s.heap s.heap [] := va_S.rf
  have hl := lv_entry ([.ref b, .int p1]) (n := 3) (Nat.le_of_ble_eq_true rfl)
  rw [lg_entry_eq]
  generalize (lg_sl ([.ref b, .int p1]) ++ List.replicate (3 - (lg_sl ([.ref b, .int p1])).length) Slot.unset).toArray = ls at hl ⊢
  have hl : lv_has ls 3 [(0, .ref b), (1, .int p1)] := hl
  have L2 : ∀  (x2 : Int32) (H : Heap) (locs : List Loc) (ls : Array Slot), wp_leadOf_l2 p1 post  x2 S → mW D cI cB b S H → va_S (mA b) s.heap H locs → lv_has ls 3 [(0, .ref b), (1, .int p1), (2, .int x2)] → W p l e (headSpec (ws_ yX7_leadOf cX7_leadOf 3 (some .int)) ({ frames := 1, cells := 0, slots := 0, locals := 22 } : Room)).room s m ([.ref b, .int p1] : List Value).toArray below meth c H locs 0 0 (MQ below (mQp D cI cB b S post) ([.ref b, .int p1] : List Value).toArray s 0 0 (mA b)) (F0 m 2 ls []) := by
    intro  x2  H locs ls h hP hS hl
    obtain ⟨I2, n2, hI, hstep2⟩ := h
    induction n2 using Nat.strongRecOn generalizing x2 H locs ls with
    | ind n2 ih2 =>
      have h : wp_leadOf_b2 p1 post (fun x2 => ∃ mm, mm < n2 ∧ I2 mm x2)  x2 S := hstep2 n2 _ hI
      clear hI
      unfold wp_leadOf_b2 at h
      refine lv_iload_n hx hb dX7_leadOf_2 rfl (lv_at hl 2 rfl) ?_
      refine lv_sipush (v := 4096) hx hb dX7_leadOf_3 (by decide) ?_
      refine lv_icmp_ge (tgt := 36) hx hb dX7_leadOf_6 (by decide) (fun c_7 => ?_) (fun c_7 => ?_)
      · have h := h.1 c_7
        refine lv_iconst (v := (-1)) hx hb dX7_leadOf_36 (by decide) ?_
        exact W.iret (v := (-1)) hx hb hr (fun t ht hW => ⟨⟨(-1), (), rfl, h, by rw [ht]; exact hP, va_K.moved hW.alike hK⟩, hS.F ht⟩) hS.2.2 dX7_leadOf_37
      · have h := h.2 c_7
        refine lv_aload_n hx hb dX7_leadOf_9 rfl (lv_at hl 0 rfl) ?_
        refine lv_iload_n hx hb dX7_leadOf_10 rfl (lv_at hl 1 rfl) ?_
        refine lv_aload_n hx hb dX7_leadOf_11 rfl (lv_at hl 0 rfl) ?_
        refine m_get (v := .ref (b + 4)) hx hb hts hown hK hP 24 (by decide) q1234 rfl rfl dX7_leadOf_12 ?_
        refine lv_iload_n hx hb dX7_leadOf_15 rfl (lv_at hl 2 rfl) ?_
        obtain ⟨j_1, hj_1, ej_1, h⟩ := h
        refine m_iald hx hb hK hP (k := 4) mok_4 ej_1 hj_1 dX7_leadOf_16 ?_
        refine m_cVp (As := [.int p1, .int (S 4 j_1)]) (rest := []) ⟨hx, hb, hml, hown, hts⟩ (met_coef l D cI cB b p1 (S 4 j_1)  S _ h) (cwV 2 hts (lw_V q1526 q1528 qs80 q128 q1529) rfl rfl rfl cwd_coef ⟨Nat.le_of_ble_eq_true rfl, Nat.le_of_ble_eq_true rfl⟩) hK hP hS rfl hl.1 rfl (Nat.le_of_ble_eq_true rfl) dX7_leadOf_17 ⟨Nat.zero_le _, Nat.zero_le _⟩ (fun r_2 H locs h hP hS => ?_)
        refine lv_if_eq (tgt := 30) hx hb dX7_leadOf_20 (by decide) (fun c_6 => ?_) (fun c_6 => ?_)
        · have h := h.1 c_6
          obtain ⟨x2_4, ex2_4⟩ : ∃ y : Int32, y = x2 + 1 := ⟨_, rfl⟩
          have h := h x2_4 ex2_4
          refine lv_iinc (v := x2_4) (lv' := [(2, .int x2_4), (0, .ref b), (1, .int p1)]) hx hb dX7_leadOf_30 hl (k := 2) rfl (by rw [ex2_4]; rfl) (by decide) rfl (fun ls hl => ?_)
          refine lv_goto (tgt := 2) hx hb dX7_leadOf_33 (by decide) ?_
          obtain ⟨mm, hmm, h⟩ := h
          exact ih2 mm hmm _ _ _ _ hP hS (lv_sub hl [1, 2, 0] rfl) h
        · have h := h.2 c_6
          refine lv_aload_n hx hb dX7_leadOf_23 rfl (lv_at hl 0 rfl) ?_
          refine m_get (v := .ref (b + 4)) hx hb hts hown hK hP 24 (by decide) q1234 rfl rfl dX7_leadOf_24 ?_
          refine lv_iload_n hx hb dX7_leadOf_27 rfl (lv_at hl 2 rfl) ?_
          obtain ⟨j_5, hj_5, ej_5, h⟩ := h
          refine m_iald hx hb hK hP (k := 4) mok_4 ej_5 hj_5 dX7_leadOf_28 ?_
          exact W.iret (v := (S 4 j_5)) hx hb hr (fun t ht hW => ⟨⟨(S 4 j_5), (), rfl, h, by rw [ht]; exact hP, va_K.moved hW.alike hK⟩, hS.F ht⟩) hS.2.2 dX7_leadOf_29
  unfold wp_leadOf at h
  refine lv_iconst (v := 0) hx hb dX7_leadOf_0 (by decide) ?_
  refine lv_istore_n (lv' := [(2, .int 0), (0, .ref b), (1, .int p1)]) hx hb dX7_leadOf_1 rfl hl (by decide) rfl (fun ls hl => ?_)
  exact L2 _  _ _ _ h hP hS (lv_sub hl [1, 2, 0] rfl)
def wp_inverse_b2 (p1 : Int32) (post : Int32 → Prop) (R2 : Int32 → Prop)  (x2 : Int32) (S : St) : Prop :=
      ¬ (S 0 5) = 0 ∧
      (((jrem (x2 * p1) (S 0 5)) = 1 →
        post x2) ∧
       (¬ ((jrem (x2 * p1) (S 0 5)) = 1) →
        ∀ x2_1 : Int32, x2_1 = x2 + 1 →
        R2 x2_1))
def wp_inverse_l2 (p1 : Int32) (post : Int32 → Prop)  (x2 : Int32) (S : St) : Prop := wLoop (fun (R : Int32 → Prop) (v : Int32) => wp_inverse_b2 p1 post (fun x2 => R x2)  v S) x2
def wp_inverse (p1 : Int32) (S : St) (post : Int32 → Prop) : Prop :=
  wp_inverse_l2 p1 post 1 S
set_option maxHeartbeats 4000000 in
theorem met_inverse (l : Launch) (D : va_G) (cI cB : ClassId) (b : Nat) (p1 : Int32)  (S : St) (post : Int32 → Prop) (h : wp_inverse p1 S post) : Met l yX7_inverse (ws_ yX7_inverse cX7_inverse 3 (some .int)) ({ frames := 0, cells := 0, slots := 0, locals := 0 } : Room) (mPc D cI cB b [.ref b, .int p1] S) (mQp D cI cB b S post) 0 0 (mA b) := by
  refine Met.ofW (cc := cX7_inverse) (maxL := 3) (ret := (some .int)) (by decide) rfl ?_
  intro p e s m args below meth c s₁ B hml hv
  obtain ⟨rfl, hP, hK⟩ := hv
  have hx := B.exec
  have hb := B.bytes
  have hr := B.returns
  have hts := atoms_spec (ws := ws_ yX7_inverse cX7_inverse 3 (some .int)) B.pre
  have hts : ∀ w ∈ lw_all, w.before _ s = true := fun w h => hts w (List.mem_cons_of_mem _ h)
  have hown : s.vm.findClass RX7 = some m.cls := findClass_of_methodNamed B.named
  have hlocks := B.notSynchronized
  have hS : va_S (mA b) s.heap s.heap [] := va_S.rf
  have hl := lv_entry ([.ref b, .int p1]) (n := 3) (Nat.le_of_ble_eq_true rfl)
  rw [lg_entry_eq]
  generalize (lg_sl ([.ref b, .int p1]) ++ List.replicate (3 - (lg_sl ([.ref b, .int p1])).length) Slot.unset).toArray = ls at hl ⊢
  have hl : lv_has ls 3 [(0, .ref b), (1, .int p1)] := hl
  have L2 : ∀  (x2 : Int32) (H : Heap) (locs : List Loc) (ls : Array Slot), wp_inverse_l2 p1 post  x2 S → mW D cI cB b S H → va_S (mA b) s.heap H locs → lv_has ls 3 [(0, .ref b), (1, .int p1), (2, .int x2)] → W p l e (headSpec (ws_ yX7_inverse cX7_inverse 3 (some .int)) ({ frames := 0, cells := 0, slots := 0, locals := 0 } : Room)).room s m ([.ref b, .int p1] : List Value).toArray below meth c H locs 0 0 (MQ below (mQp D cI cB b S post) ([.ref b, .int p1] : List Value).toArray s 0 0 (mA b)) (F0 m 2 ls []) := by
    intro  x2  H locs ls h hP hS hl
    obtain ⟨I2, n2, hI, hstep2⟩ := h
    induction n2 using Nat.strongRecOn generalizing x2 H locs ls with
    | ind n2 ih2 =>
      have h : wp_inverse_b2 p1 post (fun x2 => ∃ mm, mm < n2 ∧ I2 mm x2)  x2 S := hstep2 n2 _ hI
      clear hI
      unfold wp_inverse_b2 at h
      refine lv_iload_n hx hb dX7_inverse_2 rfl (lv_at hl 2 rfl) ?_
      refine lv_iload_n hx hb dX7_inverse_3 rfl (lv_at hl 1 rfl) ?_
      refine lv_imul hx hb dX7_inverse_4 ?_
      refine lv_aload_n hx hb dX7_inverse_5 rfl (lv_at hl 0 rfl) ?_
      refine m_get (v := .int (S 0 5)) hx hb hts hown hK hP 5 (by decide) q1215 rfl rfl dX7_inverse_6 ?_
      obtain ⟨hne, h⟩ := h
      refine m_irem hx hb dX7_inverse_9 hne ?_
      refine lv_iconst (v := 1) hx hb dX7_inverse_10 (by decide) ?_
      refine lv_icmp_eq (tgt := 20) hx hb dX7_inverse_11 (by decide) (fun c_2 => ?_) (fun c_2 => ?_)
      · have h := h.1 c_2
        refine lv_iload_n hx hb dX7_inverse_20 rfl (lv_at hl 2 rfl) ?_
        exact W.iret (v := x2) hx hb hr (fun t ht hW => ⟨⟨x2, (), rfl, h, by rw [ht]; exact hP, va_K.moved hW.alike hK⟩, hS.F ht⟩) hS.2.2 dX7_inverse_21
      · have h := h.2 c_2
        obtain ⟨x2_1, ex2_1⟩ : ∃ y : Int32, y = x2 + 1 := ⟨_, rfl⟩
        have h := h x2_1 ex2_1
        refine lv_iinc (v := x2_1) (lv' := [(2, .int x2_1), (0, .ref b), (1, .int p1)]) hx hb dX7_inverse_14 hl (k := 2) rfl (by rw [ex2_1]; rfl) (by decide) rfl (fun ls hl => ?_)
        refine lv_goto (tgt := 2) hx hb dX7_inverse_17 (by decide) ?_
        obtain ⟨mm, hmm, h⟩ := h
        exact ih2 mm hmm _ _ _ _ hP hS (lv_sub hl [1, 2, 0] rfl) h
  unfold wp_inverse at h
  refine lv_iconst (v := 1) hx hb dX7_inverse_0 (by decide) ?_
  refine lv_istore_n (lv' := [(2, .int 1), (0, .ref b), (1, .int p1)]) hx hb dX7_inverse_1 rfl hl (by decide) rfl (fun ls hl => ?_)
  exact L2 _  _ _ _ h hP hS (lv_sub hl [1, 2, 0] rfl)
def wp_isUnder_b2 (p1 : Int32) (p2 : Int32) (post : Int32 → Prop) (R2 : Int32 → Prop)  (x2 : Int32) (S : St) : Prop :=
      ((3 ≤ x2 →
        post 1) ∧
       (¬ (3 ≤ x2) →
        wp_exponent p1 x2 S (fun r_1 =>
        wp_exponent p2 x2 S (fun r_3 =>
        ((r_1 ≤ r_3 →
          ∀ x2_5 : Int32, x2_5 = x2 + 1 →
          R2 x2_5) ∧
         (¬ (r_1 ≤ r_3) →
          post 0))))))
def wp_isUnder_l2 (p1 : Int32) (p2 : Int32) (post : Int32 → Prop)  (x2 : Int32) (S : St) : Prop := wLoop (fun (R : Int32 → Prop) (v : Int32) => wp_isUnder_b2 p1 p2 post (fun x2 => R x2)  v S) x2
def wp_isUnder (p1 : Int32) (p2 : Int32) (S : St) (post : Int32 → Prop) : Prop :=
  wp_isUnder_l2 p1 p2 post 0 S
set_option maxHeartbeats 4000000 in
theorem met_isUnder (l : Launch) (D : va_G) (cI cB : ClassId) (b : Nat) (p1 : Int32) (p2 : Int32)  (S : St) (post : Int32 → Prop) (h : wp_isUnder p1 p2 S post) : Met l yX7_isUnder (ws_ yX7_isUnder cX7_isUnder 3 (some .boolean)) ({ frames := 1, cells := 0, slots := 0, locals := 21 } : Room) (mPc D cI cB b [.int p1, .int p2] S) (mQp D cI cB b S post) 0 0 (mA b) := by
  refine Met.ofW (cc := cX7_isUnder) (maxL := 3) (ret := (some .boolean)) (by decide) rfl ?_
  intro p e s m args below meth c s₁ B hml hv
  obtain ⟨rfl, hP, hK⟩ := hv
  have hx := B.exec
  have hb := B.bytes
  have hr := B.returns
  have hts := atoms_spec (ws := ws_ yX7_isUnder cX7_isUnder 3 (some .boolean)) B.pre
  have hts : ∀ w ∈ lw_all, w.before _ s = true := fun w h => hts w (List.mem_cons_of_mem _ h)
  have hown : s.vm.findClass RX7 = some m.cls := findClass_of_methodNamed B.named
  have hlocks := B.notSynchronized
  have hS : va_S (mA b) s.heap s.heap [] := va_S.rf
  have hl := lv_entry ([.int p1, .int p2]) (n := 3) (Nat.le_of_ble_eq_true rfl)
  rw [lg_entry_eq]
  generalize (lg_sl ([.int p1, .int p2]) ++ List.replicate (3 - (lg_sl ([.int p1, .int p2])).length) Slot.unset).toArray = ls at hl ⊢
  have hl : lv_has ls 3 [(0, .int p1), (1, .int p2)] := hl
  have L2 : ∀  (x2 : Int32) (H : Heap) (locs : List Loc) (ls : Array Slot), wp_isUnder_l2 p1 p2 post  x2 S → mW D cI cB b S H → va_S (mA b) s.heap H locs → lv_has ls 3 [(0, .int p1), (1, .int p2), (2, .int x2)] → W p l e (headSpec (ws_ yX7_isUnder cX7_isUnder 3 (some .boolean)) ({ frames := 1, cells := 0, slots := 0, locals := 21 } : Room)).room s m ([.int p1, .int p2] : List Value).toArray below meth c H locs 0 0 (MQ below (mQp D cI cB b S post) ([.int p1, .int p2] : List Value).toArray s 0 0 (mA b)) (F0 m 2 ls []) := by
    intro  x2  H locs ls h hP hS hl
    obtain ⟨I2, n2, hI, hstep2⟩ := h
    induction n2 using Nat.strongRecOn generalizing x2 H locs ls with
    | ind n2 ih2 =>
      have h : wp_isUnder_b2 p1 p2 post (fun x2 => ∃ mm, mm < n2 ∧ I2 mm x2)  x2 S := hstep2 n2 _ hI
      clear hI
      unfold wp_isUnder_b2 at h
      refine lv_iload_n hx hb dX7_isUnder_2 rfl (lv_at hl 2 rfl) ?_
      refine lv_iconst (v := 3) hx hb dX7_isUnder_3 (by decide) ?_
      refine lv_icmp_ge (tgt := 28) hx hb dX7_isUnder_4 (by decide) (fun c_7 => ?_) (fun c_7 => ?_)
      · have h := h.1 c_7
        refine lv_iconst (v := 1) hx hb dX7_isUnder_28 (by decide) ?_
        exact W.zret (v := 1) hx hb hr rfl (fun t ht hW => ⟨⟨1, (), rfl, h, by rw [ht]; exact hP, va_K.moved hW.alike hK⟩, hS.F ht⟩) hS.2.2 dX7_isUnder_29
      · have h := h.2 c_7
        refine lv_iload_n hx hb dX7_isUnder_7 rfl (lv_at hl 0 rfl) ?_
        refine lv_iload_n hx hb dX7_isUnder_8 rfl (lv_at hl 2 rfl) ?_
        refine m_cSp (As := [.int p1, .int x2]) (rest := []) ⟨hx, hb, hml, hown, hts⟩ (met_exponent l D cI cB b p1 x2  S _ h) (va_cwS 2 hts (lw_S q1545 q1546 q128 q1547) rfl rfl rfl cwd_exponent ⟨Nat.le_of_ble_eq_true rfl, Nat.le_of_ble_eq_true rfl⟩) hK hP hS rfl hl.1 rfl (Nat.le_of_ble_eq_true rfl) dX7_isUnder_9 ⟨Nat.zero_le _, Nat.zero_le _⟩ (fun r_1 H locs h hP hS => ?_)
        refine lv_iload_n hx hb dX7_isUnder_12 rfl (lv_at hl 1 rfl) ?_
        refine lv_iload_n hx hb dX7_isUnder_13 rfl (lv_at hl 2 rfl) ?_
        refine m_cSp (As := [.int p2, .int x2]) (rest := [.int r_1]) ⟨hx, hb, hml, hown, hts⟩ (met_exponent l D cI cB b p2 x2  S _ h) (va_cwS 2 hts (lw_S q1545 q1546 q128 q1547) rfl rfl rfl cwd_exponent ⟨Nat.le_of_ble_eq_true rfl, Nat.le_of_ble_eq_true rfl⟩) hK hP hS rfl hl.1 rfl (Nat.le_of_ble_eq_true rfl) dX7_isUnder_14 ⟨Nat.zero_le _, Nat.zero_le _⟩ (fun r_3 H locs h hP hS => ?_)
        refine lv_icmp_le (tgt := 22) hx hb dX7_isUnder_17 (by decide) (fun c_6 => ?_) (fun c_6 => ?_)
        · have h := h.1 c_6
          obtain ⟨x2_5, ex2_5⟩ : ∃ y : Int32, y = x2 + 1 := ⟨_, rfl⟩
          have h := h x2_5 ex2_5
          refine lv_iinc (v := x2_5) (lv' := [(2, .int x2_5), (0, .int p1), (1, .int p2)]) hx hb dX7_isUnder_22 hl (k := 2) rfl (by rw [ex2_5]; rfl) (by decide) rfl (fun ls hl => ?_)
          refine lv_goto (tgt := 2) hx hb dX7_isUnder_25 (by decide) ?_
          obtain ⟨mm, hmm, h⟩ := h
          exact ih2 mm hmm _ _ _ _ hP hS (lv_sub hl [1, 2, 0] rfl) h
        · have h := h.2 c_6
          refine lv_iconst (v := 0) hx hb dX7_isUnder_20 (by decide) ?_
          exact W.zret (v := 0) hx hb hr rfl (fun t ht hW => ⟨⟨0, (), rfl, h, by rw [ht]; exact hP, va_K.moved hW.alike hK⟩, hS.F ht⟩) hS.2.2 dX7_isUnder_21
  unfold wp_isUnder at h
  refine lv_iconst (v := 0) hx hb dX7_isUnder_0 (by decide) ?_
  refine lv_istore_n (lv' := [(2, .int 0), (0, .int p1), (1, .int p2)]) hx hb dX7_isUnder_1 rfl hl (by decide) rfl (fun ls hl => ?_)
  exact L2 _  _ _ _ h hP hS (lv_sub hl [1, 2, 0] rfl)
def wp_divisorOf_j32 (p1 : Int32) (p2 : Int32) (post : Int32 → Prop) (R2 : Int32 → Prop) (x3 : Int32) (S : St) : Prop :=
        ∀ x3_1 : Int32, x3_1 = x3 + 1 →
        R2 x3_1
def wp_divisorOf_b2 (p1 : Int32) (p2 : Int32) (post : Int32 → Prop) (R2 : Int32 → Prop)  (x3 : Int32) (S : St) : Prop :=
      ((8 ≤ x3 →
        post (-1)) ∧
       (¬ (8 ≤ x3) →
        ((¬ ((jshr p1 x3) &&& 1) = 1 →
          wp_divisorOf_j32 p1 p2 post R2 x3 S) ∧
         (((jshr p1 x3) &&& 1) = 1 →
          ∃ j_2 : Nat, j_2 < 8 ∧ x3 = nI j_2 ∧
          wp_isUnder (S 11 j_2) p2 S (fun r_3 =>
          ((r_3 = 0 →
            wp_divisorOf_j32 p1 p2 post R2 x3 S) ∧
           (¬ (r_3 = 0) →
            post x3)))))))
def wp_divisorOf_l2 (p1 : Int32) (p2 : Int32) (post : Int32 → Prop)  (x3 : Int32) (S : St) : Prop := wLoop (fun (R : Int32 → Prop) (v : Int32) => wp_divisorOf_b2 p1 p2 post (fun x3 => R x3)  v S) x3
def wp_divisorOf (p1 : Int32) (p2 : Int32) (S : St) (post : Int32 → Prop) : Prop :=
  wp_divisorOf_l2 p1 p2 post 0 S
set_option maxHeartbeats 4000000 in
theorem met_divisorOf (l : Launch) (D : va_G) (cI cB : ClassId) (b : Nat) (p1 : Int32) (p2 : Int32)  (S : St) (post : Int32 → Prop) (h : wp_divisorOf p1 p2 S post) : Met l yX7_divisorOf (ws_ yX7_divisorOf cX7_divisorOf 4 (some .int)) ({ frames := 2, cells := 0, slots := 0, locals := 43 } : Room) (mPc D cI cB b [.ref b, .int p1, .int p2] S) (mQp D cI cB b S post) 0 0 (mA b) := by
  refine Met.ofW (cc := cX7_divisorOf) (maxL := 4) (ret := (some .int)) (by decide) rfl ?_
  intro p e s m args below meth c s₁ B hml hv
  obtain ⟨rfl, hP, hK⟩ := hv
  have hx := B.exec
  have hb := B.bytes
  have hr := B.returns
  have hts := atoms_spec (ws := ws_ yX7_divisorOf cX7_divisorOf 4 (some .int)) B.pre
  have hts : ∀ w ∈ lw_all, w.before _ s = true := fun w h => hts w (List.mem_cons_of_mem _ h)
  have hown : s.vm.findClass RX7 = some m.cls := findClass_of_methodNamed B.named
  have hlocks := B.notSynchronized
  have hS : va_S (mA b) s.heap s.heap [] := va_S.rf
  have hl := lv_entry ([.ref b, .int p1, .int p2]) (n := 4) (Nat.le_of_ble_eq_true rfl)
  rw [lg_entry_eq]
  generalize (lg_sl ([.ref b, .int p1, .int p2]) ++ List.replicate (4 - (lg_sl ([.ref b, .int p1, .int p2])).length) Slot.unset).toArray = ls at hl ⊢
  have hl : lv_has ls 4 [(0, .ref b), (1, .int p1), (2, .int p2)] := hl
  have L2 : ∀  (x3 : Int32) (H : Heap) (locs : List Loc) (ls : Array Slot), wp_divisorOf_l2 p1 p2 post  x3 S → mW D cI cB b S H → va_S (mA b) s.heap H locs → lv_has ls 4 [(0, .ref b), (1, .int p1), (2, .int p2), (3, .int x3)] → W p l e (headSpec (ws_ yX7_divisorOf cX7_divisorOf 4 (some .int)) ({ frames := 2, cells := 0, slots := 0, locals := 43 } : Room)).room s m ([.ref b, .int p1, .int p2] : List Value).toArray below meth c H locs 0 0 (MQ below (mQp D cI cB b S post) ([.ref b, .int p1, .int p2] : List Value).toArray s 0 0 (mA b)) (F0 m 2 ls []) := by
    intro  x3  H locs ls h hP hS hl
    obtain ⟨I2, n2, hI, hstep2⟩ := h
    induction n2 using Nat.strongRecOn generalizing x3 H locs ls with
    | ind n2 ih2 =>
      have h : wp_divisorOf_b2 p1 p2 post (fun x3 => ∃ mm, mm < n2 ∧ I2 mm x3)  x3 S := hstep2 n2 _ hI
      clear hI
      have J32 : ∀ (x3 : Int32) (H : Heap) (locs : List Loc) (ls : Array Slot), wp_divisorOf_j32 p1 p2 post (fun x3 => ∃ mm, mm < n2 ∧ I2 mm x3) x3 S → mW D cI cB b S H → va_S (mA b) s.heap H locs → lv_has ls 4 [(0, .ref b), (1, .int p1), (2, .int p2), (3, .int x3)] → W p l e (headSpec (ws_ yX7_divisorOf cX7_divisorOf 4 (some .int)) ({ frames := 2, cells := 0, slots := 0, locals := 43 } : Room)).room s m ([.ref b, .int p1, .int p2] : List Value).toArray below meth c H locs 0 0 (MQ below (mQp D cI cB b S post) ([.ref b, .int p1, .int p2] : List Value).toArray s 0 0 (mA b)) (F0 m 32 ls []) := by
        intro x3  H locs ls h hP hS hl
        unfold wp_divisorOf_j32 at h
        obtain ⟨x3_1, ex3_1⟩ : ∃ y : Int32, y = x3 + 1 := ⟨_, rfl⟩
        have h := h x3_1 ex3_1
        refine lv_iinc (v := x3_1) (lv' := [(3, .int x3_1), (0, .ref b), (1, .int p1), (2, .int p2)]) hx hb dX7_divisorOf_32 hl (k := 3) rfl (by rw [ex3_1]; rfl) (by decide) rfl (fun ls hl => ?_)
        refine lv_goto (tgt := 2) hx hb dX7_divisorOf_35 (by decide) ?_
        obtain ⟨mm, hmm, h⟩ := h
        exact ih2 mm hmm _ _ _ _ hP hS (lv_sub hl [1, 2, 3, 0] rfl) h
      unfold wp_divisorOf_b2 at h
      refine lv_iload_n hx hb dX7_divisorOf_2 rfl (lv_at hl 3 rfl) ?_
      refine lv_bipush (v := 8) hx hb dX7_divisorOf_3 (by decide) ?_
      refine lv_icmp_ge (tgt := 38) hx hb dX7_divisorOf_5 (by decide) (fun c_7 => ?_) (fun c_7 => ?_)
      · have h := h.1 c_7
        refine lv_iconst (v := (-1)) hx hb dX7_divisorOf_38 (by decide) ?_
        exact W.iret (v := (-1)) hx hb hr (fun t ht hW => ⟨⟨(-1), (), rfl, h, by rw [ht]; exact hP, va_K.moved hW.alike hK⟩, hS.F ht⟩) hS.2.2 dX7_divisorOf_39
      · have h := h.2 c_7
        refine lv_iload_n hx hb dX7_divisorOf_8 rfl (lv_at hl 1 rfl) ?_
        refine lv_iload_n hx hb dX7_divisorOf_9 rfl (lv_at hl 3 rfl) ?_
        refine m_ishr hx hb dX7_divisorOf_10 ?_
        refine lv_iconst (v := 1) hx hb dX7_divisorOf_11 (by decide) ?_
        refine lv_iand hx hb dX7_divisorOf_12 ?_
        refine lv_iconst (v := 1) hx hb dX7_divisorOf_13 (by decide) ?_
        refine lv_icmp_ne (tgt := 32) hx hb dX7_divisorOf_14 (by decide) (fun c_6 => ?_) (fun c_6 => ?_)
        · have h := h.1 c_6
          exact J32 _  _ _ _ h hP hS (lv_sub hl [0, 1, 2, 3] rfl)
        · have h := h.2 c_6
          refine lv_aload_n hx hb dX7_divisorOf_17 rfl (lv_at hl 0 rfl) ?_
          refine m_get (v := .ref (b + 11)) hx hb hts hown hK hP 34 (by decide) q1244 rfl rfl dX7_divisorOf_18 ?_
          refine lv_iload_n hx hb dX7_divisorOf_21 rfl (lv_at hl 3 rfl) ?_
          obtain ⟨j_2, hj_2, ej_2, h⟩ := h
          refine m_iald hx hb hK hP (k := 11) mok_11 ej_2 hj_2 dX7_divisorOf_22 ?_
          refine lv_iload_n hx hb dX7_divisorOf_23 rfl (lv_at hl 2 rfl) ?_
          refine m_cSp (As := [.int (S 11 j_2), .int p2]) (rest := []) ⟨hx, hb, hml, hown, hts⟩ (met_isUnder l D cI cB b (S 11 j_2) p2  S _ h) (va_cwS 2 hts (lw_S q1647 q1648 q128 q1649) rfl rfl rfl cwd_isUnder ⟨Nat.le_of_ble_eq_true rfl, Nat.le_of_ble_eq_true rfl⟩) hK hP hS rfl hl.1 rfl (Nat.le_of_ble_eq_true rfl) dX7_divisorOf_24 ⟨Nat.zero_le _, Nat.zero_le _⟩ (fun r_3 H locs h hP hS => ?_)
          refine lv_if_eq (tgt := 32) hx hb dX7_divisorOf_27 (by decide) (fun c_5 => ?_) (fun c_5 => ?_)
          · have h := h.1 c_5
            exact J32 _  _ _ _ h hP hS (lv_sub hl [0, 1, 2, 3] rfl)
          · have h := h.2 c_5
            refine lv_iload_n hx hb dX7_divisorOf_30 rfl (lv_at hl 3 rfl) ?_
            exact W.iret (v := x3) hx hb hr (fun t ht hW => ⟨⟨x3, (), rfl, h, by rw [ht]; exact hP, va_K.moved hW.alike hK⟩, hS.F ht⟩) hS.2.2 dX7_divisorOf_31
  unfold wp_divisorOf at h
  refine lv_iconst (v := 0) hx hb dX7_divisorOf_0 (by decide) ?_
  refine lv_istore_n (lv' := [(3, .int 0), (0, .ref b), (1, .int p1), (2, .int p2)]) hx hb dX7_divisorOf_1 rfl hl (by decide) rfl (fun ls hl => ?_)
  exact L2 _  _ _ _ h hP hS (lv_sub hl [1, 2, 3, 0] rfl)
