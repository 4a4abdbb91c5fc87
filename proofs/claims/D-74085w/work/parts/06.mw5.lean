set_option maxRecDepth 100000
def wp_scale_j22 (p1 : Int32) (p2 : Int32) (p3 : Int32) (p4 : Int32) (p5 : Int32) (p6 : Int32) (post : Int32 → St → Prop)  (S : St) : Prop :=
    wp_refused 1 S (fun r_1 S_2 =>
    post r_1 S_2)
def wp_scale_j59 (p1 : Int32) (p2 : Int32) (p3 : Int32) (p4 : Int32) (p5 : Int32) (p6 : Int32) (post : Int32 → St → Prop)  (S : St) : Prop :=
    wp_refused 2 S (fun r_3 S_4 =>
    post r_3 S_4)
def wp_scale (p1 : Int32) (p2 : Int32) (p3 : Int32) (p4 : Int32) (p5 : Int32) (p6 : Int32) (S : St) (post : Int32 → St → Prop) : Prop :=
  ∀ S_5 : St, S_5 = bw S 0 0 0 →
  wp_isReg p1 S_5 (fun r_6 =>
  ((r_6 = 0 →
    wp_scale_j22 p1 p2 p3 p4 p5 p6 post  S_5) ∧
   (¬ (r_6 = 0) →
    wp_isReg p6 S_5 (fun r_8 =>
    ((¬ r_8 = 0 →
      wp_isValue p2 S_5 (fun r_10 =>
      ((r_10 = 0 →
        wp_scale_j59 p1 p2 p3 p4 p5 p6 post  S_5) ∧
       (¬ (r_10 = 0) →
        wp_isExponent p3 S_5 (fun r_12 =>
        ((r_12 = 0 →
          wp_scale_j59 p1 p2 p3 p4 p5 p6 post  S_5) ∧
         (¬ (r_12 = 0) →
          wp_isExponent p4 S_5 (fun r_14 =>
          ((r_14 = 0 →
            wp_scale_j59 p1 p2 p3 p4 p5 p6 post  S_5) ∧
           (¬ (r_14 = 0) →
            wp_isExponent p5 S_5 (fun r_16 =>
            ((¬ r_16 = 0 →
              wp_clears  S_5 (fun S_19 =>
              wp_keyOf p3 p4 p5 S_19 (fun r_20 =>
              wp_puts p1 p2 r_20 S_19 (fun S_23 =>
              wp_lays p6 S_23 (fun r_24 S_25 =>
              post r_24 S_25))))) ∧
             (r_16 = 0 →
              wp_scale_j59 p1 p2 p3 p4 p5 p6 post  S_5))))))))))))) ∧
     (r_8 = 0 →
      wp_scale_j22 p1 p2 p3 p4 p5 p6 post  S_5))))))
set_option maxHeartbeats 4000000 in
theorem met_scale (l : Launch) (D : va_G) (cI cB : ClassId) (b : Nat) (p1 : Int32) (p2 : Int32) (p3 : Int32) (p4 : Int32) (p5 : Int32) (p6 : Int32)  (S : St) (post : Int32 → St → Prop) (h : wp_scale p1 p2 p3 p4 p5 p6 S post) : Met l yX7_scale (ws_ yX7_scale cX7_scale 7 (some .int)) ({ frames := 3, cells := 0, slots := 0, locals := 70 } : Room) (mPc D cI cB b [.ref b, .int p1, .int p2, .int p3, .int p4, .int p5, .int p6] S) (mQi D cI cB b post) 0 0 (mA b) := by
  refine Met.ofW (cc := cX7_scale) (maxL := 7) (ret := (some .int)) (by decide) rfl ?_
  intro p e s m args below meth c s₁ B hml hv
  obtain ⟨rfl, hP, hK⟩ := hv
  have hx := B.exec
  have hb := B.bytes
  have hr := B.returns
  have hts := atoms_spec (ws := ws_ yX7_scale cX7_scale 7 (some .int)) B.pre
  have hts : ∀ w ∈ lw_all, w.before _ s = true := fun w h => hts w (List.mem_cons_of_mem _ h)
  have hown : s.vm.findClass RX7 = some m.cls := findClass_of_methodNamed B.named
  have hlocks := B.notSynchronized
  have hS : va_S (mA b) s.heap s.heap [] := va_S.rf
  have hl := lv_entry ([.ref b, .int p1, .int p2, .int p3, .int p4, .int p5, .int p6]) (n := 7) (Nat.le_of_ble_eq_true rfl)
  rw [lg_entry_eq]
  generalize (lg_sl ([.ref b, .int p1, .int p2, .int p3, .int p4, .int p5, .int p6]) ++ List.replicate (7 - (lg_sl ([.ref b, .int p1, .int p2, .int p3, .int p4, .int p5, .int p6])).length) Slot.unset).toArray = ls at hl ⊢
  have hl : lv_has ls 7 [(0, .ref b), (1, .int p1), (2, .int p2), (3, .int p3), (4, .int p4), (5, .int p5), (6, .int p6)] := hl
  have J22 : ∀  (S : St) (H : Heap) (locs : List Loc) (ls : Array Slot), wp_scale_j22 p1 p2 p3 p4 p5 p6 post  S → mW D cI cB b S H → va_S (mA b) s.heap H locs → lv_has ls 7 [(0, .ref b)] → W p l e (headSpec (ws_ yX7_scale cX7_scale 7 (some .int)) ({ frames := 3, cells := 0, slots := 0, locals := 70 } : Room)).room s m ([.ref b, .int p1, .int p2, .int p3, .int p4, .int p5, .int p6] : List Value).toArray below meth c H locs 0 0 (MQ below (mQi D cI cB b post) ([.ref b, .int p1, .int p2, .int p3, .int p4, .int p5, .int p6] : List Value).toArray s 0 0 (mA b)) (F0 m 22 ls []) := by
    intro  S H locs ls h hP hS hl
    unfold wp_scale_j22 at h
    refine lv_aload_n hx hb dX7_scale_22 rfl (lv_at hl 0 rfl) ?_
    refine lv_iconst (v := 1) hx hb dX7_scale_23 (by decide) ?_
    refine m_cVi (As := [.int 1]) (rest := []) ⟨hx, hb, hml, hown, hts⟩ (met_refused l D cI cB b 1  S _ h) (cwV 1 hts (lw_V q1382 q1384 qs58 q128 q1385) rfl rfl rfl cwd_refused ⟨Nat.le_of_ble_eq_true rfl, Nat.le_of_ble_eq_true rfl⟩) hK hP hS rfl hl.1 rfl (Nat.le_of_ble_eq_true rfl) dX7_scale_24 ⟨Nat.zero_le _, Nat.zero_le _⟩ (fun r_1 S_2 H locs h hP hS => ?_)
    exact W.iret (v := r_1) hx hb hr (fun t ht hW => ⟨⟨r_1, S_2, rfl, h, by rw [ht]; exact hP, va_K.moved hW.alike hK⟩, hS.F ht⟩) hS.2.2 dX7_scale_27
  have J59 : ∀  (S : St) (H : Heap) (locs : List Loc) (ls : Array Slot), wp_scale_j59 p1 p2 p3 p4 p5 p6 post  S → mW D cI cB b S H → va_S (mA b) s.heap H locs → lv_has ls 7 [(0, .ref b)] → W p l e (headSpec (ws_ yX7_scale cX7_scale 7 (some .int)) ({ frames := 3, cells := 0, slots := 0, locals := 70 } : Room)).room s m ([.ref b, .int p1, .int p2, .int p3, .int p4, .int p5, .int p6] : List Value).toArray below meth c H locs 0 0 (MQ below (mQi D cI cB b post) ([.ref b, .int p1, .int p2, .int p3, .int p4, .int p5, .int p6] : List Value).toArray s 0 0 (mA b)) (F0 m 59 ls []) := by
    intro  S H locs ls h hP hS hl
    unfold wp_scale_j59 at h
    refine lv_aload_n hx hb dX7_scale_59 rfl (lv_at hl 0 rfl) ?_
    refine lv_iconst (v := 2) hx hb dX7_scale_60 (by decide) ?_
    refine m_cVi (As := [.int 2]) (rest := []) ⟨hx, hb, hml, hown, hts⟩ (met_refused l D cI cB b 2  S _ h) (cwV 1 hts (lw_V q1382 q1384 qs58 q128 q1385) rfl rfl rfl cwd_refused ⟨Nat.le_of_ble_eq_true rfl, Nat.le_of_ble_eq_true rfl⟩) hK hP hS rfl hl.1 rfl (Nat.le_of_ble_eq_true rfl) dX7_scale_61 ⟨Nat.zero_le _, Nat.zero_le _⟩ (fun r_3 S_4 H locs h hP hS => ?_)
    exact W.iret (v := r_3) hx hb hr (fun t ht hW => ⟨⟨r_3, S_4, rfl, h, by rw [ht]; exact hP, va_K.moved hW.alike hK⟩, hS.F ht⟩) hS.2.2 dX7_scale_64
  unfold wp_scale at h
  refine lv_aload_n hx hb dX7_scale_0 rfl (lv_at hl 0 rfl) ?_
  refine lv_iconst (v := 0) hx hb dX7_scale_1 (by decide) ?_
  obtain ⟨S_5, eS_5⟩ : ∃ z : St, z = bw S 0 0 0 := ⟨_, rfl⟩
  have h := h S_5 eS_5
  refine m_put (S1 := S_5) (v := .int 0) (ty := .int) hx hb hts hown hK hP hS 0 (by decide) q1210 rfl rfl (tyX7_ok 0 (by decide)) rfl rfl (by rw [eS_5]; exact mset_0 b S 0) (by rw [eS_5]; exact bw_0) dX7_scale_2 (fun H locs hP hS => ?_)
  refine lv_aload_n hx hb dX7_scale_5 rfl (lv_at hl 0 rfl) ?_
  refine lv_iload_n hx hb dX7_scale_6 rfl (lv_at hl 1 rfl) ?_
  refine m_cVp (As := [.int p1]) (rest := []) ⟨hx, hb, hml, hown, hts⟩ (met_isReg l D cI cB b p1  S_5 _ h) (cwV 1 hts (lw_V q1534 q1536 qs81 q128 q1537) rfl rfl rfl cwd_isReg ⟨Nat.le_of_ble_eq_true rfl, Nat.le_of_ble_eq_true rfl⟩) hK hP hS rfl hl.1 rfl (Nat.le_of_ble_eq_true rfl) dX7_scale_7 ⟨Nat.zero_le _, Nat.zero_le _⟩ (fun r_6 H locs h hP hS => ?_)
  refine lv_if_eq (tgt := 22) hx hb dX7_scale_10 (by decide) (fun c_31 => ?_) (fun c_31 => ?_)
  · have h := h.1 c_31
    exact J22  _ _ _ _ h hP hS (lv_sub hl [0] rfl)
  · have h := h.2 c_31
    refine lv_aload_n hx hb dX7_scale_13 rfl (lv_at hl 0 rfl) ?_
    refine lv_iload hx hb dX7_scale_14 (lv_at hl 6 rfl) ?_
    refine m_cVp (As := [.int p6]) (rest := []) ⟨hx, hb, hml, hown, hts⟩ (met_isReg l D cI cB b p6  S_5 _ h) (cwV 1 hts (lw_V q1534 q1536 qs81 q128 q1537) rfl rfl rfl cwd_isReg ⟨Nat.le_of_ble_eq_true rfl, Nat.le_of_ble_eq_true rfl⟩) hK hP hS rfl hl.1 rfl (Nat.le_of_ble_eq_true rfl) dX7_scale_16 ⟨Nat.zero_le _, Nat.zero_le _⟩ (fun r_8 H locs h hP hS => ?_)
    refine lv_if_ne (tgt := 28) hx hb dX7_scale_19 (by decide) (fun c_30 => ?_) (fun c_30 => ?_)
    · have h := h.1 c_30
      refine lv_aload_n hx hb dX7_scale_28 rfl (lv_at hl 0 rfl) ?_
      refine lv_iload_n hx hb dX7_scale_29 rfl (lv_at hl 2 rfl) ?_
      refine m_cVp (As := [.int p2]) (rest := []) ⟨hx, hb, hml, hown, hts⟩ (met_isValue l D cI cB b p2  S_5 _ h) (cwV 1 hts (lw_V q1577 q1579 qs83 q128 q1580) rfl rfl rfl cwd_isValue ⟨Nat.le_of_ble_eq_true rfl, Nat.le_of_ble_eq_true rfl⟩) hK hP hS rfl hl.1 rfl (Nat.le_of_ble_eq_true rfl) dX7_scale_30 ⟨Nat.zero_le _, Nat.zero_le _⟩ (fun r_10 H locs h hP hS => ?_)
      refine lv_if_eq (tgt := 59) hx hb dX7_scale_33 (by decide) (fun c_29 => ?_) (fun c_29 => ?_)
      · have h := h.1 c_29
        exact J59  _ _ _ _ h hP hS (lv_sub hl [0] rfl)
      · have h := h.2 c_29
        refine lv_iload_n hx hb dX7_scale_36 rfl (lv_at hl 3 rfl) ?_
        refine m_cSp (As := [.int p3]) (rest := []) ⟨hx, hb, hml, hown, hts⟩ (met_isExponent l D cI cB b p3  S_5 _ h) (va_cwS 1 hts (lw_S q1567 q1568 q128 q1569) rfl rfl rfl cwd_isExponent ⟨Nat.le_of_ble_eq_true rfl, Nat.le_of_ble_eq_true rfl⟩) hK hP hS rfl hl.1 rfl (Nat.le_of_ble_eq_true rfl) dX7_scale_37 ⟨Nat.zero_le _, Nat.zero_le _⟩ (fun r_12 H locs h hP hS => ?_)
        refine lv_if_eq (tgt := 59) hx hb dX7_scale_40 (by decide) (fun c_28 => ?_) (fun c_28 => ?_)
        · have h := h.1 c_28
          exact J59  _ _ _ _ h hP hS (lv_sub hl [0] rfl)
        · have h := h.2 c_28
          refine lv_iload hx hb dX7_scale_43 (lv_at hl 4 rfl) ?_
          refine m_cSp (As := [.int p4]) (rest := []) ⟨hx, hb, hml, hown, hts⟩ (met_isExponent l D cI cB b p4  S_5 _ h) (va_cwS 1 hts (lw_S q1567 q1568 q128 q1569) rfl rfl rfl cwd_isExponent ⟨Nat.le_of_ble_eq_true rfl, Nat.le_of_ble_eq_true rfl⟩) hK hP hS rfl hl.1 rfl (Nat.le_of_ble_eq_true rfl) dX7_scale_45 ⟨Nat.zero_le _, Nat.zero_le _⟩ (fun r_14 H locs h hP hS => ?_)
          refine lv_if_eq (tgt := 59) hx hb dX7_scale_48 (by decide) (fun c_27 => ?_) (fun c_27 => ?_)
          · have h := h.1 c_27
            exact J59  _ _ _ _ h hP hS (lv_sub hl [0] rfl)
          · have h := h.2 c_27
            refine lv_iload hx hb dX7_scale_51 (lv_at hl 5 rfl) ?_
            refine m_cSp (As := [.int p5]) (rest := []) ⟨hx, hb, hml, hown, hts⟩ (met_isExponent l D cI cB b p5  S_5 _ h) (va_cwS 1 hts (lw_S q1567 q1568 q128 q1569) rfl rfl rfl cwd_isExponent ⟨Nat.le_of_ble_eq_true rfl, Nat.le_of_ble_eq_true rfl⟩) hK hP hS rfl hl.1 rfl (Nat.le_of_ble_eq_true rfl) dX7_scale_53 ⟨Nat.zero_le _, Nat.zero_le _⟩ (fun r_16 H locs h hP hS => ?_)
            refine lv_if_ne (tgt := 65) hx hb dX7_scale_56 (by decide) (fun c_26 => ?_) (fun c_26 => ?_)
            · have h := h.1 c_26
              refine lv_aload_n hx hb dX7_scale_65 rfl (lv_at hl 0 rfl) ?_
              refine m_cVv (As := []) (rest := []) ⟨hx, hb, hml, hown, hts⟩ (met_clears l D cI cB b   S_5 _ h) (cwV 0 hts (lw_V q1673 q1675 qs97 q128 q1676) rfl rfl rfl cwd_clears ⟨Nat.le_of_ble_eq_true rfl, Nat.le_of_ble_eq_true rfl⟩) hK hP hS rfl hl.1 rfl (Nat.le_of_ble_eq_true rfl) dX7_scale_66 ⟨Nat.zero_le _, Nat.zero_le _⟩ (fun S_19 H locs h hP hS => ?_)
              refine lv_aload_n hx hb dX7_scale_69 rfl (lv_at hl 0 rfl) ?_
              refine lv_iload_n hx hb dX7_scale_70 rfl (lv_at hl 1 rfl) ?_
              refine lv_iload_n hx hb dX7_scale_71 rfl (lv_at hl 2 rfl) ?_
              refine lv_iload_n hx hb dX7_scale_72 rfl (lv_at hl 3 rfl) ?_
              refine lv_iload hx hb dX7_scale_73 (lv_at hl 4 rfl) ?_
              refine lv_iload hx hb dX7_scale_75 (lv_at hl 5 rfl) ?_
              refine m_cSp (As := [.int p3, .int p4, .int p5]) (rest := [.int p2, .int p1, .ref b]) ⟨hx, hb, hml, hown, hts⟩ (met_keyOf l D cI cB b p3 p4 p5  S_19 _ h) (va_cwS 3 hts (lw_S q1570 q1571 q128 q1572) rfl rfl rfl cwd_keyOf ⟨Nat.le_of_ble_eq_true rfl, Nat.le_of_ble_eq_true rfl⟩) hK hP hS rfl hl.1 rfl (Nat.le_of_ble_eq_true rfl) dX7_scale_77 ⟨Nat.zero_le _, Nat.zero_le _⟩ (fun r_20 H locs h hP hS => ?_)
              refine m_cVv (As := [.int p1, .int p2, .int r_20]) (rest := []) ⟨hx, hb, hml, hown, hts⟩ (met_puts l D cI cB b p1 p2 r_20  S_19 _ h) (cwV 3 hts (lw_V q1677 q1679 qs98 q128 q1680) rfl rfl rfl cwd_puts ⟨Nat.le_of_ble_eq_true rfl, Nat.le_of_ble_eq_true rfl⟩) hK hP hS rfl hl.1 rfl (Nat.le_of_ble_eq_true rfl) dX7_scale_80 ⟨Nat.zero_le _, Nat.zero_le _⟩ (fun S_23 H locs h hP hS => ?_)
              refine lv_aload_n hx hb dX7_scale_83 rfl (lv_at hl 0 rfl) ?_
              refine lv_iload hx hb dX7_scale_84 (lv_at hl 6 rfl) ?_
              refine m_cVi (As := [.int p6]) (rest := []) ⟨hx, hb, hml, hown, hts⟩ (met_lays l D cI cB b p6  S_23 _ h) (cwV 1 hts (lw_V q1693 q1695 qs101 q128 q1696) rfl rfl rfl cwd_lays ⟨Nat.le_of_ble_eq_true rfl, Nat.le_of_ble_eq_true rfl⟩) hK hP hS rfl hl.1 rfl (Nat.le_of_ble_eq_true rfl) dX7_scale_86 ⟨Nat.zero_le _, Nat.zero_le _⟩ (fun r_24 S_25 H locs h hP hS => ?_)
              exact W.iret (v := r_24) hx hb hr (fun t ht hW => ⟨⟨r_24, S_25, rfl, h, by rw [ht]; exact hP, va_K.moved hW.alike hK⟩, hS.F ht⟩) hS.2.2 dX7_scale_89
            · have h := h.2 c_26
              exact J59  _ _ _ _ h hP hS (lv_sub hl [0] rfl)
    · have h := h.2 c_30
      exact J22  _ _ _ _ h hP hS (lv_sub hl [0] rfl)
def wp_monic_j21 (p1 : Int32) (p2 : Int32) (post : Int32 → St → Prop)  (S : St) : Prop :=
    wp_refused 1 S (fun r_1 S_2 =>
    post r_1 S_2)
def wp_monic_j59 (p1 : Int32) (p2 : Int32) (post : Int32 → St → Prop)  (S : St) : Prop :=
    wp_lays p2 S (fun r_3 S_4 =>
    post r_3 S_4)
def wp_monic (p1 : Int32) (p2 : Int32) (S : St) (post : Int32 → St → Prop) : Prop :=
  ∀ S_5 : St, S_5 = bw S 0 0 0 →
  wp_isReg p1 S_5 (fun r_6 =>
  ((r_6 = 0 →
    wp_monic_j21 p1 p2 post  S_5) ∧
   (¬ (r_6 = 0) →
    wp_isReg p2 S_5 (fun r_8 =>
    ((¬ r_8 = 0 →
      wp_clears  S_5 (fun S_11 =>
      wp_isZero p1 S_11 (fun r_12 =>
      ((¬ r_12 = 0 →
        wp_monic_j59 p1 p2 post  S_11) ∧
       (r_12 = 0 →
        wp_leadOf p1 S_11 (fun r_14 =>
        wp_coef p1 r_14 S_11 (fun r_16 =>
        wp_inverse r_16 S_11 (fun r_18 =>
        wp_puts p1 r_18 0 S_11 (fun S_21 =>
        wp_monic_j59 p1 p2 post  S_21))))))))) ∧
     (r_8 = 0 →
      wp_monic_j21 p1 p2 post  S_5))))))
set_option maxHeartbeats 4000000 in
theorem met_monic (l : Launch) (D : va_G) (cI cB : ClassId) (b : Nat) (p1 : Int32) (p2 : Int32)  (S : St) (post : Int32 → St → Prop) (h : wp_monic p1 p2 S post) : Met l yX7_monic (ws_ yX7_monic cX7_monic 3 (some .int)) ({ frames := 3, cells := 0, slots := 0, locals := 70 } : Room) (mPc D cI cB b [.ref b, .int p1, .int p2] S) (mQi D cI cB b post) 0 0 (mA b) := by
  refine Met.ofW (cc := cX7_monic) (maxL := 3) (ret := (some .int)) (by decide) rfl ?_
  intro p e s m args below meth c s₁ B hml hv
  obtain ⟨rfl, hP, hK⟩ := hv
  have hx := B.exec
  have hb := B.bytes
  have hr := B.returns
  have hts := atoms_spec (ws := ws_ yX7_monic cX7_monic 3 (some .int)) B.pre
  have hts : ∀ w ∈ lw_all, w.before _ s = true := fun w h => hts w (List.mem_cons_of_mem _ h)
  have hown : s.vm.findClass RX7 = some m.cls := findClass_of_methodNamed B.named
  have hlocks := B.notSynchronized
  have hS : va_S (mA b) s.heap s.heap [] := va_S.rf
  have hl := lv_entry ([.ref b, .int p1, .int p2]) (n := 3) (Nat.le_of_ble_eq_true rfl)
  rw [lg_entry_eq]
  generalize (lg_sl ([.ref b, .int p1, .int p2]) ++ List.replicate (3 - (lg_sl ([.ref b, .int p1, .int p2])).length) Slot.unset).toArray = ls at hl ⊢
  have hl : lv_has ls 3 [(0, .ref b), (1, .int p1), (2, .int p2)] := hl
  have J21 : ∀  (S : St) (H : Heap) (locs : List Loc) (ls : Array Slot), wp_monic_j21 p1 p2 post  S → mW D cI cB b S H → va_S (mA b) s.heap H locs → lv_has ls 3 [(0, .ref b)] → W p l e (headSpec (ws_ yX7_monic cX7_monic 3 (some .int)) ({ frames := 3, cells := 0, slots := 0, locals := 70 } : Room)).room s m ([.ref b, .int p1, .int p2] : List Value).toArray below meth c H locs 0 0 (MQ below (mQi D cI cB b post) ([.ref b, .int p1, .int p2] : List Value).toArray s 0 0 (mA b)) (F0 m 21 ls []) := by
    intro  S H locs ls h hP hS hl
    unfold wp_monic_j21 at h
    refine lv_aload_n hx hb dX7_monic_21 rfl (lv_at hl 0 rfl) ?_
    refine lv_iconst (v := 1) hx hb dX7_monic_22 (by decide) ?_
    refine m_cVi (As := [.int 1]) (rest := []) ⟨hx, hb, hml, hown, hts⟩ (met_refused l D cI cB b 1  S _ h) (cwV 1 hts (lw_V q1382 q1384 qs58 q128 q1385) rfl rfl rfl cwd_refused ⟨Nat.le_of_ble_eq_true rfl, Nat.le_of_ble_eq_true rfl⟩) hK hP hS rfl hl.1 rfl (Nat.le_of_ble_eq_true rfl) dX7_monic_23 ⟨Nat.zero_le _, Nat.zero_le _⟩ (fun r_1 S_2 H locs h hP hS => ?_)
    exact W.iret (v := r_1) hx hb hr (fun t ht hW => ⟨⟨r_1, S_2, rfl, h, by rw [ht]; exact hP, va_K.moved hW.alike hK⟩, hS.F ht⟩) hS.2.2 dX7_monic_26
  have J59 : ∀  (S : St) (H : Heap) (locs : List Loc) (ls : Array Slot), wp_monic_j59 p1 p2 post  S → mW D cI cB b S H → va_S (mA b) s.heap H locs → lv_has ls 3 [(0, .ref b), (2, .int p2)] → W p l e (headSpec (ws_ yX7_monic cX7_monic 3 (some .int)) ({ frames := 3, cells := 0, slots := 0, locals := 70 } : Room)).room s m ([.ref b, .int p1, .int p2] : List Value).toArray below meth c H locs 0 0 (MQ below (mQi D cI cB b post) ([.ref b, .int p1, .int p2] : List Value).toArray s 0 0 (mA b)) (F0 m 59 ls []) := by
    intro  S H locs ls h hP hS hl
    unfold wp_monic_j59 at h
    refine lv_aload_n hx hb dX7_monic_59 rfl (lv_at hl 0 rfl) ?_
    refine lv_iload_n hx hb dX7_monic_60 rfl (lv_at hl 1 rfl) ?_
    refine m_cVi (As := [.int p2]) (rest := []) ⟨hx, hb, hml, hown, hts⟩ (met_lays l D cI cB b p2  S _ h) (cwV 1 hts (lw_V q1693 q1695 qs101 q128 q1696) rfl rfl rfl cwd_lays ⟨Nat.le_of_ble_eq_true rfl, Nat.le_of_ble_eq_true rfl⟩) hK hP hS rfl hl.1 rfl (Nat.le_of_ble_eq_true rfl) dX7_monic_61 ⟨Nat.zero_le _, Nat.zero_le _⟩ (fun r_3 S_4 H locs h hP hS => ?_)
    exact W.iret (v := r_3) hx hb hr (fun t ht hW => ⟨⟨r_3, S_4, rfl, h, by rw [ht]; exact hP, va_K.moved hW.alike hK⟩, hS.F ht⟩) hS.2.2 dX7_monic_64
  unfold wp_monic at h
  refine lv_aload_n hx hb dX7_monic_0 rfl (lv_at hl 0 rfl) ?_
  refine lv_iconst (v := 0) hx hb dX7_monic_1 (by decide) ?_
  obtain ⟨S_5, eS_5⟩ : ∃ z : St, z = bw S 0 0 0 := ⟨_, rfl⟩
  have h := h S_5 eS_5
  refine m_put (S1 := S_5) (v := .int 0) (ty := .int) hx hb hts hown hK hP hS 0 (by decide) q1210 rfl rfl (tyX7_ok 0 (by decide)) rfl rfl (by rw [eS_5]; exact mset_0 b S 0) (by rw [eS_5]; exact bw_0) dX7_monic_2 (fun H locs hP hS => ?_)
  refine lv_aload_n hx hb dX7_monic_5 rfl (lv_at hl 0 rfl) ?_
  refine lv_iload_n hx hb dX7_monic_6 rfl (lv_at hl 1 rfl) ?_
  refine m_cVp (As := [.int p1]) (rest := []) ⟨hx, hb, hml, hown, hts⟩ (met_isReg l D cI cB b p1  S_5 _ h) (cwV 1 hts (lw_V q1534 q1536 qs81 q128 q1537) rfl rfl rfl cwd_isReg ⟨Nat.le_of_ble_eq_true rfl, Nat.le_of_ble_eq_true rfl⟩) hK hP hS rfl hl.1 rfl (Nat.le_of_ble_eq_true rfl) dX7_monic_7 ⟨Nat.zero_le _, Nat.zero_le _⟩ (fun r_6 H locs h hP hS => ?_)
  refine lv_if_eq (tgt := 21) hx hb dX7_monic_10 (by decide) (fun c_24 => ?_) (fun c_24 => ?_)
  · have h := h.1 c_24
    exact J21  _ _ _ _ h hP hS (lv_sub hl [0] rfl)
  · have h := h.2 c_24
    refine lv_aload_n hx hb dX7_monic_13 rfl (lv_at hl 0 rfl) ?_
    refine lv_iload_n hx hb dX7_monic_14 rfl (lv_at hl 2 rfl) ?_
    refine m_cVp (As := [.int p2]) (rest := []) ⟨hx, hb, hml, hown, hts⟩ (met_isReg l D cI cB b p2  S_5 _ h) (cwV 1 hts (lw_V q1534 q1536 qs81 q128 q1537) rfl rfl rfl cwd_isReg ⟨Nat.le_of_ble_eq_true rfl, Nat.le_of_ble_eq_true rfl⟩) hK hP hS rfl hl.1 rfl (Nat.le_of_ble_eq_true rfl) dX7_monic_15 ⟨Nat.zero_le _, Nat.zero_le _⟩ (fun r_8 H locs h hP hS => ?_)
    refine lv_if_ne (tgt := 27) hx hb dX7_monic_18 (by decide) (fun c_23 => ?_) (fun c_23 => ?_)
    · have h := h.1 c_23
      refine lv_aload_n hx hb dX7_monic_27 rfl (lv_at hl 0 rfl) ?_
      refine m_cVv (As := []) (rest := []) ⟨hx, hb, hml, hown, hts⟩ (met_clears l D cI cB b   S_5 _ h) (cwV 0 hts (lw_V q1673 q1675 qs97 q128 q1676) rfl rfl rfl cwd_clears ⟨Nat.le_of_ble_eq_true rfl, Nat.le_of_ble_eq_true rfl⟩) hK hP hS rfl hl.1 rfl (Nat.le_of_ble_eq_true rfl) dX7_monic_28 ⟨Nat.zero_le _, Nat.zero_le _⟩ (fun S_11 H locs h hP hS => ?_)
      refine lv_aload_n hx hb dX7_monic_31 rfl (lv_at hl 0 rfl) ?_
      refine lv_iload_n hx hb dX7_monic_32 rfl (lv_at hl 1 rfl) ?_
      refine m_cVp (As := [.int p1]) (rest := []) ⟨hx, hb, hml, hown, hts⟩ (met_isZero l D cI cB b p1  S_11 _ h) (cwV 1 hts (lw_V q1518 q1520 qs78 q128 q1521) rfl rfl rfl cwd_isZero ⟨Nat.le_of_ble_eq_true rfl, Nat.le_of_ble_eq_true rfl⟩) hK hP hS rfl hl.1 rfl (Nat.le_of_ble_eq_true rfl) dX7_monic_33 ⟨Nat.zero_le _, Nat.zero_le _⟩ (fun r_12 H locs h hP hS => ?_)
      refine lv_if_ne (tgt := 59) hx hb dX7_monic_36 (by decide) (fun c_22 => ?_) (fun c_22 => ?_)
      · have h := h.1 c_22
        exact J59  _ _ _ _ h hP hS (lv_sub hl [0, 2] rfl)
      · have h := h.2 c_22
        refine lv_aload_n hx hb dX7_monic_39 rfl (lv_at hl 0 rfl) ?_
        refine lv_iload_n hx hb dX7_monic_40 rfl (lv_at hl 1 rfl) ?_
        refine lv_aload_n hx hb dX7_monic_41 rfl (lv_at hl 0 rfl) ?_
        refine lv_aload_n hx hb dX7_monic_42 rfl (lv_at hl 0 rfl) ?_
        refine lv_iload_n hx hb dX7_monic_43 rfl (lv_at hl 1 rfl) ?_
        refine lv_aload_n hx hb dX7_monic_44 rfl (lv_at hl 0 rfl) ?_
        refine lv_iload_n hx hb dX7_monic_45 rfl (lv_at hl 1 rfl) ?_
        refine m_cVp (As := [.int p1]) (rest := [.int p1, .ref b, .ref b, .int p1, .ref b]) ⟨hx, hb, hml, hown, hts⟩ (met_leadOf l D cI cB b p1  S_11 _ h) (cwV 1 hts (lw_V q1635 q1637 qs91 q128 q1638) rfl rfl rfl cwd_leadOf ⟨Nat.le_of_ble_eq_true rfl, Nat.le_of_ble_eq_true rfl⟩) hK hP hS rfl hl.1 rfl (Nat.le_of_ble_eq_true rfl) dX7_monic_46 ⟨Nat.zero_le _, Nat.zero_le _⟩ (fun r_14 H locs h hP hS => ?_)
        refine m_cVp (As := [.int p1, .int r_14]) (rest := [.ref b, .int p1, .ref b]) ⟨hx, hb, hml, hown, hts⟩ (met_coef l D cI cB b p1 r_14  S_11 _ h) (cwV 2 hts (lw_V q1526 q1528 qs80 q128 q1529) rfl rfl rfl cwd_coef ⟨Nat.le_of_ble_eq_true rfl, Nat.le_of_ble_eq_true rfl⟩) hK hP hS rfl hl.1 rfl (Nat.le_of_ble_eq_true rfl) dX7_monic_49 ⟨Nat.zero_le _, Nat.zero_le _⟩ (fun r_16 H locs h hP hS => ?_)
        refine m_cVp (As := [.int r_16]) (rest := [.int p1, .ref b]) ⟨hx, hb, hml, hown, hts⟩ (met_inverse l D cI cB b r_16  S_11 _ h) (cwV 1 hts (lw_V q1639 q1641 qs92 q128 q1642) rfl rfl rfl cwd_inverse ⟨Nat.le_of_ble_eq_true rfl, Nat.le_of_ble_eq_true rfl⟩) hK hP hS rfl hl.1 rfl (Nat.le_of_ble_eq_true rfl) dX7_monic_52 ⟨Nat.zero_le _, Nat.zero_le _⟩ (fun r_18 H locs h hP hS => ?_)
        refine lv_iconst (v := 0) hx hb dX7_monic_55 (by decide) ?_
        refine m_cVv (As := [.int p1, .int r_18, .int 0]) (rest := []) ⟨hx, hb, hml, hown, hts⟩ (met_puts l D cI cB b p1 r_18 0  S_11 _ h) (cwV 3 hts (lw_V q1677 q1679 qs98 q128 q1680) rfl rfl rfl cwd_puts ⟨Nat.le_of_ble_eq_true rfl, Nat.le_of_ble_eq_true rfl⟩) hK hP hS rfl hl.1 rfl (Nat.le_of_ble_eq_true rfl) dX7_monic_56 ⟨Nat.zero_le _, Nat.zero_le _⟩ (fun S_21 H locs h hP hS => ?_)
        exact J59  _ _ _ _ h hP hS (lv_sub hl [0, 2] rfl)
    · have h := h.2 c_23
      exact J21  _ _ _ _ h hP hS (lv_sub hl [0] rfl)
def wp_derive_j28 (p1 : Int32) (p2 : Int32) (p3 : Int32) (post : Int32 → St → Prop)  (S : St) : Prop :=
    wp_refused 1 S (fun r_1 S_2 =>
    post r_1 S_2)
def wp_derive_j90 (p1 : Int32) (p2 : Int32) (p3 : Int32) (post : Int32 → St → Prop) (R41 : Int32 → St → Prop) (x4 : Int32) (S : St) : Prop :=
        ∀ x4_3 : Int32, x4_3 = x4 + 1 →
        R41 x4_3 S
def wp_derive_b41 (p1 : Int32) (p2 : Int32) (p3 : Int32) (post : Int32 → St → Prop) (R41 : Int32 → St → Prop)  (x4 : Int32) (S : St) : Prop :=
      ((4096 ≤ x4 →
        wp_lays p3 S (fun r_4 S_5 =>
        post r_4 S_5)) ∧
       (¬ (4096 ≤ x4) →
        wp_exponent x4 p2 S (fun r_6 =>
        ((r_6 ≤ 0 →
          wp_derive_j90 p1 p2 p3 post R41 x4 S) ∧
         (¬ (r_6 ≤ 0) →
          wp_coef p1 x4 S (fun r_8 =>
          ¬ (S 0 5) = 0 ∧
          ∃ j_10 : Nat, j_10 < 4096 ∧ (x4 - (jshl 1 (4 * p2))) = nI j_10 ∧ ∀ S_11 : St, S_11 = bw S 6 j_10 (jrem (r_8 * r_6) (S 0 5)) →
          wp_derive_j90 p1 p2 p3 post R41 x4 S_11))))))
def wp_derive_l41 (p1 : Int32) (p2 : Int32) (p3 : Int32) (post : Int32 → St → Prop)  (x4 : Int32) (S : St) : Prop := wLoop (fun (R : (Int32 × St) → Prop) (v : Int32 × St) => wp_derive_b41 p1 p2 p3 post (fun x4 S => R (x4, S))  v.1 v.2) (x4, S)
def wp_derive (p1 : Int32) (p2 : Int32) (p3 : Int32) (S : St) (post : Int32 → St → Prop) : Prop :=
  ∀ S_14 : St, S_14 = bw S 0 0 0 →
  wp_isReg p1 S_14 (fun r_15 =>
  ((r_15 = 0 →
    wp_derive_j28 p1 p2 p3 post  S_14) ∧
   (¬ (r_15 = 0) →
    wp_isUnknown p2 S_14 (fun r_17 =>
    ((r_17 = 0 →
      wp_derive_j28 p1 p2 p3 post  S_14) ∧
     (¬ (r_17 = 0) →
      wp_isReg p3 S_14 (fun r_19 =>
      ((¬ r_19 = 0 →
        wp_clears  S_14 (fun S_22 =>
        wp_derive_l41 p1 p2 p3 post 0 S_22)) ∧
       (r_19 = 0 →
        wp_derive_j28 p1 p2 p3 post  S_14)))))))))
set_option maxHeartbeats 4000000 in
theorem met_derive (l : Launch) (D : va_G) (cI cB : ClassId) (b : Nat) (p1 : Int32) (p2 : Int32) (p3 : Int32)  (S : St) (post : Int32 → St → Prop) (h : wp_derive p1 p2 p3 S post) : Met l yX7_derive (ws_ yX7_derive cX7_derive 6 (some .int)) ({ frames := 3, cells := 0, slots := 0, locals := 66 } : Room) (mPc D cI cB b [.ref b, .int p1, .int p2, .int p3] S) (mQi D cI cB b post) 0 0 (mA b) := by
  refine Met.ofW (cc := cX7_derive) (maxL := 6) (ret := (some .int)) (by decide) rfl ?_
  intro p e s m args below meth c s₁ B hml hv
  obtain ⟨rfl, hP, hK⟩ := hv
  have hx := B.exec
  have hb := B.bytes
  have hr := B.returns
  have hts := atoms_spec (ws := ws_ yX7_derive cX7_derive 6 (some .int)) B.pre
  have hts : ∀ w ∈ lw_all, w.before _ s = true := fun w h => hts w (List.mem_cons_of_mem _ h)
  have hown : s.vm.findClass RX7 = some m.cls := findClass_of_methodNamed B.named
  have hlocks := B.notSynchronized
  have hS : va_S (mA b) s.heap s.heap [] := va_S.rf
  have hl := lv_entry ([.ref b, .int p1, .int p2, .int p3]) (n := 6) (Nat.le_of_ble_eq_true rfl)
  rw [lg_entry_eq]
  generalize (lg_sl ([.ref b, .int p1, .int p2, .int p3]) ++ List.replicate (6 - (lg_sl ([.ref b, .int p1, .int p2, .int p3])).length) Slot.unset).toArray = ls at hl ⊢
  have hl : lv_has ls 6 [(0, .ref b), (1, .int p1), (2, .int p2), (3, .int p3)] := hl
  have J28 : ∀  (S : St) (H : Heap) (locs : List Loc) (ls : Array Slot), wp_derive_j28 p1 p2 p3 post  S → mW D cI cB b S H → va_S (mA b) s.heap H locs → lv_has ls 6 [(0, .ref b)] → W p l e (headSpec (ws_ yX7_derive cX7_derive 6 (some .int)) ({ frames := 3, cells := 0, slots := 0, locals := 66 } : Room)).room s m ([.ref b, .int p1, .int p2, .int p3] : List Value).toArray below meth c H locs 0 0 (MQ below (mQi D cI cB b post) ([.ref b, .int p1, .int p2, .int p3] : List Value).toArray s 0 0 (mA b)) (F0 m 28 ls []) := by
    intro  S H locs ls h hP hS hl
    unfold wp_derive_j28 at h
    refine lv_aload_n hx hb dX7_derive_28 rfl (lv_at hl 0 rfl) ?_
    refine lv_iconst (v := 1) hx hb dX7_derive_29 (by decide) ?_
    refine m_cVi (As := [.int 1]) (rest := []) ⟨hx, hb, hml, hown, hts⟩ (met_refused l D cI cB b 1  S _ h) (cwV 1 hts (lw_V q1382 q1384 qs58 q128 q1385) rfl rfl rfl cwd_refused ⟨Nat.le_of_ble_eq_true rfl, Nat.le_of_ble_eq_true rfl⟩) hK hP hS rfl hl.1 rfl (Nat.le_of_ble_eq_true rfl) dX7_derive_30 ⟨Nat.zero_le _, Nat.zero_le _⟩ (fun r_1 S_2 H locs h hP hS => ?_)
    exact W.iret (v := r_1) hx hb hr (fun t ht hW => ⟨⟨r_1, S_2, rfl, h, by rw [ht]; exact hP, va_K.moved hW.alike hK⟩, hS.F ht⟩) hS.2.2 dX7_derive_33
  have L41 : ∀  (x4 : Int32) (S : St) (H : Heap) (locs : List Loc) (ls : Array Slot), wp_derive_l41 p1 p2 p3 post  x4 S → mW D cI cB b S H → va_S (mA b) s.heap H locs → lv_has ls 6 [(0, .ref b), (1, .int p1), (2, .int p2), (3, .int p3), (4, .int x4)] → W p l e (headSpec (ws_ yX7_derive cX7_derive 6 (some .int)) ({ frames := 3, cells := 0, slots := 0, locals := 66 } : Room)).room s m ([.ref b, .int p1, .int p2, .int p3] : List Value).toArray below meth c H locs 0 0 (MQ below (mQi D cI cB b post) ([.ref b, .int p1, .int p2, .int p3] : List Value).toArray s 0 0 (mA b)) (F0 m 41 ls []) := by
    intro  x4 S H locs ls h hP hS hl
    obtain ⟨I41, n41, hI, hstep41⟩ := h
    induction n41 using Nat.strongRecOn generalizing x4 S H locs ls with
    | ind n41 ih41 =>
      have h : wp_derive_b41 p1 p2 p3 post (fun x4 S => ∃ mm, mm < n41 ∧ I41 mm (x4, S))  x4 S := hstep41 n41 _ hI
      clear hI
      have J90 : ∀ (x4 : Int32) (S : St) (H : Heap) (locs : List Loc) (ls : Array Slot), wp_derive_j90 p1 p2 p3 post (fun x4 S => ∃ mm, mm < n41 ∧ I41 mm (x4, S)) x4 S → mW D cI cB b S H → va_S (mA b) s.heap H locs → lv_has ls 6 [(0, .ref b), (1, .int p1), (2, .int p2), (3, .int p3), (4, .int x4)] → W p l e (headSpec (ws_ yX7_derive cX7_derive 6 (some .int)) ({ frames := 3, cells := 0, slots := 0, locals := 66 } : Room)).room s m ([.ref b, .int p1, .int p2, .int p3] : List Value).toArray below meth c H locs 0 0 (MQ below (mQi D cI cB b post) ([.ref b, .int p1, .int p2, .int p3] : List Value).toArray s 0 0 (mA b)) (F0 m 90 ls []) := by
        intro x4 S H locs ls h hP hS hl
        unfold wp_derive_j90 at h
        obtain ⟨x4_3, ex4_3⟩ : ∃ y : Int32, y = x4 + 1 := ⟨_, rfl⟩
        have h := h x4_3 ex4_3
        refine lv_iinc (v := x4_3) (lv' := [(4, .int x4_3), (0, .ref b), (1, .int p1), (2, .int p2), (3, .int p3)]) hx hb dX7_derive_90 hl (k := 4) rfl (by rw [ex4_3]; rfl) (by decide) rfl (fun ls hl => ?_)
        refine lv_goto (tgt := 41) hx hb dX7_derive_93 (by decide) ?_
        obtain ⟨mm, hmm, h⟩ := h
        exact ih41 mm hmm _ _ _ _ _ hP hS (lv_sub hl [1, 2, 3, 4, 0] rfl) h
      unfold wp_derive_b41 at h
      refine lv_iload hx hb dX7_derive_41 (lv_at hl 4 rfl) ?_
      refine lv_sipush (v := 4096) hx hb dX7_derive_43 (by decide) ?_
      refine lv_icmp_ge (tgt := 96) hx hb dX7_derive_46 (by decide) (fun c_13 => ?_) (fun c_13 => ?_)
      · have h := h.1 c_13
        refine lv_aload_n hx hb dX7_derive_96 rfl (lv_at hl 0 rfl) ?_
        refine lv_iload_n hx hb dX7_derive_97 rfl (lv_at hl 3 rfl) ?_
        refine m_cVi (As := [.int p3]) (rest := []) ⟨hx, hb, hml, hown, hts⟩ (met_lays l D cI cB b p3  S _ h) (cwV 1 hts (lw_V q1693 q1695 qs101 q128 q1696) rfl rfl rfl cwd_lays ⟨Nat.le_of_ble_eq_true rfl, Nat.le_of_ble_eq_true rfl⟩) hK hP hS rfl hl.1 rfl (Nat.le_of_ble_eq_true rfl) dX7_derive_98 ⟨Nat.zero_le _, Nat.zero_le _⟩ (fun r_4 S_5 H locs h hP hS => ?_)
        exact W.iret (v := r_4) hx hb hr (fun t ht hW => ⟨⟨r_4, S_5, rfl, h, by rw [ht]; exact hP, va_K.moved hW.alike hK⟩, hS.F ht⟩) hS.2.2 dX7_derive_101
      · have h := h.2 c_13
        refine lv_iload hx hb dX7_derive_49 (lv_at hl 4 rfl) ?_
        refine lv_iload_n hx hb dX7_derive_51 rfl (lv_at hl 2 rfl) ?_
        refine m_cSp (As := [.int x4, .int p2]) (rest := []) ⟨hx, hb, hml, hown, hts⟩ (met_exponent l D cI cB b x4 p2  S _ h) (va_cwS 2 hts (lw_S q1545 q1546 q128 q1547) rfl rfl rfl cwd_exponent ⟨Nat.le_of_ble_eq_true rfl, Nat.le_of_ble_eq_true rfl⟩) hK hP hS rfl hl.1 rfl (Nat.le_of_ble_eq_true rfl) dX7_derive_52 ⟨Nat.zero_le _, Nat.zero_le _⟩ (fun r_6 H locs h hP hS => ?_)
        refine lv_istore (lv' := [(5, .int r_6), (0, .ref b), (1, .int p1), (2, .int p2), (3, .int p3), (4, .int x4)]) hx hb dX7_derive_55 hl (by decide) rfl (fun ls hl => ?_)
        refine lv_iload hx hb dX7_derive_57 (lv_at hl 0 rfl) ?_
        refine lv_if_le (tgt := 90) hx hb dX7_derive_59 (by decide) (fun c_12 => ?_) (fun c_12 => ?_)
        · have h := h.1 c_12
          exact J90 _ _ _ _ _ h hP hS (lv_sub hl [1, 2, 3, 4, 5] rfl)
        · have h := h.2 c_12
          refine lv_aload_n hx hb dX7_derive_62 rfl (lv_at hl 1 rfl) ?_
          refine m_get (v := .ref (b + 6)) hx hb hts hown hK hP 28 (by decide) q1238 rfl rfl dX7_derive_63 ?_
          refine lv_iload hx hb dX7_derive_66 (lv_at hl 5 rfl) ?_
          refine lv_iconst (v := 1) hx hb dX7_derive_68 (by decide) ?_
          refine lv_iconst (v := 4) hx hb dX7_derive_69 (by decide) ?_
          refine lv_iload_n hx hb dX7_derive_70 rfl (lv_at hl 3 rfl) ?_
          refine lv_imul hx hb dX7_derive_71 ?_
          refine m_ishl hx hb dX7_derive_72 ?_
          refine lv_isub hx hb dX7_derive_73 ?_
          refine lv_aload_n hx hb dX7_derive_74 rfl (lv_at hl 1 rfl) ?_
          refine lv_iload_n hx hb dX7_derive_75 rfl (lv_at hl 2 rfl) ?_
          refine lv_iload hx hb dX7_derive_76 (lv_at hl 5 rfl) ?_
          refine m_cVp (As := [.int p1, .int x4]) (rest := [.int (x4 - (jshl 1 (4 * p2))), .ref (b + 6)]) ⟨hx, hb, hml, hown, hts⟩ (met_coef l D cI cB b p1 x4  S _ h) (cwV 2 hts (lw_V q1526 q1528 qs80 q128 q1529) rfl rfl rfl cwd_coef ⟨Nat.le_of_ble_eq_true rfl, Nat.le_of_ble_eq_true rfl⟩) hK hP hS rfl hl.1 rfl (Nat.le_of_ble_eq_true rfl) dX7_derive_78 ⟨Nat.zero_le _, Nat.zero_le _⟩ (fun r_8 H locs h hP hS => ?_)
          refine lv_iload hx hb dX7_derive_81 (lv_at hl 0 rfl) ?_
          refine lv_imul hx hb dX7_derive_83 ?_
          refine lv_aload_n hx hb dX7_derive_84 rfl (lv_at hl 1 rfl) ?_
          refine m_get (v := .int (S 0 5)) hx hb hts hown hK hP 5 (by decide) q1215 rfl rfl dX7_derive_85 ?_
          obtain ⟨hne, h⟩ := h
          refine m_irem hx hb dX7_derive_88 hne ?_
          obtain ⟨j_10, hj_10, ej_10, h⟩ := h
          obtain ⟨S_11, eS_11⟩ : ∃ z : St, z = bw S 6 j_10 (jrem (r_8 * r_6) (S 0 5)) := ⟨_, rfl⟩
          have h := h S_11 eS_11
          refine m_iast hx hb hK hP hS (k := 6) mok_6 ej_10 hj_10 dX7_derive_89 (fun H locs hP hS => ?_)
          rw [← eS_11] at hP
          exact J90 _ _ _ _ _ h hP hS (lv_sub hl [1, 2, 3, 4, 5] rfl)
  unfold wp_derive at h
  refine lv_aload_n hx hb dX7_derive_0 rfl (lv_at hl 0 rfl) ?_
  refine lv_iconst (v := 0) hx hb dX7_derive_1 (by decide) ?_
  obtain ⟨S_14, eS_14⟩ : ∃ z : St, z = bw S 0 0 0 := ⟨_, rfl⟩
  have h := h S_14 eS_14
  refine m_put (S1 := S_14) (v := .int 0) (ty := .int) hx hb hts hown hK hP hS 0 (by decide) q1210 rfl rfl (tyX7_ok 0 (by decide)) rfl rfl (by rw [eS_14]; exact mset_0 b S 0) (by rw [eS_14]; exact bw_0) dX7_derive_2 (fun H locs hP hS => ?_)
  refine lv_aload_n hx hb dX7_derive_5 rfl (lv_at hl 0 rfl) ?_
  refine lv_iload_n hx hb dX7_derive_6 rfl (lv_at hl 1 rfl) ?_
  refine m_cVp (As := [.int p1]) (rest := []) ⟨hx, hb, hml, hown, hts⟩ (met_isReg l D cI cB b p1  S_14 _ h) (cwV 1 hts (lw_V q1534 q1536 qs81 q128 q1537) rfl rfl rfl cwd_isReg ⟨Nat.le_of_ble_eq_true rfl, Nat.le_of_ble_eq_true rfl⟩) hK hP hS rfl hl.1 rfl (Nat.le_of_ble_eq_true rfl) dX7_derive_7 ⟨Nat.zero_le _, Nat.zero_le _⟩ (fun r_15 H locs h hP hS => ?_)
  refine lv_if_eq (tgt := 28) hx hb dX7_derive_10 (by decide) (fun c_25 => ?_) (fun c_25 => ?_)
  · have h := h.1 c_25
    exact J28  _ _ _ _ h hP hS (lv_sub hl [0] rfl)
  · have h := h.2 c_25
    refine lv_iload_n hx hb dX7_derive_13 rfl (lv_at hl 2 rfl) ?_
    refine m_cSp (As := [.int p2]) (rest := []) ⟨hx, hb, hml, hown, hts⟩ (met_isUnknown l D cI cB b p2  S_14 _ h) (va_cwS 1 hts (lw_S q1556 q1557 q128 q1558) rfl rfl rfl cwd_isUnknown ⟨Nat.le_of_ble_eq_true rfl, Nat.le_of_ble_eq_true rfl⟩) hK hP hS rfl hl.1 rfl (Nat.le_of_ble_eq_true rfl) dX7_derive_14 ⟨Nat.zero_le _, Nat.zero_le _⟩ (fun r_17 H locs h hP hS => ?_)
    refine lv_if_eq (tgt := 28) hx hb dX7_derive_17 (by decide) (fun c_24 => ?_) (fun c_24 => ?_)
    · have h := h.1 c_24
      exact J28  _ _ _ _ h hP hS (lv_sub hl [0] rfl)
    · have h := h.2 c_24
      refine lv_aload_n hx hb dX7_derive_20 rfl (lv_at hl 0 rfl) ?_
      refine lv_iload_n hx hb dX7_derive_21 rfl (lv_at hl 3 rfl) ?_
      refine m_cVp (As := [.int p3]) (rest := []) ⟨hx, hb, hml, hown, hts⟩ (met_isReg l D cI cB b p3  S_14 _ h) (cwV 1 hts (lw_V q1534 q1536 qs81 q128 q1537) rfl rfl rfl cwd_isReg ⟨Nat.le_of_ble_eq_true rfl, Nat.le_of_ble_eq_true rfl⟩) hK hP hS rfl hl.1 rfl (Nat.le_of_ble_eq_true rfl) dX7_derive_22 ⟨Nat.zero_le _, Nat.zero_le _⟩ (fun r_19 H locs h hP hS => ?_)
      refine lv_if_ne (tgt := 34) hx hb dX7_derive_25 (by decide) (fun c_23 => ?_) (fun c_23 => ?_)
      · have h := h.1 c_23
        refine lv_aload_n hx hb dX7_derive_34 rfl (lv_at hl 0 rfl) ?_
        refine m_cVv (As := []) (rest := []) ⟨hx, hb, hml, hown, hts⟩ (met_clears l D cI cB b   S_14 _ h) (cwV 0 hts (lw_V q1673 q1675 qs97 q128 q1676) rfl rfl rfl cwd_clears ⟨Nat.le_of_ble_eq_true rfl, Nat.le_of_ble_eq_true rfl⟩) hK hP hS rfl hl.1 rfl (Nat.le_of_ble_eq_true rfl) dX7_derive_35 ⟨Nat.zero_le _, Nat.zero_le _⟩ (fun S_22 H locs h hP hS => ?_)
        refine lv_iconst (v := 0) hx hb dX7_derive_38 (by decide) ?_
        refine lv_istore (lv' := [(4, .int 0), (0, .ref b), (1, .int p1), (2, .int p2), (3, .int p3)]) hx hb dX7_derive_39 hl (by decide) rfl (fun ls hl => ?_)
        exact L41 _ _ _ _ _ h hP hS (lv_sub hl [1, 2, 3, 4, 0] rfl)
      · have h := h.2 c_23
        exact J28  _ _ _ _ h hP hS (lv_sub hl [0] rfl)
def wp_put_j29 (p1 : Int32) (p2 : Int32) (p3 : Int32) (p4 : Int32) (post : Int32 → St → Prop)  (S : St) : Prop :=
    wp_refused 1 S (fun r_1 S_2 =>
    post r_1 S_2)
def wp_put_b56 (p1 : Int32) (p2 : Int32) (p3 : Int32) (p4 : Int32) (post : Int32 → St → Prop) (R56 : Int32 → St → Prop)  (x5 : Int32) (S : St) : Prop :=
      ((4096 ≤ x5 →
        wp_lays p4 S (fun r_3 S_4 =>
        post r_3 S_4)) ∧
       (¬ (4096 ≤ x5) →
        wp_exponent x5 p2 S (fun r_5 =>
        ∀ x7_7 : Int32, x7_7 = (x5 - (jshl r_5 (4 * p2))) →
        ∃ j_8 : Nat, j_8 < 4096 ∧ x7_7 = nI j_8 ∧
        wp_coef p1 x5 S (fun r_9 =>
        wp_power p3 r_5 S (fun r_11 =>
        ¬ (S 0 5) = 0 ∧
        ∃ j_13 : Nat, j_13 < 4096 ∧ x7_7 = nI j_13 ∧ ∀ S_14 : St, S_14 = bw S 6 j_13 (jrem ((S 6 j_8) + (r_9 * r_11)) (S 0 5)) →
        ∀ x5_15 : Int32, x5_15 = x5 + 1 →
        R56 x5_15 S_14)))))
def wp_put_l56 (p1 : Int32) (p2 : Int32) (p3 : Int32) (p4 : Int32) (post : Int32 → St → Prop)  (x5 : Int32) (S : St) : Prop := wLoop (fun (R : (Int32 × St) → Prop) (v : Int32 × St) => wp_put_b56 p1 p2 p3 p4 post (fun x5 S => R (x5, S))  v.1 v.2) (x5, S)
def wp_put (p1 : Int32) (p2 : Int32) (p3 : Int32) (p4 : Int32) (S : St) (post : Int32 → St → Prop) : Prop :=
  ∀ S_17 : St, S_17 = bw S 0 0 0 →
  wp_isReg p1 S_17 (fun r_18 =>
  ((r_18 = 0 →
    wp_put_j29 p1 p2 p3 p4 post  S_17) ∧
   (¬ (r_18 = 0) →
    wp_isUnknown p2 S_17 (fun r_20 =>
    ((r_20 = 0 →
      wp_put_j29 p1 p2 p3 p4 post  S_17) ∧
     (¬ (r_20 = 0) →
      wp_isReg p4 S_17 (fun r_22 =>
      ((¬ r_22 = 0 →
        wp_isValue p3 S_17 (fun r_24 =>
        ((¬ r_24 = 0 →
          wp_clears  S_17 (fun S_27 =>
          wp_put_l56 p1 p2 p3 p4 post 0 S_27)) ∧
         (r_24 = 0 →
          wp_refused 2 S_17 (fun r_28 S_29 =>
          post r_28 S_29))))) ∧
       (r_22 = 0 →
        wp_put_j29 p1 p2 p3 p4 post  S_17)))))))))
set_option maxHeartbeats 4000000 in
theorem met_put (l : Launch) (D : va_G) (cI cB : ClassId) (b : Nat) (p1 : Int32) (p2 : Int32) (p3 : Int32) (p4 : Int32)  (S : St) (post : Int32 → St → Prop) (h : wp_put p1 p2 p3 p4 S post) : Met l yX7_put (ws_ yX7_put cX7_put 8 (some .int)) ({ frames := 3, cells := 0, slots := 0, locals := 66 } : Room) (mPc D cI cB b [.ref b, .int p1, .int p2, .int p3, .int p4] S) (mQi D cI cB b post) 0 0 (mA b) := by
  refine Met.ofW (cc := cX7_put) (maxL := 8) (ret := (some .int)) (by decide) rfl ?_
  intro p e s m args below meth c s₁ B hml hv
  obtain ⟨rfl, hP, hK⟩ := hv
  have hx := B.exec
  have hb := B.bytes
  have hr := B.returns
  have hts := atoms_spec (ws := ws_ yX7_put cX7_put 8 (some .int)) B.pre
  have hts : ∀ w ∈ lw_all, w.before _ s = true := fun w h => hts w (List.mem_cons_of_mem _ h)
  have hown : s.vm.findClass RX7 = some m.cls := findClass_of_methodNamed B.named
  have hlocks := B.notSynchronized
  have hS : va_S (mA b) s.heap s.heap [] := va_S.rf
  have hl := lv_entry ([.ref b, .int p1, .int p2, .int p3, .int p4]) (n := 8) (Nat.le_of_ble_eq_true rfl)
  rw [lg_entry_eq]
  generalize (lg_sl ([.ref b, .int p1, .int p2, .int p3, .int p4]) ++ List.replicate (8 - (lg_sl ([.ref b, .int p1, .int p2, .int p3, .int p4])).length) Slot.unset).toArray = ls at hl ⊢
  have hl : lv_has ls 8 [(0, .ref b), (1, .int p1), (2, .int p2), (3, .int p3), (4, .int p4)] := hl
  have J29 : ∀  (S : St) (H : Heap) (locs : List Loc) (ls : Array Slot), wp_put_j29 p1 p2 p3 p4 post  S → mW D cI cB b S H → va_S (mA b) s.heap H locs → lv_has ls 8 [(0, .ref b)] → W p l e (headSpec (ws_ yX7_put cX7_put 8 (some .int)) ({ frames := 3, cells := 0, slots := 0, locals := 66 } : Room)).room s m ([.ref b, .int p1, .int p2, .int p3, .int p4] : List Value).toArray below meth c H locs 0 0 (MQ below (mQi D cI cB b post) ([.ref b, .int p1, .int p2, .int p3, .int p4] : List Value).toArray s 0 0 (mA b)) (F0 m 29 ls []) := by
    intro  S H locs ls h hP hS hl
    unfold wp_put_j29 at h
    refine lv_aload_n hx hb dX7_put_29 rfl (lv_at hl 0 rfl) ?_
    refine lv_iconst (v := 1) hx hb dX7_put_30 (by decide) ?_
    refine m_cVi (As := [.int 1]) (rest := []) ⟨hx, hb, hml, hown, hts⟩ (met_refused l D cI cB b 1  S _ h) (cwV 1 hts (lw_V q1382 q1384 qs58 q128 q1385) rfl rfl rfl cwd_refused ⟨Nat.le_of_ble_eq_true rfl, Nat.le_of_ble_eq_true rfl⟩) hK hP hS rfl hl.1 rfl (Nat.le_of_ble_eq_true rfl) dX7_put_31 ⟨Nat.zero_le _, Nat.zero_le _⟩ (fun r_1 S_2 H locs h hP hS => ?_)
    exact W.iret (v := r_1) hx hb hr (fun t ht hW => ⟨⟨r_1, S_2, rfl, h, by rw [ht]; exact hP, va_K.moved hW.alike hK⟩, hS.F ht⟩) hS.2.2 dX7_put_34
  have L56 : ∀  (x5 : Int32) (S : St) (H : Heap) (locs : List Loc) (ls : Array Slot), wp_put_l56 p1 p2 p3 p4 post  x5 S → mW D cI cB b S H → va_S (mA b) s.heap H locs → lv_has ls 8 [(0, .ref b), (1, .int p1), (2, .int p2), (3, .int p3), (4, .int p4), (5, .int x5)] → W p l e (headSpec (ws_ yX7_put cX7_put 8 (some .int)) ({ frames := 3, cells := 0, slots := 0, locals := 66 } : Room)).room s m ([.ref b, .int p1, .int p2, .int p3, .int p4] : List Value).toArray below meth c H locs 0 0 (MQ below (mQi D cI cB b post) ([.ref b, .int p1, .int p2, .int p3, .int p4] : List Value).toArray s 0 0 (mA b)) (F0 m 56 ls []) := by
    intro  x5 S H locs ls h hP hS hl
    obtain ⟨I56, n56, hI, hstep56⟩ := h
    induction n56 using Nat.strongRecOn generalizing x5 S H locs ls with
    | ind n56 ih56 =>
      have h : wp_put_b56 p1 p2 p3 p4 post (fun x5 S => ∃ mm, mm < n56 ∧ I56 mm (x5, S))  x5 S := hstep56 n56 _ hI
      clear hI
      unfold wp_put_b56 at h
      refine lv_iload hx hb dX7_put_56 (lv_at hl 5 rfl) ?_
      refine lv_sipush (v := 4096) hx hb dX7_put_58 (by decide) ?_
      refine lv_icmp_ge (tgt := 124) hx hb dX7_put_61 (by decide) (fun c_16 => ?_) (fun c_16 => ?_)
      · have h := h.1 c_16
        refine lv_aload_n hx hb dX7_put_124 rfl (lv_at hl 0 rfl) ?_
        refine lv_iload hx hb dX7_put_125 (lv_at hl 4 rfl) ?_
        refine m_cVi (As := [.int p4]) (rest := []) ⟨hx, hb, hml, hown, hts⟩ (met_lays l D cI cB b p4  S _ h) (cwV 1 hts (lw_V q1693 q1695 qs101 q128 q1696) rfl rfl rfl cwd_lays ⟨Nat.le_of_ble_eq_true rfl, Nat.le_of_ble_eq_true rfl⟩) hK hP hS rfl hl.1 rfl (Nat.le_of_ble_eq_true rfl) dX7_put_127 ⟨Nat.zero_le _, Nat.zero_le _⟩ (fun r_3 S_4 H locs h hP hS => ?_)
        exact W.iret (v := r_3) hx hb hr (fun t ht hW => ⟨⟨r_3, S_4, rfl, h, by rw [ht]; exact hP, va_K.moved hW.alike hK⟩, hS.F ht⟩) hS.2.2 dX7_put_130
      · have h := h.2 c_16
        refine lv_iload hx hb dX7_put_64 (lv_at hl 5 rfl) ?_
        refine lv_iload_n hx hb dX7_put_66 rfl (lv_at hl 2 rfl) ?_
        refine m_cSp (As := [.int x5, .int p2]) (rest := []) ⟨hx, hb, hml, hown, hts⟩ (met_exponent l D cI cB b x5 p2  S _ h) (va_cwS 2 hts (lw_S q1545 q1546 q128 q1547) rfl rfl rfl cwd_exponent ⟨Nat.le_of_ble_eq_true rfl, Nat.le_of_ble_eq_true rfl⟩) hK hP hS rfl hl.1 rfl (Nat.le_of_ble_eq_true rfl) dX7_put_67 ⟨Nat.zero_le _, Nat.zero_le _⟩ (fun r_5 H locs h hP hS => ?_)
        refine lv_istore (lv' := [(6, .int r_5), (0, .ref b), (1, .int p1), (2, .int p2), (3, .int p3), (4, .int p4), (5, .int x5)]) hx hb dX7_put_70 hl (by decide) rfl (fun ls hl => ?_)
        refine lv_iload hx hb dX7_put_72 (lv_at hl 6 rfl) ?_
        refine lv_iload hx hb dX7_put_74 (lv_at hl 0 rfl) ?_
        refine lv_iconst (v := 4) hx hb dX7_put_76 (by decide) ?_
        refine lv_iload_n hx hb dX7_put_77 rfl (lv_at hl 3 rfl) ?_
        refine lv_imul hx hb dX7_put_78 ?_
        refine m_ishl hx hb dX7_put_79 ?_
        refine lv_isub hx hb dX7_put_80 ?_
        refine lv_topi (fun x7_7 ex7_7 => ?_)
        have h := h x7_7 ex7_7
        refine lv_istore (lv' := [(7, .int x7_7), (6, .int r_5), (0, .ref b), (1, .int p1), (2, .int p2), (3, .int p3), (4, .int p4), (5, .int x5)]) hx hb dX7_put_81 hl (by decide) rfl (fun ls hl => ?_)
        refine lv_aload_n hx hb dX7_put_83 rfl (lv_at hl 2 rfl) ?_
        refine m_get (v := .ref (b + 6)) hx hb hts hown hK hP 28 (by decide) q1238 rfl rfl dX7_put_84 ?_
        refine lv_iload hx hb dX7_put_87 (lv_at hl 0 rfl) ?_
        refine lv_aload_n hx hb dX7_put_89 rfl (lv_at hl 2 rfl) ?_
        refine m_get (v := .ref (b + 6)) hx hb hts hown hK hP 28 (by decide) q1238 rfl rfl dX7_put_90 ?_
        refine lv_iload hx hb dX7_put_93 (lv_at hl 0 rfl) ?_
        obtain ⟨j_8, hj_8, ej_8, h⟩ := h
        refine m_iald hx hb hK hP (k := 6) mok_6 ej_8 hj_8 dX7_put_95 ?_
        refine lv_aload_n hx hb dX7_put_96 rfl (lv_at hl 2 rfl) ?_
        refine lv_iload_n hx hb dX7_put_97 rfl (lv_at hl 3 rfl) ?_
        refine lv_iload hx hb dX7_put_98 (lv_at hl 7 rfl) ?_
        refine m_cVp (As := [.int p1, .int x5]) (rest := [.int (S 6 j_8), .int x7_7, .ref (b + 6)]) ⟨hx, hb, hml, hown, hts⟩ (met_coef l D cI cB b p1 x5  S _ h) (cwV 2 hts (lw_V q1526 q1528 qs80 q128 q1529) rfl rfl rfl cwd_coef ⟨Nat.le_of_ble_eq_true rfl, Nat.le_of_ble_eq_true rfl⟩) hK hP hS rfl hl.1 rfl (Nat.le_of_ble_eq_true rfl) dX7_put_100 ⟨Nat.zero_le _, Nat.zero_le _⟩ (fun r_9 H locs h hP hS => ?_)
        refine lv_aload_n hx hb dX7_put_103 rfl (lv_at hl 2 rfl) ?_
        refine lv_iload_n hx hb dX7_put_104 rfl (lv_at hl 5 rfl) ?_
        refine lv_iload hx hb dX7_put_105 (lv_at hl 1 rfl) ?_
        refine m_cVp (As := [.int p3, .int r_5]) (rest := [.int r_9, .int (S 6 j_8), .int x7_7, .ref (b + 6)]) ⟨hx, hb, hml, hown, hts⟩ (met_power l D cI cB b p3 r_5  S _ h) (cwV 2 hts (lw_V q1589 q1591 qs86 q128 q1592) rfl rfl rfl cwd_power ⟨Nat.le_of_ble_eq_true rfl, Nat.le_of_ble_eq_true rfl⟩) hK hP hS rfl hl.1 rfl (Nat.le_of_ble_eq_true rfl) dX7_put_107 ⟨Nat.zero_le _, Nat.zero_le _⟩ (fun r_11 H locs h hP hS => ?_)
        refine lv_imul hx hb dX7_put_110 ?_
        refine lv_iadd hx hb dX7_put_111 ?_
        refine lv_aload_n hx hb dX7_put_112 rfl (lv_at hl 2 rfl) ?_
        refine m_get (v := .int (S 0 5)) hx hb hts hown hK hP 5 (by decide) q1215 rfl rfl dX7_put_113 ?_
        obtain ⟨hne, h⟩ := h
        refine m_irem hx hb dX7_put_116 hne ?_
        obtain ⟨j_13, hj_13, ej_13, h⟩ := h
        obtain ⟨S_14, eS_14⟩ : ∃ z : St, z = bw S 6 j_13 (jrem ((S 6 j_8) + (r_9 * r_11)) (S 0 5)) := ⟨_, rfl⟩
        have h := h S_14 eS_14
        refine m_iast hx hb hK hP hS (k := 6) mok_6 ej_13 hj_13 dX7_put_117 (fun H locs hP hS => ?_)
        rw [← eS_14] at hP
        obtain ⟨x5_15, ex5_15⟩ : ∃ y : Int32, y = x5 + 1 := ⟨_, rfl⟩
        have h := h x5_15 ex5_15
        refine lv_iinc (v := x5_15) (lv' := [(5, .int x5_15), (7, .int x7_7), (6, .int r_5), (0, .ref b), (1, .int p1), (2, .int p2), (3, .int p3), (4, .int p4)]) hx hb dX7_put_118 hl (k := 7) rfl (by rw [ex5_15]; rfl) (by decide) rfl (fun ls hl => ?_)
        refine lv_goto (tgt := 56) hx hb dX7_put_121 (by decide) ?_
        obtain ⟨mm, hmm, h⟩ := h
        exact ih56 mm hmm _ _ _ _ _ hP hS (lv_sub hl [3, 4, 5, 6, 7, 0] rfl) h
  unfold wp_put at h
  refine lv_aload_n hx hb dX7_put_0 rfl (lv_at hl 0 rfl) ?_
  refine lv_iconst (v := 0) hx hb dX7_put_1 (by decide) ?_
  obtain ⟨S_17, eS_17⟩ : ∃ z : St, z = bw S 0 0 0 := ⟨_, rfl⟩
  have h := h S_17 eS_17
  refine m_put (S1 := S_17) (v := .int 0) (ty := .int) hx hb hts hown hK hP hS 0 (by decide) q1210 rfl rfl (tyX7_ok 0 (by decide)) rfl rfl (by rw [eS_17]; exact mset_0 b S 0) (by rw [eS_17]; exact bw_0) dX7_put_2 (fun H locs hP hS => ?_)
  refine lv_aload_n hx hb dX7_put_5 rfl (lv_at hl 0 rfl) ?_
  refine lv_iload_n hx hb dX7_put_6 rfl (lv_at hl 1 rfl) ?_
  refine m_cVp (As := [.int p1]) (rest := []) ⟨hx, hb, hml, hown, hts⟩ (met_isReg l D cI cB b p1  S_17 _ h) (cwV 1 hts (lw_V q1534 q1536 qs81 q128 q1537) rfl rfl rfl cwd_isReg ⟨Nat.le_of_ble_eq_true rfl, Nat.le_of_ble_eq_true rfl⟩) hK hP hS rfl hl.1 rfl (Nat.le_of_ble_eq_true rfl) dX7_put_7 ⟨Nat.zero_le _, Nat.zero_le _⟩ (fun r_18 H locs h hP hS => ?_)
  refine lv_if_eq (tgt := 29) hx hb dX7_put_10 (by decide) (fun c_33 => ?_) (fun c_33 => ?_)
  · have h := h.1 c_33
    exact J29  _ _ _ _ h hP hS (lv_sub hl [0] rfl)
  · have h := h.2 c_33
    refine lv_iload_n hx hb dX7_put_13 rfl (lv_at hl 2 rfl) ?_
    refine m_cSp (As := [.int p2]) (rest := []) ⟨hx, hb, hml, hown, hts⟩ (met_isUnknown l D cI cB b p2  S_17 _ h) (va_cwS 1 hts (lw_S q1556 q1557 q128 q1558) rfl rfl rfl cwd_isUnknown ⟨Nat.le_of_ble_eq_true rfl, Nat.le_of_ble_eq_true rfl⟩) hK hP hS rfl hl.1 rfl (Nat.le_of_ble_eq_true rfl) dX7_put_14 ⟨Nat.zero_le _, Nat.zero_le _⟩ (fun r_20 H locs h hP hS => ?_)
    refine lv_if_eq (tgt := 29) hx hb dX7_put_17 (by decide) (fun c_32 => ?_) (fun c_32 => ?_)
    · have h := h.1 c_32
      exact J29  _ _ _ _ h hP hS (lv_sub hl [0] rfl)
    · have h := h.2 c_32
      refine lv_aload_n hx hb dX7_put_20 rfl (lv_at hl 0 rfl) ?_
      refine lv_iload hx hb dX7_put_21 (lv_at hl 4 rfl) ?_
      refine m_cVp (As := [.int p4]) (rest := []) ⟨hx, hb, hml, hown, hts⟩ (met_isReg l D cI cB b p4  S_17 _ h) (cwV 1 hts (lw_V q1534 q1536 qs81 q128 q1537) rfl rfl rfl cwd_isReg ⟨Nat.le_of_ble_eq_true rfl, Nat.le_of_ble_eq_true rfl⟩) hK hP hS rfl hl.1 rfl (Nat.le_of_ble_eq_true rfl) dX7_put_23 ⟨Nat.zero_le _, Nat.zero_le _⟩ (fun r_22 H locs h hP hS => ?_)
      refine lv_if_ne (tgt := 35) hx hb dX7_put_26 (by decide) (fun c_31 => ?_) (fun c_31 => ?_)
      · have h := h.1 c_31
        refine lv_aload_n hx hb dX7_put_35 rfl (lv_at hl 0 rfl) ?_
        refine lv_iload_n hx hb dX7_put_36 rfl (lv_at hl 3 rfl) ?_
        refine m_cVp (As := [.int p3]) (rest := []) ⟨hx, hb, hml, hown, hts⟩ (met_isValue l D cI cB b p3  S_17 _ h) (cwV 1 hts (lw_V q1577 q1579 qs83 q128 q1580) rfl rfl rfl cwd_isValue ⟨Nat.le_of_ble_eq_true rfl, Nat.le_of_ble_eq_true rfl⟩) hK hP hS rfl hl.1 rfl (Nat.le_of_ble_eq_true rfl) dX7_put_37 ⟨Nat.zero_le _, Nat.zero_le _⟩ (fun r_24 H locs h hP hS => ?_)
        refine lv_if_ne (tgt := 49) hx hb dX7_put_40 (by decide) (fun c_30 => ?_) (fun c_30 => ?_)
        · have h := h.1 c_30
          refine lv_aload_n hx hb dX7_put_49 rfl (lv_at hl 0 rfl) ?_
          refine m_cVv (As := []) (rest := []) ⟨hx, hb, hml, hown, hts⟩ (met_clears l D cI cB b   S_17 _ h) (cwV 0 hts (lw_V q1673 q1675 qs97 q128 q1676) rfl rfl rfl cwd_clears ⟨Nat.le_of_ble_eq_true rfl, Nat.le_of_ble_eq_true rfl⟩) hK hP hS rfl hl.1 rfl (Nat.le_of_ble_eq_true rfl) dX7_put_50 ⟨Nat.zero_le _, Nat.zero_le _⟩ (fun S_27 H locs h hP hS => ?_)
          refine lv_iconst (v := 0) hx hb dX7_put_53 (by decide) ?_
          refine lv_istore (lv' := [(5, .int 0), (0, .ref b), (1, .int p1), (2, .int p2), (3, .int p3), (4, .int p4)]) hx hb dX7_put_54 hl (by decide) rfl (fun ls hl => ?_)
          exact L56 _ _ _ _ _ h hP hS (lv_sub hl [1, 2, 3, 4, 5, 0] rfl)
        · have h := h.2 c_30
          refine lv_aload_n hx hb dX7_put_43 rfl (lv_at hl 0 rfl) ?_
          refine lv_iconst (v := 2) hx hb dX7_put_44 (by decide) ?_
          refine m_cVi (As := [.int 2]) (rest := []) ⟨hx, hb, hml, hown, hts⟩ (met_refused l D cI cB b 2  S_17 _ h) (cwV 1 hts (lw_V q1382 q1384 qs58 q128 q1385) rfl rfl rfl cwd_refused ⟨Nat.le_of_ble_eq_true rfl, Nat.le_of_ble_eq_true rfl⟩) hK hP hS rfl hl.1 rfl (Nat.le_of_ble_eq_true rfl) dX7_put_45 ⟨Nat.zero_le _, Nat.zero_le _⟩ (fun r_28 S_29 H locs h hP hS => ?_)
          exact W.iret (v := r_28) hx hb hr (fun t ht hW => ⟨⟨r_28, S_29, rfl, h, by rw [ht]; exact hP, va_K.moved hW.alike hK⟩, hS.F ht⟩) hS.2.2 dX7_put_48
      · have h := h.2 c_31
        exact J29  _ _ _ _ h hP hS (lv_sub hl [0] rfl)
def wp_swap_j36 (p1 : Int32) (p2 : Int32) (p3 : Int32) (p4 : Int32) (post : Int32 → St → Prop)  (S : St) : Prop :=
    wp_refused 1 S (fun r_1 S_2 =>
    post r_1 S_2)
def wp_swap_j106 (p1 : Int32) (p2 : Int32) (p3 : Int32) (p4 : Int32) (post : Int32 → St → Prop) (R49 : Int32 → St → Prop) (R63 : Int32 → Int32 → Prop) (x5 : Int32) (x6 : Int32) (x7 : Int32) (S : St) : Prop :=
            ∀ x7_3 : Int32, x7_3 = x7 + 1 →
            R63 x6 x7_3
def wp_swap_b63 (p1 : Int32) (p2 : Int32) (p3 : Int32) (p4 : Int32) (post : Int32 → St → Prop) (R49 : Int32 → St → Prop) (R63 : Int32 → Int32 → Prop) (x5 : Int32) (x6 : Int32) (x7 : Int32) (S : St) : Prop :=
          ((3 ≤ x7 →
            wp_coef p1 x5 S (fun r_4 =>
            ∃ j_6 : Nat, j_6 < 4096 ∧ x6 = nI j_6 ∧ ∀ S_7 : St, S_7 = bw S 6 j_6 r_4 →
            ∀ x5_8 : Int32, x5_8 = x5 + 1 →
            R49 x5_8 S_7)) ∧
           (¬ (3 ≤ x7) →
            ((¬ x7 = p2 →
              ((¬ x7 = p3 →
                wp_exponent x5 x7 S (fun r_9 =>
                ∀ x6_11 : Int32, x6_11 = (x6 ||| (jshl r_9 (4 * x7))) →
                wp_swap_j106 p1 p2 p3 p4 post R49 R63 x5 x6_11 x7 S)) ∧
               (x7 = p3 →
                wp_exponent x5 p2 S (fun r_12 =>
                ∀ x6_14 : Int32, x6_14 = (x6 ||| (jshl r_12 (4 * x7))) →
                wp_swap_j106 p1 p2 p3 p4 post R49 R63 x5 x6_14 x7 S)))) ∧
             (x7 = p2 →
              wp_exponent x5 p3 S (fun r_16 =>
              ∀ x6_18 : Int32, x6_18 = (x6 ||| (jshl r_16 (4 * x7))) →
              wp_swap_j106 p1 p2 p3 p4 post R49 R63 x5 x6_18 x7 S)))))
def wp_swap_l63 (p1 : Int32) (p2 : Int32) (p3 : Int32) (p4 : Int32) (post : Int32 → St → Prop) (R49 : Int32 → St → Prop) (x5 : Int32) (x6 : Int32) (x7 : Int32) (S : St) : Prop := wLoop (fun (R : (Int32 × Int32) → Prop) (v : Int32 × Int32) => wp_swap_b63 p1 p2 p3 p4 post R49 (fun x6 x7 => R (x6, x7)) x5 v.1 v.2 S) (x6, x7)
def wp_swap_b49 (p1 : Int32) (p2 : Int32) (p3 : Int32) (p4 : Int32) (post : Int32 → St → Prop) (R49 : Int32 → St → Prop)  (x5 : Int32) (S : St) : Prop :=
      ((4096 ≤ x5 →
        wp_lays p4 S (fun r_21 S_22 =>
        post r_21 S_22)) ∧
       (¬ (4096 ≤ x5) →
        wp_swap_l63 p1 p2 p3 p4 post R49 x5 0 0 S))
def wp_swap_l49 (p1 : Int32) (p2 : Int32) (p3 : Int32) (p4 : Int32) (post : Int32 → St → Prop)  (x5 : Int32) (S : St) : Prop := wLoop (fun (R : (Int32 × St) → Prop) (v : Int32 × St) => wp_swap_b49 p1 p2 p3 p4 post (fun x5 S => R (x5, S))  v.1 v.2) (x5, S)
def wp_swap (p1 : Int32) (p2 : Int32) (p3 : Int32) (p4 : Int32) (S : St) (post : Int32 → St → Prop) : Prop :=
  ∀ S_24 : St, S_24 = bw S 0 0 0 →
  wp_isReg p1 S_24 (fun r_25 =>
  ((r_25 = 0 →
    wp_swap_j36 p1 p2 p3 p4 post  S_24) ∧
   (¬ (r_25 = 0) →
    wp_isUnknown p2 S_24 (fun r_27 =>
    ((r_27 = 0 →
      wp_swap_j36 p1 p2 p3 p4 post  S_24) ∧
     (¬ (r_27 = 0) →
      wp_isUnknown p3 S_24 (fun r_29 =>
      ((r_29 = 0 →
        wp_swap_j36 p1 p2 p3 p4 post  S_24) ∧
       (¬ (r_29 = 0) →
        wp_isReg p4 S_24 (fun r_31 =>
        ((¬ r_31 = 0 →
          wp_clears  S_24 (fun S_34 =>
          wp_swap_l49 p1 p2 p3 p4 post 0 S_34)) ∧
         (r_31 = 0 →
          wp_swap_j36 p1 p2 p3 p4 post  S_24))))))))))))
set_option maxHeartbeats 4000000 in
theorem met_swap (l : Launch) (D : va_G) (cI cB : ClassId) (b : Nat) (p1 : Int32) (p2 : Int32) (p3 : Int32) (p4 : Int32)  (S : St) (post : Int32 → St → Prop) (h : wp_swap p1 p2 p3 p4 S post) : Met l yX7_swap (ws_ yX7_swap cX7_swap 8 (some .int)) ({ frames := 3, cells := 0, slots := 0, locals := 66 } : Room) (mPc D cI cB b [.ref b, .int p1, .int p2, .int p3, .int p4] S) (mQi D cI cB b post) 0 0 (mA b) := by
  refine Met.ofW (cc := cX7_swap) (maxL := 8) (ret := (some .int)) (by decide) rfl ?_
  intro p e s m args below meth c s₁ B hml hv
  obtain ⟨rfl, hP, hK⟩ := hv
  have hx := B.exec
  have hb := B.bytes
  have hr := B.returns
  have hts := atoms_spec (ws := ws_ yX7_swap cX7_swap 8 (some .int)) B.pre
  have hts : ∀ w ∈ lw_all, w.before _ s = true := fun w h => hts w (List.mem_cons_of_mem _ h)
  have hown : s.vm.findClass RX7 = some m.cls := findClass_of_methodNamed B.named
  have hlocks := B.notSynchronized
  have hS : va_S (mA b) s.heap s.heap [] := va_S.rf
  have hl := lv_entry ([.ref b, .int p1, .int p2, .int p3, .int p4]) (n := 8) (Nat.le_of_ble_eq_true rfl)
  rw [lg_entry_eq]
  generalize (lg_sl ([.ref b, .int p1, .int p2, .int p3, .int p4]) ++ List.replicate (8 - (lg_sl ([.ref b, .int p1, .int p2, .int p3, .int p4])).length) Slot.unset).toArray = ls at hl ⊢
  have hl : lv_has ls 8 [(0, .ref b), (1, .int p1), (2, .int p2), (3, .int p3), (4, .int p4)] := hl
  have J36 : ∀  (S : St) (H : Heap) (locs : List Loc) (ls : Array Slot), wp_swap_j36 p1 p2 p3 p4 post  S → mW D cI cB b S H → va_S (mA b) s.heap H locs → lv_has ls 8 [(0, .ref b)] → W p l e (headSpec (ws_ yX7_swap cX7_swap 8 (some .int)) ({ frames := 3, cells := 0, slots := 0, locals := 66 } : Room)).room s m ([.ref b, .int p1, .int p2, .int p3, .int p4] : List Value).toArray below meth c H locs 0 0 (MQ below (mQi D cI cB b post) ([.ref b, .int p1, .int p2, .int p3, .int p4] : List Value).toArray s 0 0 (mA b)) (F0 m 36 ls []) := by
    intro  S H locs ls h hP hS hl
    unfold wp_swap_j36 at h
    refine lv_aload_n hx hb dX7_swap_36 rfl (lv_at hl 0 rfl) ?_
    refine lv_iconst (v := 1) hx hb dX7_swap_37 (by decide) ?_
    refine m_cVi (As := [.int 1]) (rest := []) ⟨hx, hb, hml, hown, hts⟩ (met_refused l D cI cB b 1  S _ h) (cwV 1 hts (lw_V q1382 q1384 qs58 q128 q1385) rfl rfl rfl cwd_refused ⟨Nat.le_of_ble_eq_true rfl, Nat.le_of_ble_eq_true rfl⟩) hK hP hS rfl hl.1 rfl (Nat.le_of_ble_eq_true rfl) dX7_swap_38 ⟨Nat.zero_le _, Nat.zero_le _⟩ (fun r_1 S_2 H locs h hP hS => ?_)
    exact W.iret (v := r_1) hx hb hr (fun t ht hW => ⟨⟨r_1, S_2, rfl, h, by rw [ht]; exact hP, va_K.moved hW.alike hK⟩, hS.F ht⟩) hS.2.2 dX7_swap_41
  have L49 : ∀  (x5 : Int32) (S : St) (H : Heap) (locs : List Loc) (ls : Array Slot), wp_swap_l49 p1 p2 p3 p4 post  x5 S → mW D cI cB b S H → va_S (mA b) s.heap H locs → lv_has ls 8 [(0, .ref b), (1, .int p1), (2, .int p2), (3, .int p3), (4, .int p4), (5, .int x5)] → W p l e (headSpec (ws_ yX7_swap cX7_swap 8 (some .int)) ({ frames := 3, cells := 0, slots := 0, locals := 66 } : Room)).room s m ([.ref b, .int p1, .int p2, .int p3, .int p4] : List Value).toArray below meth c H locs 0 0 (MQ below (mQi D cI cB b post) ([.ref b, .int p1, .int p2, .int p3, .int p4] : List Value).toArray s 0 0 (mA b)) (F0 m 49 ls []) := by
    intro  x5 S H locs ls h hP hS hl
    obtain ⟨I49, n49, hI, hstep49⟩ := h
    induction n49 using Nat.strongRecOn generalizing x5 S H locs ls with
    | ind n49 ih49 =>
      have h : wp_swap_b49 p1 p2 p3 p4 post (fun x5 S => ∃ mm, mm < n49 ∧ I49 mm (x5, S))  x5 S := hstep49 n49 _ hI
      clear hI
      have L63 : ∀ (x5 : Int32) (x6 : Int32) (x7 : Int32) (S : St) (H : Heap) (locs : List Loc) (ls : Array Slot), wp_swap_l63 p1 p2 p3 p4 post (fun x5 S => ∃ mm, mm < n49 ∧ I49 mm (x5, S)) x5 x6 x7 S → mW D cI cB b S H → va_S (mA b) s.heap H locs → lv_has ls 8 [(0, .ref b), (1, .int p1), (2, .int p2), (3, .int p3), (4, .int p4), (5, .int x5), (6, .int x6), (7, .int x7)] → W p l e (headSpec (ws_ yX7_swap cX7_swap 8 (some .int)) ({ frames := 3, cells := 0, slots := 0, locals := 66 } : Room)).room s m ([.ref b, .int p1, .int p2, .int p3, .int p4] : List Value).toArray below meth c H locs 0 0 (MQ below (mQi D cI cB b post) ([.ref b, .int p1, .int p2, .int p3, .int p4] : List Value).toArray s 0 0 (mA b)) (F0 m 63 ls []) := by
        intro x5 x6 x7 S H locs ls h hP hS hl
        obtain ⟨I63, n63, hI, hstep63⟩ := h
        induction n63 using Nat.strongRecOn generalizing x6 x7 H locs ls with
        | ind n63 ih63 =>
          have h : wp_swap_b63 p1 p2 p3 p4 post (fun x5 S => ∃ mm, mm < n49 ∧ I49 mm (x5, S)) (fun x6 x7 => ∃ mm, mm < n63 ∧ I63 mm (x6, x7)) x5 x6 x7 S := hstep63 n63 _ hI
          clear hI
          have J106 : ∀ (x6 : Int32) (x7 : Int32) (H : Heap) (locs : List Loc) (ls : Array Slot), wp_swap_j106 p1 p2 p3 p4 post (fun x5 S => ∃ mm, mm < n49 ∧ I49 mm (x5, S)) (fun x6 x7 => ∃ mm, mm < n63 ∧ I63 mm (x6, x7)) x5 x6 x7 S → mW D cI cB b S H → va_S (mA b) s.heap H locs → lv_has ls 8 [(0, .ref b), (1, .int p1), (2, .int p2), (3, .int p3), (4, .int p4), (5, .int x5), (6, .int x6), (7, .int x7)] → W p l e (headSpec (ws_ yX7_swap cX7_swap 8 (some .int)) ({ frames := 3, cells := 0, slots := 0, locals := 66 } : Room)).room s m ([.ref b, .int p1, .int p2, .int p3, .int p4] : List Value).toArray below meth c H locs 0 0 (MQ below (mQi D cI cB b post) ([.ref b, .int p1, .int p2, .int p3, .int p4] : List Value).toArray s 0 0 (mA b)) (F0 m 106 ls []) := by
            intro x6 x7  H locs ls h hP hS hl
            unfold wp_swap_j106 at h
            obtain ⟨x7_3, ex7_3⟩ : ∃ y : Int32, y = x7 + 1 := ⟨_, rfl⟩
            have h := h x7_3 ex7_3
            refine lv_iinc (v := x7_3) (lv' := [(7, .int x7_3), (0, .ref b), (1, .int p1), (2, .int p2), (3, .int p3), (4, .int p4), (5, .int x5), (6, .int x6)]) hx hb dX7_swap_106 hl (k := 7) rfl (by rw [ex7_3]; rfl) (by decide) rfl (fun ls hl => ?_)
            refine lv_goto (tgt := 63) hx hb dX7_swap_109 (by decide) ?_
            obtain ⟨mm, hmm, h⟩ := h
            exact ih63 mm hmm _ _ _ _ _ hP hS (lv_sub hl [1, 2, 3, 4, 5, 6, 7, 0] rfl) h
          unfold wp_swap_b63 at h
          refine lv_iload hx hb dX7_swap_63 (lv_at hl 7 rfl) ?_
          refine lv_iconst (v := 3) hx hb dX7_swap_65 (by decide) ?_
          refine lv_icmp_ge (tgt := 112) hx hb dX7_swap_66 (by decide) (fun c_20 => ?_) (fun c_20 => ?_)
          · have h := h.1 c_20
            refine lv_aload_n hx hb dX7_swap_112 rfl (lv_at hl 0 rfl) ?_
            refine m_get (v := .ref (b + 6)) hx hb hts hown hK hP 28 (by decide) q1238 rfl rfl dX7_swap_113 ?_
            refine lv_iload hx hb dX7_swap_116 (lv_at hl 6 rfl) ?_
            refine lv_aload_n hx hb dX7_swap_118 rfl (lv_at hl 0 rfl) ?_
            refine lv_iload_n hx hb dX7_swap_119 rfl (lv_at hl 1 rfl) ?_
            refine lv_iload hx hb dX7_swap_120 (lv_at hl 5 rfl) ?_
            refine m_cVp (As := [.int p1, .int x5]) (rest := [.int x6, .ref (b + 6)]) ⟨hx, hb, hml, hown, hts⟩ (met_coef l D cI cB b p1 x5  S _ h) (cwV 2 hts (lw_V q1526 q1528 qs80 q128 q1529) rfl rfl rfl cwd_coef ⟨Nat.le_of_ble_eq_true rfl, Nat.le_of_ble_eq_true rfl⟩) hK hP hS rfl hl.1 rfl (Nat.le_of_ble_eq_true rfl) dX7_swap_122 ⟨Nat.zero_le _, Nat.zero_le _⟩ (fun r_4 H locs h hP hS => ?_)
            obtain ⟨j_6, hj_6, ej_6, h⟩ := h
            obtain ⟨S_7, eS_7⟩ : ∃ z : St, z = bw S 6 j_6 r_4 := ⟨_, rfl⟩
            have h := h S_7 eS_7
            refine m_iast hx hb hK hP hS (k := 6) mok_6 ej_6 hj_6 dX7_swap_125 (fun H locs hP hS => ?_)
            rw [← eS_7] at hP
            obtain ⟨x5_8, ex5_8⟩ : ∃ y : Int32, y = x5 + 1 := ⟨_, rfl⟩
            have h := h x5_8 ex5_8
            refine lv_iinc (v := x5_8) (lv' := [(5, .int x5_8), (0, .ref b), (1, .int p1), (2, .int p2), (3, .int p3), (4, .int p4), (6, .int x6), (7, .int x7)]) hx hb dX7_swap_126 hl (k := 5) rfl (by rw [ex5_8]; rfl) (by decide) rfl (fun ls hl => ?_)
            refine lv_goto (tgt := 49) hx hb dX7_swap_129 (by decide) ?_
            obtain ⟨mm, hmm, h⟩ := h
            exact ih49 mm hmm _ _ _ _ _ hP hS (lv_sub hl [1, 2, 3, 4, 5, 0] rfl) h
          · have h := h.2 c_20
            refine lv_iload hx hb dX7_swap_69 (lv_at hl 6 rfl) ?_
            refine lv_iload hx hb dX7_swap_71 (lv_at hl 5 rfl) ?_
            refine lv_iload hx hb dX7_swap_73 (lv_at hl 7 rfl) ?_
            refine lv_iload_n hx hb dX7_swap_75 rfl (lv_at hl 2 rfl) ?_
            refine lv_icmp_ne (tgt := 83) hx hb dX7_swap_76 (by decide) (fun c_19 => ?_) (fun c_19 => ?_)
            · have h := h.1 c_19
              refine lv_iload hx hb dX7_swap_83 (lv_at hl 7 rfl) ?_
              refine lv_iload_n hx hb dX7_swap_85 rfl (lv_at hl 3 rfl) ?_
              refine lv_icmp_ne (tgt := 93) hx hb dX7_swap_86 (by decide) (fun c_15 => ?_) (fun c_15 => ?_)
              · have h := h.1 c_15
                refine lv_iload hx hb dX7_swap_93 (lv_at hl 7 rfl) ?_
                refine m_cSp (As := [.int x5, .int x7]) (rest := [.int x6]) ⟨hx, hb, hml, hown, hts⟩ (met_exponent l D cI cB b x5 x7  S _ h) (va_cwS 2 hts (lw_S q1545 q1546 q128 q1547) rfl rfl rfl cwd_exponent ⟨Nat.le_of_ble_eq_true rfl, Nat.le_of_ble_eq_true rfl⟩) hK hP hS rfl hl.1 rfl (Nat.le_of_ble_eq_true rfl) dX7_swap_95 ⟨Nat.zero_le _, Nat.zero_le _⟩ (fun r_9 H locs h hP hS => ?_)
                refine lv_iconst (v := 4) hx hb dX7_swap_98 (by decide) ?_
                refine lv_iload hx hb dX7_swap_99 (lv_at hl 7 rfl) ?_
                refine lv_imul hx hb dX7_swap_101 ?_
                refine m_ishl hx hb dX7_swap_102 ?_
                refine lv_ior hx hb dX7_swap_103 ?_
                refine lv_topi (fun x6_11 ex6_11 => ?_)
                have h := h x6_11 ex6_11
                refine lv_istore (lv' := [(6, .int x6_11), (0, .ref b), (1, .int p1), (2, .int p2), (3, .int p3), (4, .int p4), (5, .int x5), (7, .int x7)]) hx hb dX7_swap_104 hl (by decide) rfl (fun ls hl => ?_)
                exact J106 _ _  _ _ _ h hP hS (lv_sub hl [1, 2, 3, 4, 5, 6, 0, 7] rfl)
              · have h := h.2 c_15
                refine lv_iload_n hx hb dX7_swap_89 rfl (lv_at hl 2 rfl) ?_
                refine lv_goto (tgt := 95) hx hb dX7_swap_90 (by decide) ?_
                refine m_cSp (As := [.int x5, .int p2]) (rest := [.int x6]) ⟨hx, hb, hml, hown, hts⟩ (met_exponent l D cI cB b x5 p2  S _ h) (va_cwS 2 hts (lw_S q1545 q1546 q128 q1547) rfl rfl rfl cwd_exponent ⟨Nat.le_of_ble_eq_true rfl, Nat.le_of_ble_eq_true rfl⟩) hK hP hS rfl hl.1 rfl (Nat.le_of_ble_eq_true rfl) dX7_swap_95 ⟨Nat.zero_le _, Nat.zero_le _⟩ (fun r_12 H locs h hP hS => ?_)
                refine lv_iconst (v := 4) hx hb dX7_swap_98 (by decide) ?_
                refine lv_iload hx hb dX7_swap_99 (lv_at hl 7 rfl) ?_
                refine lv_imul hx hb dX7_swap_101 ?_
                refine m_ishl hx hb dX7_swap_102 ?_
                refine lv_ior hx hb dX7_swap_103 ?_
                refine lv_topi (fun x6_14 ex6_14 => ?_)
                have h := h x6_14 ex6_14
                refine lv_istore (lv' := [(6, .int x6_14), (0, .ref b), (1, .int p1), (2, .int p2), (3, .int p3), (4, .int p4), (5, .int x5), (7, .int x7)]) hx hb dX7_swap_104 hl (by decide) rfl (fun ls hl => ?_)
                exact J106 _ _  _ _ _ h hP hS (lv_sub hl [1, 2, 3, 4, 5, 6, 0, 7] rfl)
            · have h := h.2 c_19
              refine lv_iload_n hx hb dX7_swap_79 rfl (lv_at hl 3 rfl) ?_
              refine lv_goto (tgt := 95) hx hb dX7_swap_80 (by decide) ?_
              refine m_cSp (As := [.int x5, .int p3]) (rest := [.int x6]) ⟨hx, hb, hml, hown, hts⟩ (met_exponent l D cI cB b x5 p3  S _ h) (va_cwS 2 hts (lw_S q1545 q1546 q128 q1547) rfl rfl rfl cwd_exponent ⟨Nat.le_of_ble_eq_true rfl, Nat.le_of_ble_eq_true rfl⟩) hK hP hS rfl hl.1 rfl (Nat.le_of_ble_eq_true rfl) dX7_swap_95 ⟨Nat.zero_le _, Nat.zero_le _⟩ (fun r_16 H locs h hP hS => ?_)
              refine lv_iconst (v := 4) hx hb dX7_swap_98 (by decide) ?_
              refine lv_iload hx hb dX7_swap_99 (lv_at hl 7 rfl) ?_
              refine lv_imul hx hb dX7_swap_101 ?_
              refine m_ishl hx hb dX7_swap_102 ?_
              refine lv_ior hx hb dX7_swap_103 ?_
              refine lv_topi (fun x6_18 ex6_18 => ?_)
              have h := h x6_18 ex6_18
              refine lv_istore (lv' := [(6, .int x6_18), (0, .ref b), (1, .int p1), (2, .int p2), (3, .int p3), (4, .int p4), (5, .int x5), (7, .int x7)]) hx hb dX7_swap_104 hl (by decide) rfl (fun ls hl => ?_)
              exact J106 _ _  _ _ _ h hP hS (lv_sub hl [1, 2, 3, 4, 5, 6, 0, 7] rfl)
      unfold wp_swap_b49 at h
      refine lv_iload hx hb dX7_swap_49 (lv_at hl 5 rfl) ?_
      refine lv_sipush (v := 4096) hx hb dX7_swap_51 (by decide) ?_
      refine lv_icmp_ge (tgt := 132) hx hb dX7_swap_54 (by decide) (fun c_23 => ?_) (fun c_23 => ?_)
      · have h := h.1 c_23
        refine lv_aload_n hx hb dX7_swap_132 rfl (lv_at hl 0 rfl) ?_
        refine lv_iload hx hb dX7_swap_133 (lv_at hl 4 rfl) ?_
        refine m_cVi (As := [.int p4]) (rest := []) ⟨hx, hb, hml, hown, hts⟩ (met_lays l D cI cB b p4  S _ h) (cwV 1 hts (lw_V q1693 q1695 qs101 q128 q1696) rfl rfl rfl cwd_lays ⟨Nat.le_of_ble_eq_true rfl, Nat.le_of_ble_eq_true rfl⟩) hK hP hS rfl hl.1 rfl (Nat.le_of_ble_eq_true rfl) dX7_swap_135 ⟨Nat.zero_le _, Nat.zero_le _⟩ (fun r_21 S_22 H locs h hP hS => ?_)
        exact W.iret (v := r_21) hx hb hr (fun t ht hW => ⟨⟨r_21, S_22, rfl, h, by rw [ht]; exact hP, va_K.moved hW.alike hK⟩, hS.F ht⟩) hS.2.2 dX7_swap_138
      · have h := h.2 c_23
        refine lv_iconst (v := 0) hx hb dX7_swap_57 (by decide) ?_
        refine lv_istore (lv' := [(6, .int 0), (0, .ref b), (1, .int p1), (2, .int p2), (3, .int p3), (4, .int p4), (5, .int x5)]) hx hb dX7_swap_58 hl (by decide) rfl (fun ls hl => ?_)
        refine lv_iconst (v := 0) hx hb dX7_swap_60 (by decide) ?_
        refine lv_istore (lv' := [(7, .int 0), (6, .int 0), (0, .ref b), (1, .int p1), (2, .int p2), (3, .int p3), (4, .int p4), (5, .int x5)]) hx hb dX7_swap_61 hl (by decide) rfl (fun ls hl => ?_)
        exact L63 _ _ _ _ _ _ _ h hP hS (lv_sub hl [2, 3, 4, 5, 6, 7, 1, 0] rfl)
  unfold wp_swap at h
  refine lv_aload_n hx hb dX7_swap_0 rfl (lv_at hl 0 rfl) ?_
  refine lv_iconst (v := 0) hx hb dX7_swap_1 (by decide) ?_
  obtain ⟨S_24, eS_24⟩ : ∃ z : St, z = bw S 0 0 0 := ⟨_, rfl⟩
  have h := h S_24 eS_24
  refine m_put (S1 := S_24) (v := .int 0) (ty := .int) hx hb hts hown hK hP hS 0 (by decide) q1210 rfl rfl (tyX7_ok 0 (by decide)) rfl rfl (by rw [eS_24]; exact mset_0 b S 0) (by rw [eS_24]; exact bw_0) dX7_swap_2 (fun H locs hP hS => ?_)
  refine lv_aload_n hx hb dX7_swap_5 rfl (lv_at hl 0 rfl) ?_
  refine lv_iload_n hx hb dX7_swap_6 rfl (lv_at hl 1 rfl) ?_
  refine m_cVp (As := [.int p1]) (rest := []) ⟨hx, hb, hml, hown, hts⟩ (met_isReg l D cI cB b p1  S_24 _ h) (cwV 1 hts (lw_V q1534 q1536 qs81 q128 q1537) rfl rfl rfl cwd_isReg ⟨Nat.le_of_ble_eq_true rfl, Nat.le_of_ble_eq_true rfl⟩) hK hP hS rfl hl.1 rfl (Nat.le_of_ble_eq_true rfl) dX7_swap_7 ⟨Nat.zero_le _, Nat.zero_le _⟩ (fun r_25 H locs h hP hS => ?_)
  refine lv_if_eq (tgt := 36) hx hb dX7_swap_10 (by decide) (fun c_38 => ?_) (fun c_38 => ?_)
  · have h := h.1 c_38
    exact J36  _ _ _ _ h hP hS (lv_sub hl [0] rfl)
  · have h := h.2 c_38
    refine lv_iload_n hx hb dX7_swap_13 rfl (lv_at hl 2 rfl) ?_
    refine m_cSp (As := [.int p2]) (rest := []) ⟨hx, hb, hml, hown, hts⟩ (met_isUnknown l D cI cB b p2  S_24 _ h) (va_cwS 1 hts (lw_S q1556 q1557 q128 q1558) rfl rfl rfl cwd_isUnknown ⟨Nat.le_of_ble_eq_true rfl, Nat.le_of_ble_eq_true rfl⟩) hK hP hS rfl hl.1 rfl (Nat.le_of_ble_eq_true rfl) dX7_swap_14 ⟨Nat.zero_le _, Nat.zero_le _⟩ (fun r_27 H locs h hP hS => ?_)
    refine lv_if_eq (tgt := 36) hx hb dX7_swap_17 (by decide) (fun c_37 => ?_) (fun c_37 => ?_)
    · have h := h.1 c_37
      exact J36  _ _ _ _ h hP hS (lv_sub hl [0] rfl)
    · have h := h.2 c_37
      refine lv_iload_n hx hb dX7_swap_20 rfl (lv_at hl 3 rfl) ?_
      refine m_cSp (As := [.int p3]) (rest := []) ⟨hx, hb, hml, hown, hts⟩ (met_isUnknown l D cI cB b p3  S_24 _ h) (va_cwS 1 hts (lw_S q1556 q1557 q128 q1558) rfl rfl rfl cwd_isUnknown ⟨Nat.le_of_ble_eq_true rfl, Nat.le_of_ble_eq_true rfl⟩) hK hP hS rfl hl.1 rfl (Nat.le_of_ble_eq_true rfl) dX7_swap_21 ⟨Nat.zero_le _, Nat.zero_le _⟩ (fun r_29 H locs h hP hS => ?_)
      refine lv_if_eq (tgt := 36) hx hb dX7_swap_24 (by decide) (fun c_36 => ?_) (fun c_36 => ?_)
      · have h := h.1 c_36
        exact J36  _ _ _ _ h hP hS (lv_sub hl [0] rfl)
      · have h := h.2 c_36
        refine lv_aload_n hx hb dX7_swap_27 rfl (lv_at hl 0 rfl) ?_
        refine lv_iload hx hb dX7_swap_28 (lv_at hl 4 rfl) ?_
        refine m_cVp (As := [.int p4]) (rest := []) ⟨hx, hb, hml, hown, hts⟩ (met_isReg l D cI cB b p4  S_24 _ h) (cwV 1 hts (lw_V q1534 q1536 qs81 q128 q1537) rfl rfl rfl cwd_isReg ⟨Nat.le_of_ble_eq_true rfl, Nat.le_of_ble_eq_true rfl⟩) hK hP hS rfl hl.1 rfl (Nat.le_of_ble_eq_true rfl) dX7_swap_30 ⟨Nat.zero_le _, Nat.zero_le _⟩ (fun r_31 H locs h hP hS => ?_)
        refine lv_if_ne (tgt := 42) hx hb dX7_swap_33 (by decide) (fun c_35 => ?_) (fun c_35 => ?_)
        · have h := h.1 c_35
          refine lv_aload_n hx hb dX7_swap_42 rfl (lv_at hl 0 rfl) ?_
          refine m_cVv (As := []) (rest := []) ⟨hx, hb, hml, hown, hts⟩ (met_clears l D cI cB b   S_24 _ h) (cwV 0 hts (lw_V q1673 q1675 qs97 q128 q1676) rfl rfl rfl cwd_clears ⟨Nat.le_of_ble_eq_true rfl, Nat.le_of_ble_eq_true rfl⟩) hK hP hS rfl hl.1 rfl (Nat.le_of_ble_eq_true rfl) dX7_swap_43 ⟨Nat.zero_le _, Nat.zero_le _⟩ (fun S_34 H locs h hP hS => ?_)
          refine lv_iconst (v := 0) hx hb dX7_swap_46 (by decide) ?_
          refine lv_istore (lv' := [(5, .int 0), (0, .ref b), (1, .int p1), (2, .int p2), (3, .int p3), (4, .int p4)]) hx hb dX7_swap_47 hl (by decide) rfl (fun ls hl => ?_)
          exact L49 _ _ _ _ _ h hP hS (lv_sub hl [1, 2, 3, 4, 5, 0] rfl)
        · have h := h.2 c_35
          exact J36  _ _ _ _ h hP hS (lv_sub hl [0] rfl)
def wp_rest_b59 (p1 : Int32) (p2 : Int32) (p3 : Int32) (post : Int32 → St → Prop) (R59 : Int32 → St → Prop)  (x5 : Int32) (S : St) : Prop :=
      ((4096 ≤ x5 →
        wp_lays p3 S (fun r_1 S_2 =>
        post r_1 S_2)) ∧
       (¬ (4096 ≤ x5) →
        ∃ j_3 : Nat, j_3 < 4096 ∧ x5 = nI j_3 ∧
        ∃ j_4 : Nat, j_4 < 4096 ∧ x5 = nI j_4 ∧ ∀ S_5 : St, S_5 = bw S 6 j_4 (S 8 j_3) →
        ∀ x5_6 : Int32, x5_6 = x5 + 1 →
        R59 x5_6 S_5))
def wp_rest_l59 (p1 : Int32) (p2 : Int32) (p3 : Int32) (post : Int32 → St → Prop)  (x5 : Int32) (S : St) : Prop := wLoop (fun (R : (Int32 × St) → Prop) (v : Int32 × St) => wp_rest_b59 p1 p2 p3 post (fun x5 S => R (x5, S))  v.1 v.2) (x5, S)
def wp_rest_j25 (p1 : Int32) (p2 : Int32) (p3 : Int32) (post : Int32 → St → Prop) (x4 : Int32) (S : St) : Prop :=
    ((x4 ≤ 0 →
      wp_laysRegister p1 S (fun S_9 =>
      wp_dividesBy p2 S_9 (fun r_10 S_11 =>
      ((¬ r_10 = 0 →
        wp_rest_l59 p1 p2 p3 post 0 S_11) ∧
       (r_10 = 0 →
        wp_refused 3 S_11 (fun r_12 S_13 =>
        post r_12 S_13)))))) ∧
     (¬ (x4 ≤ 0) →
      wp_refused x4 S (fun r_15 S_16 =>
      post r_15 S_16)))
def wp_rest (p1 : Int32) (p2 : Int32) (p3 : Int32) (S : St) (post : Int32 → St → Prop) : Prop :=
  ∀ S_18 : St, S_18 = bw S 0 0 0 →
  wp_isReg p3 S_18 (fun r_19 =>
  ((¬ r_19 = 0 →
    wp_refusesDivision p1 p2 S_18 (fun r_21 =>
    wp_rest_j25 p1 p2 p3 post r_21 S_18)) ∧
   (r_19 = 0 →
    wp_rest_j25 p1 p2 p3 post 1 S_18)))
set_option maxHeartbeats 4000000 in
theorem met_rest (l : Launch) (D : va_G) (cI cB : ClassId) (b : Nat) (p1 : Int32) (p2 : Int32) (p3 : Int32)  (S : St) (post : Int32 → St → Prop) (h : wp_rest p1 p2 p3 S post) : Met l yX7_rest (ws_ yX7_rest cX7_rest 6 (some .int)) ({ frames := 5, cells := 0, slots := 0, locals := 110 } : Room) (mPc D cI cB b [.ref b, .int p1, .int p2, .int p3] S) (mQi D cI cB b post) 0 0 (mA b) := by
  refine Met.ofW (cc := cX7_rest) (maxL := 6) (ret := (some .int)) (by decide) rfl ?_
  intro p e s m args below meth c s₁ B hml hv
  obtain ⟨rfl, hP, hK⟩ := hv
  have hx := B.exec
  have hb := B.bytes
  have hr := B.returns
  have hts := atoms_spec (ws := ws_ yX7_rest cX7_rest 6 (some .int)) B.pre
  have hts : ∀ w ∈ lw_all, w.before _ s = true := fun w h => hts w (List.mem_cons_of_mem _ h)
  have hown : s.vm.findClass RX7 = some m.cls := findClass_of_methodNamed B.named
  have hlocks := B.notSynchronized
  have hS : va_S (mA b) s.heap s.heap [] := va_S.rf
  have hl := lv_entry ([.ref b, .int p1, .int p2, .int p3]) (n := 6) (Nat.le_of_ble_eq_true rfl)
  rw [lg_entry_eq]
  generalize (lg_sl ([.ref b, .int p1, .int p2, .int p3]) ++ List.replicate (6 - (lg_sl ([.ref b, .int p1, .int p2, .int p3])).length) Slot.unset).toArray = ls at hl ⊢
  have hl : lv_has ls 6 [(0, .ref b), (1, .int p1), (2, .int p2), (3, .int p3)] := hl
  have L59 : ∀  (x5 : Int32) (S : St) (H : Heap) (locs : List Loc) (ls : Array Slot), wp_rest_l59 p1 p2 p3 post  x5 S → mW D cI cB b S H → va_S (mA b) s.heap H locs → lv_has ls 6 [(0, .ref b), (3, .int p3), (5, .int x5)] → W p l e (headSpec (ws_ yX7_rest cX7_rest 6 (some .int)) ({ frames := 5, cells := 0, slots := 0, locals := 110 } : Room)).room s m ([.ref b, .int p1, .int p2, .int p3] : List Value).toArray below meth c H locs 0 0 (MQ below (mQi D cI cB b post) ([.ref b, .int p1, .int p2, .int p3] : List Value).toArray s 0 0 (mA b)) (F0 m 59 ls []) := by
    intro  x5 S H locs ls h hP hS hl
    obtain ⟨I59, n59, hI, hstep59⟩ := h
    induction n59 using Nat.strongRecOn generalizing x5 S H locs ls with
    | ind n59 ih59 =>
      have h : wp_rest_b59 p1 p2 p3 post (fun x5 S => ∃ mm, mm < n59 ∧ I59 mm (x5, S))  x5 S := hstep59 n59 _ hI
      clear hI
      unfold wp_rest_b59 at h
      refine lv_iload hx hb dX7_rest_59 (lv_at hl 2 rfl) ?_
      refine lv_sipush (v := 4096) hx hb dX7_rest_61 (by decide) ?_
      refine lv_icmp_ge (tgt := 87) hx hb dX7_rest_64 (by decide) (fun c_7 => ?_) (fun c_7 => ?_)
      · have h := h.1 c_7
        refine lv_aload_n hx hb dX7_rest_87 rfl (lv_at hl 0 rfl) ?_
        refine lv_iload_n hx hb dX7_rest_88 rfl (lv_at hl 1 rfl) ?_
        refine m_cVi (As := [.int p3]) (rest := []) ⟨hx, hb, hml, hown, hts⟩ (met_lays l D cI cB b p3  S _ h) (cwV 1 hts (lw_V q1693 q1695 qs101 q128 q1696) rfl rfl rfl cwd_lays ⟨Nat.le_of_ble_eq_true rfl, Nat.le_of_ble_eq_true rfl⟩) hK hP hS rfl hl.1 rfl (Nat.le_of_ble_eq_true rfl) dX7_rest_89 ⟨Nat.zero_le _, Nat.zero_le _⟩ (fun r_1 S_2 H locs h hP hS => ?_)
        exact W.iret (v := r_1) hx hb hr (fun t ht hW => ⟨⟨r_1, S_2, rfl, h, by rw [ht]; exact hP, va_K.moved hW.alike hK⟩, hS.F ht⟩) hS.2.2 dX7_rest_92
      · have h := h.2 c_7
        refine lv_aload_n hx hb dX7_rest_67 rfl (lv_at hl 0 rfl) ?_
        refine m_get (v := .ref (b + 6)) hx hb hts hown hK hP 28 (by decide) q1238 rfl rfl dX7_rest_68 ?_
        refine lv_iload hx hb dX7_rest_71 (lv_at hl 2 rfl) ?_
        refine lv_aload_n hx hb dX7_rest_73 rfl (lv_at hl 0 rfl) ?_
        refine m_get (v := .ref (b + 8)) hx hb hts hown hK hP 31 (by decide) q1241 rfl rfl dX7_rest_74 ?_
        refine lv_iload hx hb dX7_rest_77 (lv_at hl 2 rfl) ?_
        obtain ⟨j_3, hj_3, ej_3, h⟩ := h
        refine m_iald hx hb hK hP (k := 8) mok_8 ej_3 hj_3 dX7_rest_79 ?_
        obtain ⟨j_4, hj_4, ej_4, h⟩ := h
        obtain ⟨S_5, eS_5⟩ : ∃ z : St, z = bw S 6 j_4 (S 8 j_3) := ⟨_, rfl⟩
        have h := h S_5 eS_5
        refine m_iast hx hb hK hP hS (k := 6) mok_6 ej_4 hj_4 dX7_rest_80 (fun H locs hP hS => ?_)
        rw [← eS_5] at hP
        obtain ⟨x5_6, ex5_6⟩ : ∃ y : Int32, y = x5 + 1 := ⟨_, rfl⟩
        have h := h x5_6 ex5_6
        refine lv_iinc (v := x5_6) (lv' := [(5, .int x5_6), (0, .ref b), (3, .int p3)]) hx hb dX7_rest_81 hl (k := 2) rfl (by rw [ex5_6]; rfl) (by decide) rfl (fun ls hl => ?_)
        refine lv_goto (tgt := 59) hx hb dX7_rest_84 (by decide) ?_
        obtain ⟨mm, hmm, h⟩ := h
        exact ih59 mm hmm _ _ _ _ _ hP hS (lv_sub hl [1, 2, 0] rfl) h
  have J25 : ∀ (x4 : Int32) (S : St) (H : Heap) (locs : List Loc) (ls : Array Slot), wp_rest_j25 p1 p2 p3 post x4 S → mW D cI cB b S H → va_S (mA b) s.heap H locs → lv_has ls 6 [(0, .ref b), (1, .int p1), (2, .int p2), (3, .int p3), (4, .int x4)] → W p l e (headSpec (ws_ yX7_rest cX7_rest 6 (some .int)) ({ frames := 5, cells := 0, slots := 0, locals := 110 } : Room)).room s m ([.ref b, .int p1, .int p2, .int p3] : List Value).toArray below meth c H locs 0 0 (MQ below (mQi D cI cB b post) ([.ref b, .int p1, .int p2, .int p3] : List Value).toArray s 0 0 (mA b)) (F0 m 25 ls []) := by
    intro x4 S H locs ls h hP hS hl
    unfold wp_rest_j25 at h
    refine lv_iload hx hb dX7_rest_25 (lv_at hl 4 rfl) ?_
    refine lv_if_le (tgt := 37) hx hb dX7_rest_27 (by decide) (fun c_17 => ?_) (fun c_17 => ?_)
    · have h := h.1 c_17
      refine lv_aload_n hx hb dX7_rest_37 rfl (lv_at hl 0 rfl) ?_
      refine lv_iload_n hx hb dX7_rest_38 rfl (lv_at hl 1 rfl) ?_
      refine m_cVv (As := [.int p1]) (rest := []) ⟨hx, hb, hml, hown, hts⟩ (met_laysRegister l D cI cB b p1  S _ h) (cwV 1 hts (lw_V q1627 q1629 qs89 q128 q1630) rfl rfl rfl cwd_laysRegister ⟨Nat.le_of_ble_eq_true rfl, Nat.le_of_ble_eq_true rfl⟩) hK hP hS rfl hl.1 rfl (Nat.le_of_ble_eq_true rfl) dX7_rest_39 ⟨Nat.zero_le _, Nat.zero_le _⟩ (fun S_9 H locs h hP hS => ?_)
      refine lv_aload_n hx hb dX7_rest_42 rfl (lv_at hl 0 rfl) ?_
      refine lv_iload_n hx hb dX7_rest_43 rfl (lv_at hl 2 rfl) ?_
      refine m_cVi (As := [.int p2]) (rest := []) ⟨hx, hb, hml, hown, hts⟩ (met_dividesBy l D cI cB b p2  S_9 _ h) (cwV 1 hts (lw_V q1631 q1633 qs90 q128 q1634) rfl rfl rfl cwd_dividesBy ⟨Nat.le_of_ble_eq_true rfl, Nat.le_of_ble_eq_true rfl⟩) hK hP hS rfl hl.1 rfl (Nat.le_of_ble_eq_true rfl) dX7_rest_44 ⟨Nat.zero_le _, Nat.zero_le _⟩ (fun r_10 S_11 H locs h hP hS => ?_)
      refine lv_if_ne (tgt := 56) hx hb dX7_rest_47 (by decide) (fun c_14 => ?_) (fun c_14 => ?_)
      · have h := h.1 c_14
        refine lv_iconst (v := 0) hx hb dX7_rest_56 (by decide) ?_
        refine lv_istore (lv' := [(5, .int 0), (0, .ref b), (1, .int p1), (2, .int p2), (3, .int p3), (4, .int x4)]) hx hb dX7_rest_57 hl (by decide) rfl (fun ls hl => ?_)
        exact L59 _ _ _ _ _ h hP hS (lv_sub hl [1, 4, 0] rfl)
      · have h := h.2 c_14
        refine lv_aload_n hx hb dX7_rest_50 rfl (lv_at hl 0 rfl) ?_
        refine lv_iconst (v := 3) hx hb dX7_rest_51 (by decide) ?_
        refine m_cVi (As := [.int 3]) (rest := []) ⟨hx, hb, hml, hown, hts⟩ (met_refused l D cI cB b 3  S_11 _ h) (cwV 1 hts (lw_V q1382 q1384 qs58 q128 q1385) rfl rfl rfl cwd_refused ⟨Nat.le_of_ble_eq_true rfl, Nat.le_of_ble_eq_true rfl⟩) hK hP hS rfl hl.1 rfl (Nat.le_of_ble_eq_true rfl) dX7_rest_52 ⟨Nat.zero_le _, Nat.zero_le _⟩ (fun r_12 S_13 H locs h hP hS => ?_)
        exact W.iret (v := r_12) hx hb hr (fun t ht hW => ⟨⟨r_12, S_13, rfl, h, by rw [ht]; exact hP, va_K.moved hW.alike hK⟩, hS.F ht⟩) hS.2.2 dX7_rest_55
    · have h := h.2 c_17
      refine lv_aload_n hx hb dX7_rest_30 rfl (lv_at hl 0 rfl) ?_
      refine lv_iload hx hb dX7_rest_31 (lv_at hl 4 rfl) ?_
      refine m_cVi (As := [.int x4]) (rest := []) ⟨hx, hb, hml, hown, hts⟩ (met_refused l D cI cB b x4  S _ h) (cwV 1 hts (lw_V q1382 q1384 qs58 q128 q1385) rfl rfl rfl cwd_refused ⟨Nat.le_of_ble_eq_true rfl, Nat.le_of_ble_eq_true rfl⟩) hK hP hS rfl hl.1 rfl (Nat.le_of_ble_eq_true rfl) dX7_rest_33 ⟨Nat.zero_le _, Nat.zero_le _⟩ (fun r_15 S_16 H locs h hP hS => ?_)
      exact W.iret (v := r_15) hx hb hr (fun t ht hW => ⟨⟨r_15, S_16, rfl, h, by rw [ht]; exact hP, va_K.moved hW.alike hK⟩, hS.F ht⟩) hS.2.2 dX7_rest_36
  unfold wp_rest at h
  refine lv_aload_n hx hb dX7_rest_0 rfl (lv_at hl 0 rfl) ?_
  refine lv_iconst (v := 0) hx hb dX7_rest_1 (by decide) ?_
  obtain ⟨S_18, eS_18⟩ : ∃ z : St, z = bw S 0 0 0 := ⟨_, rfl⟩
  have h := h S_18 eS_18
  refine m_put (S1 := S_18) (v := .int 0) (ty := .int) hx hb hts hown hK hP hS 0 (by decide) q1210 rfl rfl (tyX7_ok 0 (by decide)) rfl rfl (by rw [eS_18]; exact mset_0 b S 0) (by rw [eS_18]; exact bw_0) dX7_rest_2 (fun H locs hP hS => ?_)
  refine lv_aload_n hx hb dX7_rest_5 rfl (lv_at hl 0 rfl) ?_
  refine lv_iload_n hx hb dX7_rest_6 rfl (lv_at hl 3 rfl) ?_
  refine m_cVp (As := [.int p3]) (rest := []) ⟨hx, hb, hml, hown, hts⟩ (met_isReg l D cI cB b p3  S_18 _ h) (cwV 1 hts (lw_V q1534 q1536 qs81 q128 q1537) rfl rfl rfl cwd_isReg ⟨Nat.le_of_ble_eq_true rfl, Nat.le_of_ble_eq_true rfl⟩) hK hP hS rfl hl.1 rfl (Nat.le_of_ble_eq_true rfl) dX7_rest_7 ⟨Nat.zero_le _, Nat.zero_le _⟩ (fun r_19 H locs h hP hS => ?_)
  refine lv_if_ne (tgt := 17) hx hb dX7_rest_10 (by decide) (fun c_23 => ?_) (fun c_23 => ?_)
  · have h := h.1 c_23
    refine lv_aload_n hx hb dX7_rest_17 rfl (lv_at hl 0 rfl) ?_
    refine lv_iload_n hx hb dX7_rest_18 rfl (lv_at hl 1 rfl) ?_
    refine lv_iload_n hx hb dX7_rest_19 rfl (lv_at hl 2 rfl) ?_
    refine m_cVp (As := [.int p1, .int p2]) (rest := []) ⟨hx, hb, hml, hown, hts⟩ (met_refusesDivision l D cI cB b p1 p2  S_18 _ h) (cwV 2 hts (lw_V q1619 q1621 qs87 q128 q1622) rfl rfl rfl cwd_refusesDivision ⟨Nat.le_of_ble_eq_true rfl, Nat.le_of_ble_eq_true rfl⟩) hK hP hS rfl hl.1 rfl (Nat.le_of_ble_eq_true rfl) dX7_rest_20 ⟨Nat.zero_le _, Nat.zero_le _⟩ (fun r_21 H locs h hP hS => ?_)
    refine lv_istore (lv' := [(4, .int r_21), (0, .ref b), (1, .int p1), (2, .int p2), (3, .int p3)]) hx hb dX7_rest_23 hl (by decide) rfl (fun ls hl => ?_)
    exact J25 _ _ _ _ _ h hP hS (lv_sub hl [1, 2, 3, 4, 0] rfl)
  · have h := h.2 c_23
    refine lv_iconst (v := 1) hx hb dX7_rest_13 (by decide) ?_
    refine lv_goto (tgt := 23) hx hb dX7_rest_14 (by decide) ?_
    refine lv_istore (lv' := [(4, .int 1), (0, .ref b), (1, .int p1), (2, .int p2), (3, .int p3)]) hx hb dX7_rest_23 hl (by decide) rfl (fun ls hl => ?_)
    exact J25 _ _ _ _ _ h hP hS (lv_sub hl [1, 2, 3, 4, 0] rfl)
def wp_quotient_j30 (p1 : Int32) (p2 : Int32) (p3 : Int32) (p4 : Int32) (post : Int32 → St → Prop)  (S : St) : Prop :=
    wp_refused 1 S (fun r_1 S_2 =>
    post r_1 S_2)
def wp_quotient_j55 (p1 : Int32) (p2 : Int32) (p3 : Int32) (p4 : Int32) (post : Int32 → St → Prop)  (S : St) : Prop :=
    wp_refused 2 S (fun r_3 S_4 =>
    post r_3 S_4)
def wp_quotient_b102 (p1 : Int32) (p2 : Int32) (p3 : Int32) (p4 : Int32) (post : Int32 → St → Prop) (R102 : Int32 → St → Prop)  (x6 : Int32) (S : St) : Prop :=
      ((4096 ≤ x6 →
        wp_lays p4 S (fun r_5 S_6 =>
        post r_5 S_6)) ∧
       (¬ (4096 ≤ x6) →
        ∃ j_7 : Nat, j_7 < 32768 ∧ ((4096 * p3) + x6) = nI j_7 ∧
        ∃ j_8 : Nat, j_8 < 4096 ∧ x6 = nI j_8 ∧ ∀ S_9 : St, S_9 = bw S 6 j_8 (S 9 j_7) →
        ∀ x6_10 : Int32, x6_10 = x6 + 1 →
        R102 x6_10 S_9))
def wp_quotient_l102 (p1 : Int32) (p2 : Int32) (p3 : Int32) (p4 : Int32) (post : Int32 → St → Prop)  (x6 : Int32) (S : St) : Prop := wLoop (fun (R : (Int32 × St) → Prop) (v : Int32 × St) => wp_quotient_b102 p1 p2 p3 p4 post (fun x6 S => R (x6, S))  v.1 v.2) (x6, S)
def wp_quotient (p1 : Int32) (p2 : Int32) (p3 : Int32) (p4 : Int32) (S : St) (post : Int32 → St → Prop) : Prop :=
  ∀ S_12 : St, S_12 = bw S 0 0 0 →
  wp_isReg p1 S_12 (fun r_13 =>
  ((r_13 = 0 →
    wp_quotient_j30 p1 p2 p3 p4 post  S_12) ∧
   (¬ (r_13 = 0) →
    wp_isReg p3 S_12 (fun r_15 =>
    ((r_15 = 0 →
      wp_quotient_j30 p1 p2 p3 p4 post  S_12) ∧
     (¬ (r_15 = 0) →
      wp_isReg p4 S_12 (fun r_17 =>
      ((¬ r_17 = 0 →
        wp_in p2 1 255 S_12 (fun r_19 =>
        ((r_19 = 0 →
          wp_quotient_j55 p1 p2 p3 p4 post  S_12) ∧
         (¬ (r_19 = 0) →
          ((¬ ((jshr p2 p3) &&& 1) = 0 →
            wp_refusesSet p2 S_12 (fun r_21 =>
            ((r_21 ≤ 0 →
              wp_laysRegister p1 S_12 (fun S_24 =>
              wp_dividesBy p2 S_24 (fun r_25 S_26 =>
              ((¬ r_25 = 0 →
                wp_quotient_l102 p1 p2 p3 p4 post 0 S_26) ∧
               (r_25 = 0 →
                wp_refused 3 S_26 (fun r_27 S_28 =>
                post r_27 S_28)))))) ∧
             (¬ (r_21 ≤ 0) →
              wp_refused r_21 S_12 (fun r_30 S_31 =>
              post r_30 S_31))))) ∧
           (((jshr p2 p3) &&& 1) = 0 →
            wp_quotient_j55 p1 p2 p3 p4 post  S_12)))))) ∧
       (r_17 = 0 →
        wp_quotient_j30 p1 p2 p3 p4 post  S_12)))))))))
set_option maxHeartbeats 4000000 in
theorem met_quotient (l : Launch) (D : va_G) (cI cB : ClassId) (b : Nat) (p1 : Int32) (p2 : Int32) (p3 : Int32) (p4 : Int32)  (S : St) (post : Int32 → St → Prop) (h : wp_quotient p1 p2 p3 p4 S post) : Met l yX7_quotient (ws_ yX7_quotient cX7_quotient 7 (some .int)) ({ frames := 4, cells := 0, slots := 0, locals := 93 } : Room) (mPc D cI cB b [.ref b, .int p1, .int p2, .int p3, .int p4] S) (mQi D cI cB b post) 0 0 (mA b) := by
  refine Met.ofW (cc := cX7_quotient) (maxL := 7) (ret := (some .int)) (by decide) rfl ?_
  intro p e s m args below meth c s₁ B hml hv
  obtain ⟨rfl, hP, hK⟩ := hv
  have hx := B.exec
  have hb := B.bytes
  have hr := B.returns
  have hts := atoms_spec (ws := ws_ yX7_quotient cX7_quotient 7 (some .int)) B.pre
  have hts : ∀ w ∈ lw_all, w.before _ s = true := fun w h => hts w (List.mem_cons_of_mem _ h)
  have hown : s.vm.findClass RX7 = some m.cls := findClass_of_methodNamed B.named
  have hlocks := B.notSynchronized
  have hS : va_S (mA b) s.heap s.heap [] := va_S.rf
  have hl := lv_entry ([.ref b, .int p1, .int p2, .int p3, .int p4]) (n := 7) (Nat.le_of_ble_eq_true rfl)
  rw [lg_entry_eq]
  generalize (lg_sl ([.ref b, .int p1, .int p2, .int p3, .int p4]) ++ List.replicate (7 - (lg_sl ([.ref b, .int p1, .int p2, .int p3, .int p4])).length) Slot.unset).toArray = ls at hl ⊢
  have hl : lv_has ls 7 [(0, .ref b), (1, .int p1), (2, .int p2), (3, .int p3), (4, .int p4)] := hl
  have J30 : ∀  (S : St) (H : Heap) (locs : List Loc) (ls : Array Slot), wp_quotient_j30 p1 p2 p3 p4 post  S → mW D cI cB b S H → va_S (mA b) s.heap H locs → lv_has ls 7 [(0, .ref b)] → W p l e (headSpec (ws_ yX7_quotient cX7_quotient 7 (some .int)) ({ frames := 4, cells := 0, slots := 0, locals := 93 } : Room)).room s m ([.ref b, .int p1, .int p2, .int p3, .int p4] : List Value).toArray below meth c H locs 0 0 (MQ below (mQi D cI cB b post) ([.ref b, .int p1, .int p2, .int p3, .int p4] : List Value).toArray s 0 0 (mA b)) (F0 m 30 ls []) := by
    intro  S H locs ls h hP hS hl
    unfold wp_quotient_j30 at h
    refine lv_aload_n hx hb dX7_quotient_30 rfl (lv_at hl 0 rfl) ?_
    refine lv_iconst (v := 1) hx hb dX7_quotient_31 (by decide) ?_
    refine m_cVi (As := [.int 1]) (rest := []) ⟨hx, hb, hml, hown, hts⟩ (met_refused l D cI cB b 1  S _ h) (cwV 1 hts (lw_V q1382 q1384 qs58 q128 q1385) rfl rfl rfl cwd_refused ⟨Nat.le_of_ble_eq_true rfl, Nat.le_of_ble_eq_true rfl⟩) hK hP hS rfl hl.1 rfl (Nat.le_of_ble_eq_true rfl) dX7_quotient_32 ⟨Nat.zero_le _, Nat.zero_le _⟩ (fun r_1 S_2 H locs h hP hS => ?_)
    exact W.iret (v := r_1) hx hb hr (fun t ht hW => ⟨⟨r_1, S_2, rfl, h, by rw [ht]; exact hP, va_K.moved hW.alike hK⟩, hS.F ht⟩) hS.2.2 dX7_quotient_35
  have J55 : ∀  (S : St) (H : Heap) (locs : List Loc) (ls : Array Slot), wp_quotient_j55 p1 p2 p3 p4 post  S → mW D cI cB b S H → va_S (mA b) s.heap H locs → lv_has ls 7 [(0, .ref b)] → W p l e (headSpec (ws_ yX7_quotient cX7_quotient 7 (some .int)) ({ frames := 4, cells := 0, slots := 0, locals := 93 } : Room)).room s m ([.ref b, .int p1, .int p2, .int p3, .int p4] : List Value).toArray below meth c H locs 0 0 (MQ below (mQi D cI cB b post) ([.ref b, .int p1, .int p2, .int p3, .int p4] : List Value).toArray s 0 0 (mA b)) (F0 m 55 ls []) := by
    intro  S H locs ls h hP hS hl
    unfold wp_quotient_j55 at h
    refine lv_aload_n hx hb dX7_quotient_55 rfl (lv_at hl 0 rfl) ?_
    refine lv_iconst (v := 2) hx hb dX7_quotient_56 (by decide) ?_
    refine m_cVi (As := [.int 2]) (rest := []) ⟨hx, hb, hml, hown, hts⟩ (met_refused l D cI cB b 2  S _ h) (cwV 1 hts (lw_V q1382 q1384 qs58 q128 q1385) rfl rfl rfl cwd_refused ⟨Nat.le_of_ble_eq_true rfl, Nat.le_of_ble_eq_true rfl⟩) hK hP hS rfl hl.1 rfl (Nat.le_of_ble_eq_true rfl) dX7_quotient_57 ⟨Nat.zero_le _, Nat.zero_le _⟩ (fun r_3 S_4 H locs h hP hS => ?_)
    exact W.iret (v := r_3) hx hb hr (fun t ht hW => ⟨⟨r_3, S_4, rfl, h, by rw [ht]; exact hP, va_K.moved hW.alike hK⟩, hS.F ht⟩) hS.2.2 dX7_quotient_60
  have L102 : ∀  (x6 : Int32) (S : St) (H : Heap) (locs : List Loc) (ls : Array Slot), wp_quotient_l102 p1 p2 p3 p4 post  x6 S → mW D cI cB b S H → va_S (mA b) s.heap H locs → lv_has ls 7 [(0, .ref b), (3, .int p3), (4, .int p4), (6, .int x6)] → W p l e (headSpec (ws_ yX7_quotient cX7_quotient 7 (some .int)) ({ frames := 4, cells := 0, slots := 0, locals := 93 } : Room)).room s m ([.ref b, .int p1, .int p2, .int p3, .int p4] : List Value).toArray below meth c H locs 0 0 (MQ below (mQi D cI cB b post) ([.ref b, .int p1, .int p2, .int p3, .int p4] : List Value).toArray s 0 0 (mA b)) (F0 m 102 ls []) := by
    intro  x6 S H locs ls h hP hS hl
    obtain ⟨I102, n102, hI, hstep102⟩ := h
    induction n102 using Nat.strongRecOn generalizing x6 S H locs ls with
    | ind n102 ih102 =>
      have h : wp_quotient_b102 p1 p2 p3 p4 post (fun x6 S => ∃ mm, mm < n102 ∧ I102 mm (x6, S))  x6 S := hstep102 n102 _ hI
      clear hI
      unfold wp_quotient_b102 at h
      refine lv_iload hx hb dX7_quotient_102 (lv_at hl 3 rfl) ?_
      refine lv_sipush (v := 4096) hx hb dX7_quotient_104 (by decide) ?_
      refine lv_icmp_ge (tgt := 136) hx hb dX7_quotient_107 (by decide) (fun c_11 => ?_) (fun c_11 => ?_)
      · have h := h.1 c_11
        refine lv_aload_n hx hb dX7_quotient_136 rfl (lv_at hl 0 rfl) ?_
        refine lv_iload hx hb dX7_quotient_137 (lv_at hl 2 rfl) ?_
        refine m_cVi (As := [.int p4]) (rest := []) ⟨hx, hb, hml, hown, hts⟩ (met_lays l D cI cB b p4  S _ h) (cwV 1 hts (lw_V q1693 q1695 qs101 q128 q1696) rfl rfl rfl cwd_lays ⟨Nat.le_of_ble_eq_true rfl, Nat.le_of_ble_eq_true rfl⟩) hK hP hS rfl hl.1 rfl (Nat.le_of_ble_eq_true rfl) dX7_quotient_139 ⟨Nat.zero_le _, Nat.zero_le _⟩ (fun r_5 S_6 H locs h hP hS => ?_)
        exact W.iret (v := r_5) hx hb hr (fun t ht hW => ⟨⟨r_5, S_6, rfl, h, by rw [ht]; exact hP, va_K.moved hW.alike hK⟩, hS.F ht⟩) hS.2.2 dX7_quotient_142
      · have h := h.2 c_11
        refine lv_aload_n hx hb dX7_quotient_110 rfl (lv_at hl 0 rfl) ?_
        refine m_get (v := .ref (b + 6)) hx hb hts hown hK hP 28 (by decide) q1238 rfl rfl dX7_quotient_111 ?_
        refine lv_iload hx hb dX7_quotient_114 (lv_at hl 3 rfl) ?_
        refine lv_aload_n hx hb dX7_quotient_116 rfl (lv_at hl 0 rfl) ?_
        refine m_get (v := .ref (b + 9)) hx hb hts hown hK hP 32 (by decide) q1242 rfl rfl dX7_quotient_117 ?_
        refine lv_sipush (v := 4096) hx hb dX7_quotient_120 (by decide) ?_
        refine lv_iload_n hx hb dX7_quotient_123 rfl (lv_at hl 1 rfl) ?_
        refine lv_imul hx hb dX7_quotient_124 ?_
        refine lv_iload hx hb dX7_quotient_125 (lv_at hl 3 rfl) ?_
        refine lv_iadd hx hb dX7_quotient_127 ?_
        obtain ⟨j_7, hj_7, ej_7, h⟩ := h
        refine m_iald hx hb hK hP (k := 9) mok_9 ej_7 hj_7 dX7_quotient_128 ?_
        obtain ⟨j_8, hj_8, ej_8, h⟩ := h
        obtain ⟨S_9, eS_9⟩ : ∃ z : St, z = bw S 6 j_8 (S 9 j_7) := ⟨_, rfl⟩
        have h := h S_9 eS_9
        refine m_iast hx hb hK hP hS (k := 6) mok_6 ej_8 hj_8 dX7_quotient_129 (fun H locs hP hS => ?_)
        rw [← eS_9] at hP
        obtain ⟨x6_10, ex6_10⟩ : ∃ y : Int32, y = x6 + 1 := ⟨_, rfl⟩
        have h := h x6_10 ex6_10
        refine lv_iinc (v := x6_10) (lv' := [(6, .int x6_10), (0, .ref b), (3, .int p3), (4, .int p4)]) hx hb dX7_quotient_130 hl (k := 3) rfl (by rw [ex6_10]; rfl) (by decide) rfl (fun ls hl => ?_)
        refine lv_goto (tgt := 102) hx hb dX7_quotient_133 (by decide) ?_
        obtain ⟨mm, hmm, h⟩ := h
        exact ih102 mm hmm _ _ _ _ _ hP hS (lv_sub hl [1, 2, 3, 0] rfl) h
  unfold wp_quotient at h
  refine lv_aload_n hx hb dX7_quotient_0 rfl (lv_at hl 0 rfl) ?_
  refine lv_iconst (v := 0) hx hb dX7_quotient_1 (by decide) ?_
  obtain ⟨S_12, eS_12⟩ : ∃ z : St, z = bw S 0 0 0 := ⟨_, rfl⟩
  have h := h S_12 eS_12
  refine m_put (S1 := S_12) (v := .int 0) (ty := .int) hx hb hts hown hK hP hS 0 (by decide) q1210 rfl rfl (tyX7_ok 0 (by decide)) rfl rfl (by rw [eS_12]; exact mset_0 b S 0) (by rw [eS_12]; exact bw_0) dX7_quotient_2 (fun H locs hP hS => ?_)
  refine lv_aload_n hx hb dX7_quotient_5 rfl (lv_at hl 0 rfl) ?_
  refine lv_iload_n hx hb dX7_quotient_6 rfl (lv_at hl 1 rfl) ?_
  refine m_cVp (As := [.int p1]) (rest := []) ⟨hx, hb, hml, hown, hts⟩ (met_isReg l D cI cB b p1  S_12 _ h) (cwV 1 hts (lw_V q1534 q1536 qs81 q128 q1537) rfl rfl rfl cwd_isReg ⟨Nat.le_of_ble_eq_true rfl, Nat.le_of_ble_eq_true rfl⟩) hK hP hS rfl hl.1 rfl (Nat.le_of_ble_eq_true rfl) dX7_quotient_7 ⟨Nat.zero_le _, Nat.zero_le _⟩ (fun r_13 H locs h hP hS => ?_)
  refine lv_if_eq (tgt := 30) hx hb dX7_quotient_10 (by decide) (fun c_37 => ?_) (fun c_37 => ?_)
  · have h := h.1 c_37
    exact J30  _ _ _ _ h hP hS (lv_sub hl [0] rfl)
  · have h := h.2 c_37
    refine lv_aload_n hx hb dX7_quotient_13 rfl (lv_at hl 0 rfl) ?_
    refine lv_iload_n hx hb dX7_quotient_14 rfl (lv_at hl 3 rfl) ?_
    refine m_cVp (As := [.int p3]) (rest := []) ⟨hx, hb, hml, hown, hts⟩ (met_isReg l D cI cB b p3  S_12 _ h) (cwV 1 hts (lw_V q1534 q1536 qs81 q128 q1537) rfl rfl rfl cwd_isReg ⟨Nat.le_of_ble_eq_true rfl, Nat.le_of_ble_eq_true rfl⟩) hK hP hS rfl hl.1 rfl (Nat.le_of_ble_eq_true rfl) dX7_quotient_15 ⟨Nat.zero_le _, Nat.zero_le _⟩ (fun r_15 H locs h hP hS => ?_)
    refine lv_if_eq (tgt := 30) hx hb dX7_quotient_18 (by decide) (fun c_36 => ?_) (fun c_36 => ?_)
    · have h := h.1 c_36
      exact J30  _ _ _ _ h hP hS (lv_sub hl [0] rfl)
    · have h := h.2 c_36
      refine lv_aload_n hx hb dX7_quotient_21 rfl (lv_at hl 0 rfl) ?_
      refine lv_iload hx hb dX7_quotient_22 (lv_at hl 4 rfl) ?_
      refine m_cVp (As := [.int p4]) (rest := []) ⟨hx, hb, hml, hown, hts⟩ (met_isReg l D cI cB b p4  S_12 _ h) (cwV 1 hts (lw_V q1534 q1536 qs81 q128 q1537) rfl rfl rfl cwd_isReg ⟨Nat.le_of_ble_eq_true rfl, Nat.le_of_ble_eq_true rfl⟩) hK hP hS rfl hl.1 rfl (Nat.le_of_ble_eq_true rfl) dX7_quotient_24 ⟨Nat.zero_le _, Nat.zero_le _⟩ (fun r_17 H locs h hP hS => ?_)
      refine lv_if_ne (tgt := 36) hx hb dX7_quotient_27 (by decide) (fun c_35 => ?_) (fun c_35 => ?_)
      · have h := h.1 c_35
        refine lv_iload_n hx hb dX7_quotient_36 rfl (lv_at hl 2 rfl) ?_
        refine lv_iconst (v := 1) hx hb dX7_quotient_37 (by decide) ?_
        refine lv_sipush (v := 255) hx hb dX7_quotient_38 (by decide) ?_
        refine m_cSp (As := [.int p2, .int 1, .int 255]) (rest := []) ⟨hx, hb, hml, hown, hts⟩ (met_in l D cI cB b p2 1 255  S_12 _ h) (va_cwS 3 hts (lw_S q1398 q1399 q128 q1400) rfl rfl rfl cwd_in ⟨Nat.le_of_ble_eq_true rfl, Nat.le_of_ble_eq_true rfl⟩) hK hP hS rfl hl.1 rfl (Nat.le_of_ble_eq_true rfl) dX7_quotient_41 ⟨Nat.zero_le _, Nat.zero_le _⟩ (fun r_19 H locs h hP hS => ?_)
        refine lv_if_eq (tgt := 55) hx hb dX7_quotient_44 (by decide) (fun c_34 => ?_) (fun c_34 => ?_)
        · have h := h.1 c_34
          exact J55  _ _ _ _ h hP hS (lv_sub hl [0] rfl)
        · have h := h.2 c_34
          refine lv_iload_n hx hb dX7_quotient_47 rfl (lv_at hl 2 rfl) ?_
          refine lv_iload_n hx hb dX7_quotient_48 rfl (lv_at hl 3 rfl) ?_
          refine m_ishr hx hb dX7_quotient_49 ?_
          refine lv_iconst (v := 1) hx hb dX7_quotient_50 (by decide) ?_
          refine lv_iand hx hb dX7_quotient_51 ?_
          refine lv_if_ne (tgt := 61) hx hb dX7_quotient_52 (by decide) (fun c_33 => ?_) (fun c_33 => ?_)
          · have h := h.1 c_33
            refine lv_aload_n hx hb dX7_quotient_61 rfl (lv_at hl 0 rfl) ?_
            refine lv_iload_n hx hb dX7_quotient_62 rfl (lv_at hl 2 rfl) ?_
            refine m_cVp (As := [.int p2]) (rest := []) ⟨hx, hb, hml, hown, hts⟩ (met_refusesSet l D cI cB b p2  S_12 _ h) (cwV 1 hts (lw_V q1623 q1625 qs88 q128 q1626) rfl rfl rfl cwd_refusesSet ⟨Nat.le_of_ble_eq_true rfl, Nat.le_of_ble_eq_true rfl⟩) hK hP hS rfl hl.1 rfl (Nat.le_of_ble_eq_true rfl) dX7_quotient_63 ⟨Nat.zero_le _, Nat.zero_le _⟩ (fun r_21 H locs h hP hS => ?_)
            refine lv_istore (lv' := [(5, .int r_21), (0, .ref b), (1, .int p1), (2, .int p2), (3, .int p3), (4, .int p4)]) hx hb dX7_quotient_66 hl (by decide) rfl (fun ls hl => ?_)
            refine lv_iload hx hb dX7_quotient_68 (lv_at hl 0 rfl) ?_
            refine lv_if_le (tgt := 80) hx hb dX7_quotient_70 (by decide) (fun c_32 => ?_) (fun c_32 => ?_)
            · have h := h.1 c_32
              refine lv_aload_n hx hb dX7_quotient_80 rfl (lv_at hl 1 rfl) ?_
              refine lv_iload_n hx hb dX7_quotient_81 rfl (lv_at hl 2 rfl) ?_
              refine m_cVv (As := [.int p1]) (rest := []) ⟨hx, hb, hml, hown, hts⟩ (met_laysRegister l D cI cB b p1  S_12 _ h) (cwV 1 hts (lw_V q1627 q1629 qs89 q128 q1630) rfl rfl rfl cwd_laysRegister ⟨Nat.le_of_ble_eq_true rfl, Nat.le_of_ble_eq_true rfl⟩) hK hP hS rfl hl.1 rfl (Nat.le_of_ble_eq_true rfl) dX7_quotient_82 ⟨Nat.zero_le _, Nat.zero_le _⟩ (fun S_24 H locs h hP hS => ?_)
              refine lv_aload_n hx hb dX7_quotient_85 rfl (lv_at hl 1 rfl) ?_
              refine lv_iload_n hx hb dX7_quotient_86 rfl (lv_at hl 3 rfl) ?_
              refine m_cVi (As := [.int p2]) (rest := []) ⟨hx, hb, hml, hown, hts⟩ (met_dividesBy l D cI cB b p2  S_24 _ h) (cwV 1 hts (lw_V q1631 q1633 qs90 q128 q1634) rfl rfl rfl cwd_dividesBy ⟨Nat.le_of_ble_eq_true rfl, Nat.le_of_ble_eq_true rfl⟩) hK hP hS rfl hl.1 rfl (Nat.le_of_ble_eq_true rfl) dX7_quotient_87 ⟨Nat.zero_le _, Nat.zero_le _⟩ (fun r_25 S_26 H locs h hP hS => ?_)
              refine lv_if_ne (tgt := 99) hx hb dX7_quotient_90 (by decide) (fun c_29 => ?_) (fun c_29 => ?_)
              · have h := h.1 c_29
                refine lv_iconst (v := 0) hx hb dX7_quotient_99 (by decide) ?_
                refine lv_istore (lv' := [(6, .int 0), (5, .int r_21), (0, .ref b), (1, .int p1), (2, .int p2), (3, .int p3), (4, .int p4)]) hx hb dX7_quotient_100 hl (by decide) rfl (fun ls hl => ?_)
                exact L102 _ _ _ _ _ h hP hS (lv_sub hl [2, 5, 6, 0] rfl)
              · have h := h.2 c_29
                refine lv_aload_n hx hb dX7_quotient_93 rfl (lv_at hl 1 rfl) ?_
                refine lv_iconst (v := 3) hx hb dX7_quotient_94 (by decide) ?_
                refine m_cVi (As := [.int 3]) (rest := []) ⟨hx, hb, hml, hown, hts⟩ (met_refused l D cI cB b 3  S_26 _ h) (cwV 1 hts (lw_V q1382 q1384 qs58 q128 q1385) rfl rfl rfl cwd_refused ⟨Nat.le_of_ble_eq_true rfl, Nat.le_of_ble_eq_true rfl⟩) hK hP hS rfl hl.1 rfl (Nat.le_of_ble_eq_true rfl) dX7_quotient_95 ⟨Nat.zero_le _, Nat.zero_le _⟩ (fun r_27 S_28 H locs h hP hS => ?_)
                exact W.iret (v := r_27) hx hb hr (fun t ht hW => ⟨⟨r_27, S_28, rfl, h, by rw [ht]; exact hP, va_K.moved hW.alike hK⟩, hS.F ht⟩) hS.2.2 dX7_quotient_98
            · have h := h.2 c_32
              refine lv_aload_n hx hb dX7_quotient_73 rfl (lv_at hl 1 rfl) ?_
              refine lv_iload hx hb dX7_quotient_74 (lv_at hl 0 rfl) ?_
              refine m_cVi (As := [.int r_21]) (rest := []) ⟨hx, hb, hml, hown, hts⟩ (met_refused l D cI cB b r_21  S_12 _ h) (cwV 1 hts (lw_V q1382 q1384 qs58 q128 q1385) rfl rfl rfl cwd_refused ⟨Nat.le_of_ble_eq_true rfl, Nat.le_of_ble_eq_true rfl⟩) hK hP hS rfl hl.1 rfl (Nat.le_of_ble_eq_true rfl) dX7_quotient_76 ⟨Nat.zero_le _, Nat.zero_le _⟩ (fun r_30 S_31 H locs h hP hS => ?_)
              exact W.iret (v := r_30) hx hb hr (fun t ht hW => ⟨⟨r_30, S_31, rfl, h, by rw [ht]; exact hP, va_K.moved hW.alike hK⟩, hS.F ht⟩) hS.2.2 dX7_quotient_79
          · have h := h.2 c_33
            exact J55  _ _ _ _ h hP hS (lv_sub hl [0] rfl)
      · have h := h.2 c_35
        exact J30  _ _ _ _ h hP hS (lv_sub hl [0] rfl)
def wp_pair_j20 (p1 : Int32) (p2 : Int32) (p3 : Int32) (post : Int32 → St → Prop)  (S : St) : Prop :=
    wp_refused 1 S (fun r_1 S_2 =>
    post r_1 S_2)
def wp_pair_j42 (p1 : Int32) (p2 : Int32) (p3 : Int32) (post : Int32 → St → Prop)  (S : St) : Prop :=
    wp_refused 5 S (fun r_3 S_4 =>
    post r_3 S_4)
def wp_pair (p1 : Int32) (p2 : Int32) (p3 : Int32) (S : St) (post : Int32 → St → Prop) : Prop :=
  ∀ S_5 : St, S_5 = bw S 0 0 0 →
  wp_areRegs p1 p2 p3 S_5 (fun r_6 =>
  ((r_6 = 0 →
    wp_pair_j20 p1 p2 p3 post  S_5) ∧
   (¬ (r_6 = 0) →
    ((¬ p1 = p2 →
      wp_isZero p1 S_5 (fun r_8 =>
      ((¬ r_8 = 0 →
        wp_pair_j42 p1 p2 p3 post  S_5) ∧
       (r_8 = 0 →
        wp_isZero p2 S_5 (fun r_10 =>
        ((r_10 = 0 →
          wp_laysPair p1 p2 S_5 (fun r_12 S_13 =>
          ((r_12 = 0 →
            wp_refused 3 S_13 (fun r_14 S_15 =>
            post r_14 S_15)) ∧
           (¬ (r_12 = 0) →
            wp_lays p3 S_13 (fun r_16 S_17 =>
            post r_16 S_17))))) ∧
         (¬ (r_10 = 0) →
          wp_pair_j42 p1 p2 p3 post  S_5))))))) ∧
     (p1 = p2 →
      wp_pair_j20 p1 p2 p3 post  S_5)))))
set_option maxHeartbeats 4000000 in
theorem met_pair (l : Launch) (D : va_G) (cI cB : ClassId) (b : Nat) (p1 : Int32) (p2 : Int32) (p3 : Int32)  (S : St) (post : Int32 → St → Prop) (h : wp_pair p1 p2 p3 S post) : Met l yX7_pair (ws_ yX7_pair cX7_pair 4 (some .int)) ({ frames := 4, cells := 0, slots := 0, locals := 97 } : Room) (mPc D cI cB b [.ref b, .int p1, .int p2, .int p3] S) (mQi D cI cB b post) 0 0 (mA b) := by
  refine Met.ofW (cc := cX7_pair) (maxL := 4) (ret := (some .int)) (by decide) rfl ?_
  intro p e s m args below meth c s₁ B hml hv
  obtain ⟨rfl, hP, hK⟩ := hv
  have hx := B.exec
  have hb := B.bytes
  have hr := B.returns
  have hts := atoms_spec (ws := ws_ yX7_pair cX7_pair 4 (some .int)) B.pre
  have hts : ∀ w ∈ lw_all, w.before _ s = true := fun w h => hts w (List.mem_cons_of_mem _ h)
  have hown : s.vm.findClass RX7 = some m.cls := findClass_of_methodNamed B.named
  have hlocks := B.notSynchronized
  have hS : va_S (mA b) s.heap s.heap [] := va_S.rf
  have hl := lv_entry ([.ref b, .int p1, .int p2, .int p3]) (n := 4) (Nat.le_of_ble_eq_true rfl)
  rw [lg_entry_eq]
  generalize (lg_sl ([.ref b, .int p1, .int p2, .int p3]) ++ List.replicate (4 - (lg_sl ([.ref b, .int p1, .int p2, .int p3])).length) Slot.unset).toArray = ls at hl ⊢
  have hl : lv_has ls 4 [(0, .ref b), (1, .int p1), (2, .int p2), (3, .int p3)] := hl
  have J20 : ∀  (S : St) (H : Heap) (locs : List Loc) (ls : Array Slot), wp_pair_j20 p1 p2 p3 post  S → mW D cI cB b S H → va_S (mA b) s.heap H locs → lv_has ls 4 [(0, .ref b)] → W p l e (headSpec (ws_ yX7_pair cX7_pair 4 (some .int)) ({ frames := 4, cells := 0, slots := 0, locals := 97 } : Room)).room s m ([.ref b, .int p1, .int p2, .int p3] : List Value).toArray below meth c H locs 0 0 (MQ below (mQi D cI cB b post) ([.ref b, .int p1, .int p2, .int p3] : List Value).toArray s 0 0 (mA b)) (F0 m 20 ls []) := by
    intro  S H locs ls h hP hS hl
    unfold wp_pair_j20 at h
    refine lv_aload_n hx hb dX7_pair_20 rfl (lv_at hl 0 rfl) ?_
    refine lv_iconst (v := 1) hx hb dX7_pair_21 (by decide) ?_
    refine m_cVi (As := [.int 1]) (rest := []) ⟨hx, hb, hml, hown, hts⟩ (met_refused l D cI cB b 1  S _ h) (cwV 1 hts (lw_V q1382 q1384 qs58 q128 q1385) rfl rfl rfl cwd_refused ⟨Nat.le_of_ble_eq_true rfl, Nat.le_of_ble_eq_true rfl⟩) hK hP hS rfl hl.1 rfl (Nat.le_of_ble_eq_true rfl) dX7_pair_22 ⟨Nat.zero_le _, Nat.zero_le _⟩ (fun r_1 S_2 H locs h hP hS => ?_)
    exact W.iret (v := r_1) hx hb hr (fun t ht hW => ⟨⟨r_1, S_2, rfl, h, by rw [ht]; exact hP, va_K.moved hW.alike hK⟩, hS.F ht⟩) hS.2.2 dX7_pair_25
  have J42 : ∀  (S : St) (H : Heap) (locs : List Loc) (ls : Array Slot), wp_pair_j42 p1 p2 p3 post  S → mW D cI cB b S H → va_S (mA b) s.heap H locs → lv_has ls 4 [(0, .ref b)] → W p l e (headSpec (ws_ yX7_pair cX7_pair 4 (some .int)) ({ frames := 4, cells := 0, slots := 0, locals := 97 } : Room)).room s m ([.ref b, .int p1, .int p2, .int p3] : List Value).toArray below meth c H locs 0 0 (MQ below (mQi D cI cB b post) ([.ref b, .int p1, .int p2, .int p3] : List Value).toArray s 0 0 (mA b)) (F0 m 42 ls []) := by
    intro  S H locs ls h hP hS hl
    unfold wp_pair_j42 at h
    refine lv_aload_n hx hb dX7_pair_42 rfl (lv_at hl 0 rfl) ?_
    refine lv_iconst (v := 5) hx hb dX7_pair_43 (by decide) ?_
    refine m_cVi (As := [.int 5]) (rest := []) ⟨hx, hb, hml, hown, hts⟩ (met_refused l D cI cB b 5  S _ h) (cwV 1 hts (lw_V q1382 q1384 qs58 q128 q1385) rfl rfl rfl cwd_refused ⟨Nat.le_of_ble_eq_true rfl, Nat.le_of_ble_eq_true rfl⟩) hK hP hS rfl hl.1 rfl (Nat.le_of_ble_eq_true rfl) dX7_pair_44 ⟨Nat.zero_le _, Nat.zero_le _⟩ (fun r_3 S_4 H locs h hP hS => ?_)
    exact W.iret (v := r_3) hx hb hr (fun t ht hW => ⟨⟨r_3, S_4, rfl, h, by rw [ht]; exact hP, va_K.moved hW.alike hK⟩, hS.F ht⟩) hS.2.2 dX7_pair_47
  unfold wp_pair at h
  refine lv_aload_n hx hb dX7_pair_0 rfl (lv_at hl 0 rfl) ?_
  refine lv_iconst (v := 0) hx hb dX7_pair_1 (by decide) ?_
  obtain ⟨S_5, eS_5⟩ : ∃ z : St, z = bw S 0 0 0 := ⟨_, rfl⟩
  have h := h S_5 eS_5
  refine m_put (S1 := S_5) (v := .int 0) (ty := .int) hx hb hts hown hK hP hS 0 (by decide) q1210 rfl rfl (tyX7_ok 0 (by decide)) rfl rfl (by rw [eS_5]; exact mset_0 b S 0) (by rw [eS_5]; exact bw_0) dX7_pair_2 (fun H locs hP hS => ?_)
  refine lv_aload_n hx hb dX7_pair_5 rfl (lv_at hl 0 rfl) ?_
  refine lv_iload_n hx hb dX7_pair_6 rfl (lv_at hl 1 rfl) ?_
  refine lv_iload_n hx hb dX7_pair_7 rfl (lv_at hl 2 rfl) ?_
  refine lv_iload_n hx hb dX7_pair_8 rfl (lv_at hl 3 rfl) ?_
  refine m_cVp (As := [.int p1, .int p2, .int p3]) (rest := []) ⟨hx, hb, hml, hown, hts⟩ (met_areRegs l D cI cB b p1 p2 p3  S_5 _ h) (cwV 3 hts (lw_V q1689 q1691 qs100 q128 q1692) rfl rfl rfl cwd_areRegs ⟨Nat.le_of_ble_eq_true rfl, Nat.le_of_ble_eq_true rfl⟩) hK hP hS rfl hl.1 rfl (Nat.le_of_ble_eq_true rfl) dX7_pair_9 ⟨Nat.zero_le _, Nat.zero_le _⟩ (fun r_6 H locs h hP hS => ?_)
  refine lv_if_eq (tgt := 20) hx hb dX7_pair_12 (by decide) (fun c_22 => ?_) (fun c_22 => ?_)
  · have h := h.1 c_22
    exact J20  _ _ _ _ h hP hS (lv_sub hl [0] rfl)
  · have h := h.2 c_22
    refine lv_iload_n hx hb dX7_pair_15 rfl (lv_at hl 1 rfl) ?_
    refine lv_iload_n hx hb dX7_pair_16 rfl (lv_at hl 2 rfl) ?_
    refine lv_icmp_ne (tgt := 26) hx hb dX7_pair_17 (by decide) (fun c_21 => ?_) (fun c_21 => ?_)
    · have h := h.1 c_21
      refine lv_aload_n hx hb dX7_pair_26 rfl (lv_at hl 0 rfl) ?_
      refine lv_iload_n hx hb dX7_pair_27 rfl (lv_at hl 1 rfl) ?_
      refine m_cVp (As := [.int p1]) (rest := []) ⟨hx, hb, hml, hown, hts⟩ (met_isZero l D cI cB b p1  S_5 _ h) (cwV 1 hts (lw_V q1518 q1520 qs78 q128 q1521) rfl rfl rfl cwd_isZero ⟨Nat.le_of_ble_eq_true rfl, Nat.le_of_ble_eq_true rfl⟩) hK hP hS rfl hl.1 rfl (Nat.le_of_ble_eq_true rfl) dX7_pair_28 ⟨Nat.zero_le _, Nat.zero_le _⟩ (fun r_8 H locs h hP hS => ?_)
      refine lv_if_ne (tgt := 42) hx hb dX7_pair_31 (by decide) (fun c_20 => ?_) (fun c_20 => ?_)
      · have h := h.1 c_20
        exact J42  _ _ _ _ h hP hS (lv_sub hl [0] rfl)
      · have h := h.2 c_20
        refine lv_aload_n hx hb dX7_pair_34 rfl (lv_at hl 0 rfl) ?_
        refine lv_iload_n hx hb dX7_pair_35 rfl (lv_at hl 2 rfl) ?_
        refine m_cVp (As := [.int p2]) (rest := []) ⟨hx, hb, hml, hown, hts⟩ (met_isZero l D cI cB b p2  S_5 _ h) (cwV 1 hts (lw_V q1518 q1520 qs78 q128 q1521) rfl rfl rfl cwd_isZero ⟨Nat.le_of_ble_eq_true rfl, Nat.le_of_ble_eq_true rfl⟩) hK hP hS rfl hl.1 rfl (Nat.le_of_ble_eq_true rfl) dX7_pair_36 ⟨Nat.zero_le _, Nat.zero_le _⟩ (fun r_10 H locs h hP hS => ?_)
        refine lv_if_eq (tgt := 48) hx hb dX7_pair_39 (by decide) (fun c_19 => ?_) (fun c_19 => ?_)
        · have h := h.1 c_19
          refine lv_aload_n hx hb dX7_pair_48 rfl (lv_at hl 0 rfl) ?_
          refine lv_iload_n hx hb dX7_pair_49 rfl (lv_at hl 1 rfl) ?_
          refine lv_iload_n hx hb dX7_pair_50 rfl (lv_at hl 2 rfl) ?_
          refine m_cVi (As := [.int p1, .int p2]) (rest := []) ⟨hx, hb, hml, hown, hts⟩ (met_laysPair l D cI cB b p1 p2  S_5 _ h) (cwV 2 hts (lw_V q1669 q1671 qs96 q128 q1672) rfl rfl rfl cwd_laysPair ⟨Nat.le_of_ble_eq_true rfl, Nat.le_of_ble_eq_true rfl⟩) hK hP hS rfl hl.1 rfl (Nat.le_of_ble_eq_true rfl) dX7_pair_51 ⟨Nat.zero_le _, Nat.zero_le _⟩ (fun r_12 S_13 H locs h hP hS => ?_)
          refine lv_if_eq (tgt := 65) hx hb dX7_pair_54 (by decide) (fun c_18 => ?_) (fun c_18 => ?_)
          · have h := h.1 c_18
            refine lv_aload_n hx hb dX7_pair_65 rfl (lv_at hl 0 rfl) ?_
            refine lv_iconst (v := 3) hx hb dX7_pair_66 (by decide) ?_
            refine m_cVi (As := [.int 3]) (rest := []) ⟨hx, hb, hml, hown, hts⟩ (met_refused l D cI cB b 3  S_13 _ h) (cwV 1 hts (lw_V q1382 q1384 qs58 q128 q1385) rfl rfl rfl cwd_refused ⟨Nat.le_of_ble_eq_true rfl, Nat.le_of_ble_eq_true rfl⟩) hK hP hS rfl hl.1 rfl (Nat.le_of_ble_eq_true rfl) dX7_pair_67 ⟨Nat.zero_le _, Nat.zero_le _⟩ (fun r_14 S_15 H locs h hP hS => ?_)
            exact W.iret (v := r_14) hx hb hr (fun t ht hW => ⟨⟨r_14, S_15, rfl, h, by rw [ht]; exact hP, va_K.moved hW.alike hK⟩, hS.F ht⟩) hS.2.2 dX7_pair_70
          · have h := h.2 c_18
            refine lv_aload_n hx hb dX7_pair_57 rfl (lv_at hl 0 rfl) ?_
            refine lv_iload_n hx hb dX7_pair_58 rfl (lv_at hl 3 rfl) ?_
            refine m_cVi (As := [.int p3]) (rest := []) ⟨hx, hb, hml, hown, hts⟩ (met_lays l D cI cB b p3  S_13 _ h) (cwV 1 hts (lw_V q1693 q1695 qs101 q128 q1696) rfl rfl rfl cwd_lays ⟨Nat.le_of_ble_eq_true rfl, Nat.le_of_ble_eq_true rfl⟩) hK hP hS rfl hl.1 rfl (Nat.le_of_ble_eq_true rfl) dX7_pair_59 ⟨Nat.zero_le _, Nat.zero_le _⟩ (fun r_16 S_17 H locs h hP hS => ?_)
            refine lv_goto (tgt := 70) hx hb dX7_pair_62 (by decide) ?_
            exact W.iret (v := r_16) hx hb hr (fun t ht hW => ⟨⟨r_16, S_17, rfl, h, by rw [ht]; exact hP, va_K.moved hW.alike hK⟩, hS.F ht⟩) hS.2.2 dX7_pair_70
        · have h := h.2 c_19
          exact J42  _ _ _ _ h hP hS (lv_sub hl [0] rfl)
    · have h := h.2 c_21
      exact J20  _ _ _ _ h hP hS (lv_sub hl [0] rfl)
def wp_hasThird (p1 : Int32) (S : St) (post : Int32 → Prop) : Prop :=
  wp_degreeBy p1 2 S (fun r_1 =>
  ((r_1 ≤ 0 →
    post 0) ∧
   (¬ (r_1 ≤ 0) →
    post 1)))
set_option maxHeartbeats 4000000 in
theorem met_hasThird (l : Launch) (D : va_G) (cI cB : ClassId) (b : Nat) (p1 : Int32)  (S : St) (post : Int32 → Prop) (h : wp_hasThird p1 S post) : Met l yX7_hasThird (ws_ yX7_hasThird cX7_hasThird 2 (some .boolean)) ({ frames := 2, cells := 0, slots := 0, locals := 46 } : Room) (mPc D cI cB b [.ref b, .int p1] S) (mQp D cI cB b S post) 0 0 (mA b) := by
  refine Met.ofW (cc := cX7_hasThird) (maxL := 2) (ret := (some .boolean)) (by decide) rfl ?_
  intro p e s m args below meth c s₁ B hml hv
  obtain ⟨rfl, hP, hK⟩ := hv
  have hx := B.exec
  have hb := B.bytes
  have hr := B.returns
  have hts := atoms_spec (ws := ws_ yX7_hasThird cX7_hasThird 2 (some .boolean)) B.pre
  have hts : ∀ w ∈ lw_all, w.before _ s = true := fun w h => hts w (List.mem_cons_of_mem _ h)
  have hown : s.vm.findClass RX7 = some m.cls := findClass_of_methodNamed B.named
  have hlocks := B.notSynchronized
  have hS : va_S (mA b) s.heap s.heap [] := va_S.rf
  have hl := lv_entry ([.ref b, .int p1]) (n := 2) (Nat.le_of_ble_eq_true rfl)
  rw [lg_entry_eq]
  generalize (lg_sl ([.ref b, .int p1]) ++ List.replicate (2 - (lg_sl ([.ref b, .int p1])).length) Slot.unset).toArray = ls at hl ⊢
  have hl : lv_has ls 2 [(0, .ref b), (1, .int p1)] := hl
  unfold wp_hasThird at h
  refine lv_aload_n hx hb dX7_hasThird_0 rfl (lv_at hl 0 rfl) ?_
  refine lv_iload_n hx hb dX7_hasThird_1 rfl (lv_at hl 1 rfl) ?_
  refine lv_iconst (v := 2) hx hb dX7_hasThird_2 (by decide) ?_
  refine m_cVp (As := [.int p1, .int 2]) (rest := []) ⟨hx, hb, hml, hown, hts⟩ (met_degreeBy l D cI cB b p1 2  S _ h) (cwV 2 hts (lw_V q1559 q1561 qs82 q128 q1562) rfl rfl rfl cwd_degreeBy ⟨Nat.le_of_ble_eq_true rfl, Nat.le_of_ble_eq_true rfl⟩) hK hP hS rfl hl.1 rfl (Nat.le_of_ble_eq_true rfl) dX7_hasThird_3 ⟨Nat.zero_le _, Nat.zero_le _⟩ (fun r_1 H locs h hP hS => ?_)
  refine lv_if_le (tgt := 13) hx hb dX7_hasThird_6 (by decide) (fun c_3 => ?_) (fun c_3 => ?_)
  · have h := h.1 c_3
    refine lv_iconst (v := 0) hx hb dX7_hasThird_13 (by decide) ?_
    exact W.zret (v := 0) hx hb hr rfl (fun t ht hW => ⟨⟨0, (), rfl, h, by rw [ht]; exact hP, va_K.moved hW.alike hK⟩, hS.F ht⟩) hS.2.2 dX7_hasThird_14
  · have h := h.2 c_3
    refine lv_iconst (v := 1) hx hb dX7_hasThird_9 (by decide) ?_
    refine lv_goto (tgt := 14) hx hb dX7_hasThird_10 (by decide) ?_
    exact W.zret (v := 1) hx hb hr rfl (fun t ht hW => ⟨⟨1, (), rfl, h, by rw [ht]; exact hP, va_K.moved hW.alike hK⟩, hS.F ht⟩) hS.2.2 dX7_hasThird_14
def wp_laysRows_b29 (p1 : Int32) (p2 : Nat) (post : St → Prop) (R20 : Int32 → St → Prop) (R29 : Int32 → St → Prop) (x3 : Int32) (x4 : Int32) (S : St) : Prop :=
          ((16 ≤ x4 →
            ∀ x3_1 : Int32, x3_1 = x3 + 1 →
            R20 x3_1 S) ∧
           (¬ (16 ≤ x4) →
            wp_keyOf x3 x4 0 S (fun r_2 =>
            wp_coef p1 r_2 S (fun r_4 =>
            ∃ j_6 : Nat, j_6 < mlen p2 ∧ ((2304 * x3) + x4) = nI j_6 ∧ ∀ S_7 : St, S_7 = bw S p2 j_6 r_4 →
            ∀ x4_8 : Int32, x4_8 = x4 + 1 →
            R29 x4_8 S_7))))
def wp_laysRows_l29 (p1 : Int32) (p2 : Nat) (post : St → Prop) (R20 : Int32 → St → Prop) (x3 : Int32) (x4 : Int32) (S : St) : Prop := wLoop (fun (R : (Int32 × St) → Prop) (v : Int32 × St) => wp_laysRows_b29 p1 p2 post R20 (fun x4 S => R (x4, S)) x3 v.1 v.2) (x4, S)
def wp_laysRows_b20 (p1 : Int32) (p2 : Nat) (post : St → Prop) (R20 : Int32 → St → Prop)  (x3 : Int32) (S : St) : Prop :=
      ((16 ≤ x3 →
        post S) ∧
       (¬ (16 ≤ x3) →
        wp_laysRows_l29 p1 p2 post R20 x3 0 S))
def wp_laysRows_l20 (p1 : Int32) (p2 : Nat) (post : St → Prop)  (x3 : Int32) (S : St) : Prop := wLoop (fun (R : (Int32 × St) → Prop) (v : Int32 × St) => wp_laysRows_b20 p1 p2 post (fun x3 S => R (x3, S))  v.1 v.2) (x3, S)
def wp_laysRows_b2 (p1 : Int32) (p2 : Nat) (post : St → Prop) (R2 : Int32 → St → Prop)  (x3 : Int32) (S : St) : Prop :=
      ((36864 ≤ x3 →
        wp_laysRows_l20 p1 p2 post 0 S) ∧
       (¬ (36864 ≤ x3) →
        ∃ j_11 : Nat, j_11 < mlen p2 ∧ x3 = nI j_11 ∧ ∀ S_12 : St, S_12 = bw S p2 j_11 0 →
        ∀ x3_13 : Int32, x3_13 = x3 + 1 →
        R2 x3_13 S_12))
def wp_laysRows_l2 (p1 : Int32) (p2 : Nat) (post : St → Prop)  (x3 : Int32) (S : St) : Prop := wLoop (fun (R : (Int32 × St) → Prop) (v : Int32 × St) => wp_laysRows_b2 p1 p2 post (fun x3 S => R (x3, S))  v.1 v.2) (x3, S)
def wp_laysRows (p1 : Int32) (p2 : Nat) (S : St) (post : St → Prop) : Prop :=
  wp_laysRows_l2 p1 p2 post 0 S
set_option maxHeartbeats 4000000 in
theorem met_laysRows (l : Launch) (D : va_G) (cI cB : ClassId) (b : Nat) (p1 : Int32) (p2 : Nat) (hp2 : mok p2) (S : St) (post : St → Prop) (h : wp_laysRows p1 p2 S post) : Met l yX7_laysRows (ws_ yX7_laysRows cX7_laysRows 5 none) ({ frames := 1, cells := 0, slots := 0, locals := 22 } : Room) (mPc D cI cB b [.ref b, .int p1, .ref (b + p2)] S) (mQv D cI cB b post) 0 0 (mA b) := by
  refine Met.ofW (cc := cX7_laysRows) (maxL := 5) (ret := none) (by decide) rfl ?_
  intro p e s m args below meth c s₁ B hml hv
  obtain ⟨rfl, hP, hK⟩ := hv
  have hx := B.exec
  have hb := B.bytes
  have hr := B.returns
  have hts := atoms_spec (ws := ws_ yX7_laysRows cX7_laysRows 5 none) B.pre
  have hts : ∀ w ∈ lw_all, w.before _ s = true := fun w h => hts w (List.mem_cons_of_mem _ h)
  have hown : s.vm.findClass RX7 = some m.cls := findClass_of_methodNamed B.named
  have hlocks := B.notSynchronized
  have hS : va_S (mA b) s.heap s.heap [] := va_S.rf
  have hl := lv_entry ([.ref b, .int p1, .ref (b + p2)]) (n := 5) (Nat.le_of_ble_eq_true rfl)
  rw [lg_entry_eq]
  generalize (lg_sl ([.ref b, .int p1, .ref (b + p2)]) ++ List.replicate (5 - (lg_sl ([.ref b, .int p1, .ref (b + p2)])).length) Slot.unset).toArray = ls at hl ⊢
  have hl : lv_has ls 5 [(0, .ref b), (1, .int p1), (2, .ref (b + p2))] := hl
  have L20 : ∀  (x3 : Int32) (S : St) (H : Heap) (locs : List Loc) (ls : Array Slot), wp_laysRows_l20 p1 p2 post  x3 S → mW D cI cB b S H → va_S (mA b) s.heap H locs → lv_has ls 5 [(0, .ref b), (1, .int p1), (2, .ref (b + p2)), (3, .int x3)] → W p l e (headSpec (ws_ yX7_laysRows cX7_laysRows 5 none) ({ frames := 1, cells := 0, slots := 0, locals := 22 } : Room)).room s m ([.ref b, .int p1, .ref (b + p2)] : List Value).toArray below meth c H locs 0 0 (MQ below (mQv D cI cB b post) ([.ref b, .int p1, .ref (b + p2)] : List Value).toArray s 0 0 (mA b)) (F0 m 20 ls []) := by
    intro  x3 S H locs ls h hP hS hl
    obtain ⟨I20, n20, hI, hstep20⟩ := h
    induction n20 using Nat.strongRecOn generalizing x3 S H locs ls with
    | ind n20 ih20 =>
      have h : wp_laysRows_b20 p1 p2 post (fun x3 S => ∃ mm, mm < n20 ∧ I20 mm (x3, S))  x3 S := hstep20 n20 _ hI
      clear hI
      have L29 : ∀ (x3 : Int32) (x4 : Int32) (S : St) (H : Heap) (locs : List Loc) (ls : Array Slot), wp_laysRows_l29 p1 p2 post (fun x3 S => ∃ mm, mm < n20 ∧ I20 mm (x3, S)) x3 x4 S → mW D cI cB b S H → va_S (mA b) s.heap H locs → lv_has ls 5 [(0, .ref b), (1, .int p1), (2, .ref (b + p2)), (3, .int x3), (4, .int x4)] → W p l e (headSpec (ws_ yX7_laysRows cX7_laysRows 5 none) ({ frames := 1, cells := 0, slots := 0, locals := 22 } : Room)).room s m ([.ref b, .int p1, .ref (b + p2)] : List Value).toArray below meth c H locs 0 0 (MQ below (mQv D cI cB b post) ([.ref b, .int p1, .ref (b + p2)] : List Value).toArray s 0 0 (mA b)) (F0 m 29 ls []) := by
        intro x3 x4 S H locs ls h hP hS hl
        obtain ⟨I29, n29, hI, hstep29⟩ := h
        induction n29 using Nat.strongRecOn generalizing x4 S H locs ls with
        | ind n29 ih29 =>
          have h : wp_laysRows_b29 p1 p2 post (fun x3 S => ∃ mm, mm < n20 ∧ I20 mm (x3, S)) (fun x4 S => ∃ mm, mm < n29 ∧ I29 mm (x4, S)) x3 x4 S := hstep29 n29 _ hI
          clear hI
          unfold wp_laysRows_b29 at h
          refine lv_iload hx hb dX7_laysRows_29 (lv_at hl 4 rfl) ?_
          refine lv_bipush (v := 16) hx hb dX7_laysRows_31 (by decide) ?_
          refine lv_icmp_ge (tgt := 64) hx hb dX7_laysRows_33 (by decide) (fun c_9 => ?_) (fun c_9 => ?_)
          · have h := h.1 c_9
            obtain ⟨x3_1, ex3_1⟩ : ∃ y : Int32, y = x3 + 1 := ⟨_, rfl⟩
            have h := h x3_1 ex3_1
            refine lv_iinc (v := x3_1) (lv' := [(3, .int x3_1), (0, .ref b), (1, .int p1), (2, .ref (b + p2)), (4, .int x4)]) hx hb dX7_laysRows_64 hl (k := 3) rfl (by rw [ex3_1]; rfl) (by decide) rfl (fun ls hl => ?_)
            refine lv_goto (tgt := 20) hx hb dX7_laysRows_67 (by decide) ?_
            obtain ⟨mm, hmm, h⟩ := h
            exact ih20 mm hmm _ _ _ _ _ hP hS (lv_sub hl [1, 2, 3, 0] rfl) h
          · have h := h.2 c_9
            refine lv_aload_n hx hb dX7_laysRows_36 rfl (lv_at hl 2 rfl) ?_
            refine lv_sipush (v := 2304) hx hb dX7_laysRows_37 (by decide) ?_
            refine lv_iload_n hx hb dX7_laysRows_40 rfl (lv_at hl 3 rfl) ?_
            refine lv_imul hx hb dX7_laysRows_41 ?_
            refine lv_iload hx hb dX7_laysRows_42 (lv_at hl 4 rfl) ?_
            refine lv_iadd hx hb dX7_laysRows_44 ?_
            refine lv_aload_n hx hb dX7_laysRows_45 rfl (lv_at hl 0 rfl) ?_
            refine lv_iload_n hx hb dX7_laysRows_46 rfl (lv_at hl 1 rfl) ?_
            refine lv_iload_n hx hb dX7_laysRows_47 rfl (lv_at hl 3 rfl) ?_
            refine lv_iload hx hb dX7_laysRows_48 (lv_at hl 4 rfl) ?_
            refine lv_iconst (v := 0) hx hb dX7_laysRows_50 (by decide) ?_
            refine m_cSp (As := [.int x3, .int x4, .int 0]) (rest := [.int p1, .ref b, .int ((2304 * x3) + x4), .ref (b + p2)]) ⟨hx, hb, hml, hown, hts⟩ (met_keyOf l D cI cB b x3 x4 0  S _ h) (va_cwS 3 hts (lw_S q1570 q1571 q128 q1572) rfl rfl rfl cwd_keyOf ⟨Nat.le_of_ble_eq_true rfl, Nat.le_of_ble_eq_true rfl⟩) hK hP hS rfl hl.1 rfl (Nat.le_of_ble_eq_true rfl) dX7_laysRows_51 ⟨Nat.zero_le _, Nat.zero_le _⟩ (fun r_2 H locs h hP hS => ?_)
            refine m_cVp (As := [.int p1, .int r_2]) (rest := [.int ((2304 * x3) + x4), .ref (b + p2)]) ⟨hx, hb, hml, hown, hts⟩ (met_coef l D cI cB b p1 r_2  S _ h) (cwV 2 hts (lw_V q1526 q1528 qs80 q128 q1529) rfl rfl rfl cwd_coef ⟨Nat.le_of_ble_eq_true rfl, Nat.le_of_ble_eq_true rfl⟩) hK hP hS rfl hl.1 rfl (Nat.le_of_ble_eq_true rfl) dX7_laysRows_54 ⟨Nat.zero_le _, Nat.zero_le _⟩ (fun r_4 H locs h hP hS => ?_)
            obtain ⟨j_6, hj_6, ej_6, h⟩ := h
            obtain ⟨S_7, eS_7⟩ : ∃ z : St, z = bw S p2 j_6 r_4 := ⟨_, rfl⟩
            have h := h S_7 eS_7
            refine m_iast hx hb hK hP hS (k := p2) hp2 ej_6 hj_6 dX7_laysRows_57 (fun H locs hP hS => ?_)
            rw [← eS_7] at hP
            obtain ⟨x4_8, ex4_8⟩ : ∃ y : Int32, y = x4 + 1 := ⟨_, rfl⟩
            have h := h x4_8 ex4_8
            refine lv_iinc (v := x4_8) (lv' := [(4, .int x4_8), (0, .ref b), (1, .int p1), (2, .ref (b + p2)), (3, .int x3)]) hx hb dX7_laysRows_58 hl (k := 4) rfl (by rw [ex4_8]; rfl) (by decide) rfl (fun ls hl => ?_)
            refine lv_goto (tgt := 29) hx hb dX7_laysRows_61 (by decide) ?_
            obtain ⟨mm, hmm, h⟩ := h
            exact ih29 mm hmm _ _ _ _ _ hP hS (lv_sub hl [1, 2, 3, 4, 0] rfl) h
      unfold wp_laysRows_b20 at h
      refine lv_iload_n hx hb dX7_laysRows_20 rfl (lv_at hl 3 rfl) ?_
      refine lv_bipush (v := 16) hx hb dX7_laysRows_21 (by decide) ?_
      refine lv_icmp_ge (tgt := 70) hx hb dX7_laysRows_23 (by decide) (fun c_10 => ?_) (fun c_10 => ?_)
      · have h := h.1 c_10
        exact W.vret hx hb hr (fun t ht hW => ⟨⟨S, rfl, h, by rw [ht]; exact hP, va_K.moved hW.alike hK⟩, hS.F ht⟩) hS.2.2 dX7_laysRows_70
      · have h := h.2 c_10
        refine lv_iconst (v := 0) hx hb dX7_laysRows_26 (by decide) ?_
        refine lv_istore (lv' := [(4, .int 0), (0, .ref b), (1, .int p1), (2, .ref (b + p2)), (3, .int x3)]) hx hb dX7_laysRows_27 hl (by decide) rfl (fun ls hl => ?_)
        exact L29 _ _ _ _ _ _ h hP hS (lv_sub hl [1, 2, 3, 4, 0] rfl)
  have L2 : ∀  (x3 : Int32) (S : St) (H : Heap) (locs : List Loc) (ls : Array Slot), wp_laysRows_l2 p1 p2 post  x3 S → mW D cI cB b S H → va_S (mA b) s.heap H locs → lv_has ls 5 [(0, .ref b), (1, .int p1), (2, .ref (b + p2)), (3, .int x3)] → W p l e (headSpec (ws_ yX7_laysRows cX7_laysRows 5 none) ({ frames := 1, cells := 0, slots := 0, locals := 22 } : Room)).room s m ([.ref b, .int p1, .ref (b + p2)] : List Value).toArray below meth c H locs 0 0 (MQ below (mQv D cI cB b post) ([.ref b, .int p1, .ref (b + p2)] : List Value).toArray s 0 0 (mA b)) (F0 m 2 ls []) := by
    intro  x3 S H locs ls h hP hS hl
    obtain ⟨I2, n2, hI, hstep2⟩ := h
    induction n2 using Nat.strongRecOn generalizing x3 S H locs ls with
    | ind n2 ih2 =>
      have h : wp_laysRows_b2 p1 p2 post (fun x3 S => ∃ mm, mm < n2 ∧ I2 mm (x3, S))  x3 S := hstep2 n2 _ hI
      clear hI
      unfold wp_laysRows_b2 at h
      refine lv_iload_n hx hb dX7_laysRows_2 rfl (lv_at hl 3 rfl) ?_
      refine lv_ldc (v := 36864) hx hb hown (hts _ q1209) dX7_laysRows_3 ?_
      refine lv_icmp_ge (tgt := 18) hx hb dX7_laysRows_5 (by decide) (fun c_14 => ?_) (fun c_14 => ?_)
      · have h := h.1 c_14
        refine lv_iconst (v := 0) hx hb dX7_laysRows_18 (by decide) ?_
        refine lv_istore_n (lv' := [(3, .int 0), (0, .ref b), (1, .int p1), (2, .ref (b + p2))]) hx hb dX7_laysRows_19 rfl hl (by decide) rfl (fun ls hl => ?_)
        exact L20 _ _ _ _ _ h hP hS (lv_sub hl [1, 2, 3, 0] rfl)
      · have h := h.2 c_14
        refine lv_aload_n hx hb dX7_laysRows_8 rfl (lv_at hl 2 rfl) ?_
        refine lv_iload_n hx hb dX7_laysRows_9 rfl (lv_at hl 3 rfl) ?_
        refine lv_iconst (v := 0) hx hb dX7_laysRows_10 (by decide) ?_
        obtain ⟨j_11, hj_11, ej_11, h⟩ := h
        obtain ⟨S_12, eS_12⟩ : ∃ z : St, z = bw S p2 j_11 0 := ⟨_, rfl⟩
        have h := h S_12 eS_12
        refine m_iast hx hb hK hP hS (k := p2) hp2 ej_11 hj_11 dX7_laysRows_11 (fun H locs hP hS => ?_)
        rw [← eS_12] at hP
        obtain ⟨x3_13, ex3_13⟩ : ∃ y : Int32, y = x3 + 1 := ⟨_, rfl⟩
        have h := h x3_13 ex3_13
        refine lv_iinc (v := x3_13) (lv' := [(3, .int x3_13), (0, .ref b), (1, .int p1), (2, .ref (b + p2))]) hx hb dX7_laysRows_12 hl (k := 3) rfl (by rw [ex3_13]; rfl) (by decide) rfl (fun ls hl => ?_)
        refine lv_goto (tgt := 2) hx hb dX7_laysRows_15 (by decide) ?_
        obtain ⟨mm, hmm, h⟩ := h
        exact ih2 mm hmm _ _ _ _ _ hP hS (lv_sub hl [1, 2, 3, 0] rfl) h
  unfold wp_laysRows at h
  refine lv_iconst (v := 0) hx hb dX7_laysRows_0 (by decide) ?_
  refine lv_istore_n (lv' := [(3, .int 0), (0, .ref b), (1, .int p1), (2, .ref (b + p2))]) hx hb dX7_laysRows_1 rfl hl (by decide) rfl (fun ls hl => ?_)
  exact L2 _ _ _ _ _ h hP hS (lv_sub hl [1, 2, 3, 0] rfl)
def wp_heightOf_b4 (p1 : Nat) (p2 : Int32) (post : Int32 → Prop) (R4 : Int32 → Prop)  (x2 : Int32) (S : St) : Prop :=
      ((x2 < 0 →
        post (-1)) ∧
       (¬ (x2 < 0) →
        ∃ j_1 : Nat, j_1 < mlen p1 ∧ (p2 + x2) = nI j_1 ∧
        (((S p1 j_1) = 0 →
          ∀ x2_2 : Int32, x2_2 = x2 + (-1) →
          R4 x2_2) ∧
         (¬ ((S p1 j_1) = 0) →
          post x2))))
def wp_heightOf_l4 (p1 : Nat) (p2 : Int32) (post : Int32 → Prop)  (x2 : Int32) (S : St) : Prop := wLoop (fun (R : Int32 → Prop) (v : Int32) => wp_heightOf_b4 p1 p2 post (fun x2 => R x2)  v S) x2
def wp_heightOf (p1 : Nat) (p2 : Int32) (S : St) (post : Int32 → Prop) : Prop :=
  wp_heightOf_l4 p1 p2 post 2303 S
set_option maxHeartbeats 4000000 in
theorem met_heightOf (l : Launch) (D : va_G) (cI cB : ClassId) (b : Nat) (p1 : Nat) (p2 : Int32) (hp1 : mok p1) (S : St) (post : Int32 → Prop) (h : wp_heightOf p1 p2 S post) : Met l yX7_heightOf (ws_ yX7_heightOf cX7_heightOf 3 (some .int)) ({ frames := 0, cells := 0, slots := 0, locals := 0 } : Room) (mPc D cI cB b [.ref (b + p1), .int p2] S) (mQp D cI cB b S post) 0 0 (mA b) := by
  refine Met.ofW (cc := cX7_heightOf) (maxL := 3) (ret := (some .int)) (by decide) rfl ?_
  intro p e s m args below meth c s₁ B hml hv
  obtain ⟨rfl, hP, hK⟩ := hv
  have hx := B.exec
  have hb := B.bytes
  have hr := B.returns
  have hts := atoms_spec (ws := ws_ yX7_heightOf cX7_heightOf 3 (some .int)) B.pre
  have hts : ∀ w ∈ lw_all, w.before _ s = true := fun w h => hts w (List.mem_cons_of_mem _ h)
  have hown : s.vm.findClass RX7 = some m.cls := findClass_of_methodNamed B.named
  have hlocks := B.notSynchronized
  have hS : va_S (mA b) s.heap s.heap [] := va_S.rf
  have hl := lv_entry ([.ref (b + p1), .int p2]) (n := 3) (Nat.le_of_ble_eq_true rfl)
  rw [lg_entry_eq]
  generalize (lg_sl ([.ref (b + p1), .int p2]) ++ List.replicate (3 - (lg_sl ([.ref (b + p1), .int p2])).length) Slot.unset).toArray = ls at hl ⊢
  have hl : lv_has ls 3 [(0, .ref (b + p1)), (1, .int p2)] := hl
  have L4 : ∀  (x2 : Int32) (H : Heap) (locs : List Loc) (ls : Array Slot), wp_heightOf_l4 p1 p2 post  x2 S → mW D cI cB b S H → va_S (mA b) s.heap H locs → lv_has ls 3 [(0, .ref (b + p1)), (1, .int p2), (2, .int x2)] → W p l e (headSpec (ws_ yX7_heightOf cX7_heightOf 3 (some .int)) ({ frames := 0, cells := 0, slots := 0, locals := 0 } : Room)).room s m ([.ref (b + p1), .int p2] : List Value).toArray below meth c H locs 0 0 (MQ below (mQp D cI cB b S post) ([.ref (b + p1), .int p2] : List Value).toArray s 0 0 (mA b)) (F0 m 4 ls []) := by
    intro  x2  H locs ls h hP hS hl
    obtain ⟨I4, n4, hI, hstep4⟩ := h
    induction n4 using Nat.strongRecOn generalizing x2 H locs ls with
    | ind n4 ih4 =>
      have h : wp_heightOf_b4 p1 p2 post (fun x2 => ∃ mm, mm < n4 ∧ I4 mm x2)  x2 S := hstep4 n4 _ hI
      clear hI
      unfold wp_heightOf_b4 at h
      refine lv_iload_n hx hb dX7_heightOf_4 rfl (lv_at hl 2 rfl) ?_
      refine lv_if_lt (tgt := 24) hx hb dX7_heightOf_5 (by decide) (fun c_4 => ?_) (fun c_4 => ?_)
      · have h := h.1 c_4
        refine lv_iconst (v := (-1)) hx hb dX7_heightOf_24 (by decide) ?_
        exact W.iret (v := (-1)) hx hb hr (fun t ht hW => ⟨⟨(-1), (), rfl, h, by rw [ht]; exact hP, va_K.moved hW.alike hK⟩, hS.F ht⟩) hS.2.2 dX7_heightOf_25
      · have h := h.2 c_4
        refine lv_aload_n hx hb dX7_heightOf_8 rfl (lv_at hl 0 rfl) ?_
        refine lv_iload_n hx hb dX7_heightOf_9 rfl (lv_at hl 1 rfl) ?_
        refine lv_iload_n hx hb dX7_heightOf_10 rfl (lv_at hl 2 rfl) ?_
        refine lv_iadd hx hb dX7_heightOf_11 ?_
        obtain ⟨j_1, hj_1, ej_1, h⟩ := h
        refine m_iald hx hb hK hP (k := p1) hp1 ej_1 hj_1 dX7_heightOf_12 ?_
        refine lv_if_eq (tgt := 18) hx hb dX7_heightOf_13 (by decide) (fun c_3 => ?_) (fun c_3 => ?_)
        · have h := h.1 c_3
          obtain ⟨x2_2, ex2_2⟩ : ∃ y : Int32, y = x2 + (-1) := ⟨_, rfl⟩
          have h := h x2_2 ex2_2
          refine lv_iinc (v := x2_2) (lv' := [(2, .int x2_2), (0, .ref (b + p1)), (1, .int p2)]) hx hb dX7_heightOf_18 hl (k := 2) rfl (by rw [ex2_2]; rfl) (by decide) rfl (fun ls hl => ?_)
          refine lv_goto (tgt := 4) hx hb dX7_heightOf_21 (by decide) ?_
          obtain ⟨mm, hmm, h⟩ := h
          exact ih4 mm hmm _ _ _ _ hP hS (lv_sub hl [1, 2, 0] rfl) h
        · have h := h.2 c_3
          refine lv_iload_n hx hb dX7_heightOf_16 rfl (lv_at hl 2 rfl) ?_
          exact W.iret (v := x2) hx hb hr (fun t ht hW => ⟨⟨x2, (), rfl, h, by rw [ht]; exact hP, va_K.moved hW.alike hK⟩, hS.F ht⟩) hS.2.2 dX7_heightOf_17
  unfold wp_heightOf at h
  refine lv_sipush (v := 2303) hx hb dX7_heightOf_0 (by decide) ?_
  refine lv_istore_n (lv' := [(2, .int 2303), (0, .ref (b + p1)), (1, .int p2)]) hx hb dX7_heightOf_3 rfl hl (by decide) rfl (fun ls hl => ?_)
  exact L4 _  _ _ _ h hP hS (lv_sub hl [1, 2, 0] rfl)
def wp_degreeX_b3 (p1 : Nat) (post : Int32 → Prop) (R3 : Int32 → Prop)  (x1 : Int32) (S : St) : Prop :=
      ((x1 < 0 →
        post (-1)) ∧
       (¬ (x1 < 0) →
        wp_heightOf p1 (2304 * x1) S (fun r_1 =>
        ((r_1 = (-1) →
          ∀ x1_3 : Int32, x1_3 = x1 + (-1) →
          R3 x1_3) ∧
         (¬ (r_1 = (-1)) →
          post x1)))))
def wp_degreeX_l3 (p1 : Nat) (post : Int32 → Prop)  (x1 : Int32) (S : St) : Prop := wLoop (fun (R : Int32 → Prop) (v : Int32) => wp_degreeX_b3 p1 post (fun x1 => R x1)  v S) x1
def wp_degreeX (p1 : Nat) (S : St) (post : Int32 → Prop) : Prop :=
  wp_degreeX_l3 p1 post 15 S
set_option maxHeartbeats 4000000 in
theorem met_degreeX (l : Launch) (D : va_G) (cI cB : ClassId) (b : Nat) (p1 : Nat) (hp1 : mok p1) (S : St) (post : Int32 → Prop) (h : wp_degreeX p1 S post) : Met l yX7_degreeX (ws_ yX7_degreeX cX7_degreeX 2 (some .int)) ({ frames := 1, cells := 0, slots := 0, locals := 22 } : Room) (mPc D cI cB b [.ref (b + p1)] S) (mQp D cI cB b S post) 0 0 (mA b) := by
  refine Met.ofW (cc := cX7_degreeX) (maxL := 2) (ret := (some .int)) (by decide) rfl ?_
  intro p e s m args below meth c s₁ B hml hv
  obtain ⟨rfl, hP, hK⟩ := hv
  have hx := B.exec
  have hb := B.bytes
  have hr := B.returns
  have hts := atoms_spec (ws := ws_ yX7_degreeX cX7_degreeX 2 (some .int)) B.pre
  have hts : ∀ w ∈ lw_all, w.before _ s = true := fun w h => hts w (List.mem_cons_of_mem _ h)
  have hown : s.vm.findClass RX7 = some m.cls := findClass_of_methodNamed B.named
  have hlocks := B.notSynchronized
  have hS : va_S (mA b) s.heap s.heap [] := va_S.rf
  have hl := lv_entry ([.ref (b + p1)]) (n := 2) (Nat.le_of_ble_eq_true rfl)
  rw [lg_entry_eq]
  generalize (lg_sl ([.ref (b + p1)]) ++ List.replicate (2 - (lg_sl ([.ref (b + p1)])).length) Slot.unset).toArray = ls at hl ⊢
  have hl : lv_has ls 2 [(0, .ref (b + p1))] := hl
  have L3 : ∀  (x1 : Int32) (H : Heap) (locs : List Loc) (ls : Array Slot), wp_degreeX_l3 p1 post  x1 S → mW D cI cB b S H → va_S (mA b) s.heap H locs → lv_has ls 2 [(0, .ref (b + p1)), (1, .int x1)] → W p l e (headSpec (ws_ yX7_degreeX cX7_degreeX 2 (some .int)) ({ frames := 1, cells := 0, slots := 0, locals := 22 } : Room)).room s m ([.ref (b + p1)] : List Value).toArray below meth c H locs 0 0 (MQ below (mQp D cI cB b S post) ([.ref (b + p1)] : List Value).toArray s 0 0 (mA b)) (F0 m 3 ls []) := by
    intro  x1  H locs ls h hP hS hl
    obtain ⟨I3, n3, hI, hstep3⟩ := h
    induction n3 using Nat.strongRecOn generalizing x1 H locs ls with
    | ind n3 ih3 =>
      have h : wp_degreeX_b3 p1 post (fun x1 => ∃ mm, mm < n3 ∧ I3 mm x1)  x1 S := hstep3 n3 _ hI
      clear hI
      unfold wp_degreeX_b3 at h
      refine lv_iload_n hx hb dX7_degreeX_3 rfl (lv_at hl 1 rfl) ?_
      refine lv_if_lt (tgt := 28) hx hb dX7_degreeX_4 (by decide) (fun c_5 => ?_) (fun c_5 => ?_)
      · have h := h.1 c_5
        refine lv_iconst (v := (-1)) hx hb dX7_degreeX_28 (by decide) ?_
        exact W.iret (v := (-1)) hx hb hr (fun t ht hW => ⟨⟨(-1), (), rfl, h, by rw [ht]; exact hP, va_K.moved hW.alike hK⟩, hS.F ht⟩) hS.2.2 dX7_degreeX_29
      · have h := h.2 c_5
        refine lv_aload_n hx hb dX7_degreeX_7 rfl (lv_at hl 0 rfl) ?_
        refine lv_sipush (v := 2304) hx hb dX7_degreeX_8 (by decide) ?_
        refine lv_iload_n hx hb dX7_degreeX_11 rfl (lv_at hl 1 rfl) ?_
        refine lv_imul hx hb dX7_degreeX_12 ?_
        refine m_cSp (As := [.ref (b + p1), .int (2304 * x1)]) (rest := []) ⟨hx, hb, hml, hown, hts⟩ (met_heightOf l D cI cB b p1 (2304 * x1) hp1 S _ h) (va_cwS 2 hts (lw_S q1760 q1761 q128 q1762) rfl rfl rfl cwd_heightOf ⟨Nat.le_of_ble_eq_true rfl, Nat.le_of_ble_eq_true rfl⟩) hK hP hS rfl hl.1 rfl (Nat.le_of_ble_eq_true rfl) dX7_degreeX_13 ⟨Nat.zero_le _, Nat.zero_le _⟩ (fun r_1 H locs h hP hS => ?_)
        refine lv_iconst (v := (-1)) hx hb dX7_degreeX_16 (by decide) ?_
        refine lv_icmp_eq (tgt := 22) hx hb dX7_degreeX_17 (by decide) (fun c_4 => ?_) (fun c_4 => ?_)
        · have h := h.1 c_4
          obtain ⟨x1_3, ex1_3⟩ : ∃ y : Int32, y = x1 + (-1) := ⟨_, rfl⟩
          have h := h x1_3 ex1_3
          refine lv_iinc (v := x1_3) (lv' := [(1, .int x1_3), (0, .ref (b + p1))]) hx hb dX7_degreeX_22 hl (k := 1) rfl (by rw [ex1_3]; rfl) (by decide) rfl (fun ls hl => ?_)
          refine lv_goto (tgt := 3) hx hb dX7_degreeX_25 (by decide) ?_
          obtain ⟨mm, hmm, h⟩ := h
          exact ih3 mm hmm _ _ _ _ hP hS (lv_sub hl [1, 0] rfl) h
        · have h := h.2 c_4
          refine lv_iload_n hx hb dX7_degreeX_20 rfl (lv_at hl 1 rfl) ?_
          exact W.iret (v := x1) hx hb hr (fun t ht hW => ⟨⟨x1, (), rfl, h, by rw [ht]; exact hP, va_K.moved hW.alike hK⟩, hS.F ht⟩) hS.2.2 dX7_degreeX_21
  unfold wp_degreeX at h
  refine lv_bipush (v := 15) hx hb dX7_degreeX_0 (by decide) ?_
  refine lv_istore_n (lv' := [(1, .int 15), (0, .ref (b + p1))]) hx hb dX7_degreeX_2 rfl hl (by decide) rfl (fun ls hl => ?_)
  exact L3 _  _ _ _ h hP hS (lv_sub hl [1, 0] rfl)
def wp_copies_b2 (p1 : Nat) (p2 : Int32) (p3 : Nat) (post : St → Prop) (R2 : Int32 → St → Prop)  (x3 : Int32) (S : St) : Prop :=
      ((2304 ≤ x3 →
        post S) ∧
       (¬ (2304 ≤ x3) →
        ∃ j_1 : Nat, j_1 < mlen p1 ∧ (p2 + x3) = nI j_1 ∧
        ∃ j_2 : Nat, j_2 < mlen p3 ∧ x3 = nI j_2 ∧ ∀ S_3 : St, S_3 = bw S p3 j_2 (S p1 j_1) →
        ∀ x3_4 : Int32, x3_4 = x3 + 1 →
        R2 x3_4 S_3))
def wp_copies_l2 (p1 : Nat) (p2 : Int32) (p3 : Nat) (post : St → Prop)  (x3 : Int32) (S : St) : Prop := wLoop (fun (R : (Int32 × St) → Prop) (v : Int32 × St) => wp_copies_b2 p1 p2 p3 post (fun x3 S => R (x3, S))  v.1 v.2) (x3, S)
def wp_copies (p1 : Nat) (p2 : Int32) (p3 : Nat) (S : St) (post : St → Prop) : Prop :=
  wp_copies_l2 p1 p2 p3 post 0 S
set_option maxHeartbeats 4000000 in
theorem met_copies (l : Launch) (D : va_G) (cI cB : ClassId) (b : Nat) (p1 : Nat) (p2 : Int32) (p3 : Nat) (hp1 : mok p1) (hp3 : mok p3) (S : St) (post : St → Prop) (h : wp_copies p1 p2 p3 S post) : Met l yX7_copies (ws_ yX7_copies cX7_copies 4 none) ({ frames := 0, cells := 0, slots := 0, locals := 0 } : Room) (mPc D cI cB b [.ref (b + p1), .int p2, .ref (b + p3)] S) (mQv D cI cB b post) 0 0 (mA b) := by
  refine Met.ofW (cc := cX7_copies) (maxL := 4) (ret := none) (by decide) rfl ?_
  intro p e s m args below meth c s₁ B hml hv
  obtain ⟨rfl, hP, hK⟩ := hv
  have hx := B.exec
  have hb := B.bytes
  have hr := B.returns
  have hts := atoms_spec (ws := ws_ yX7_copies cX7_copies 4 none) B.pre
  have hts : ∀ w ∈ lw_all, w.before _ s = true := fun w h => hts w (List.mem_cons_of_mem _ h)
  have hown : s.vm.findClass RX7 = some m.cls := findClass_of_methodNamed B.named
  have hlocks := B.notSynchronized
  have hS : va_S (mA b) s.heap s.heap [] := va_S.rf
  have hl := lv_entry ([.ref (b + p1), .int p2, .ref (b + p3)]) (n := 4) (Nat.le_of_ble_eq_true rfl)
  rw [lg_entry_eq]
  generalize (lg_sl ([.ref (b + p1), .int p2, .ref (b + p3)]) ++ List.replicate (4 - (lg_sl ([.ref (b + p1), .int p2, .ref (b + p3)])).length) Slot.unset).toArray = ls at hl ⊢
  have hl : lv_has ls 4 [(0, .ref (b + p1)), (1, .int p2), (2, .ref (b + p3))] := hl
  have L2 : ∀  (x3 : Int32) (S : St) (H : Heap) (locs : List Loc) (ls : Array Slot), wp_copies_l2 p1 p2 p3 post  x3 S → mW D cI cB b S H → va_S (mA b) s.heap H locs → lv_has ls 4 [(0, .ref (b + p1)), (1, .int p2), (2, .ref (b + p3)), (3, .int x3)] → W p l e (headSpec (ws_ yX7_copies cX7_copies 4 none) ({ frames := 0, cells := 0, slots := 0, locals := 0 } : Room)).room s m ([.ref (b + p1), .int p2, .ref (b + p3)] : List Value).toArray below meth c H locs 0 0 (MQ below (mQv D cI cB b post) ([.ref (b + p1), .int p2, .ref (b + p3)] : List Value).toArray s 0 0 (mA b)) (F0 m 2 ls []) := by
    intro  x3 S H locs ls h hP hS hl
    obtain ⟨I2, n2, hI, hstep2⟩ := h
    induction n2 using Nat.strongRecOn generalizing x3 S H locs ls with
    | ind n2 ih2 =>
      have h : wp_copies_b2 p1 p2 p3 post (fun x3 S => ∃ mm, mm < n2 ∧ I2 mm (x3, S))  x3 S := hstep2 n2 _ hI
      clear hI
      unfold wp_copies_b2 at h
      refine lv_iload_n hx hb dX7_copies_2 rfl (lv_at hl 3 rfl) ?_
      refine lv_sipush (v := 2304) hx hb dX7_copies_3 (by decide) ?_
      refine lv_icmp_ge (tgt := 23) hx hb dX7_copies_6 (by decide) (fun c_5 => ?_) (fun c_5 => ?_)
      · have h := h.1 c_5
        exact W.vret hx hb hr (fun t ht hW => ⟨⟨S, rfl, h, by rw [ht]; exact hP, va_K.moved hW.alike hK⟩, hS.F ht⟩) hS.2.2 dX7_copies_23
      · have h := h.2 c_5
        refine lv_aload_n hx hb dX7_copies_9 rfl (lv_at hl 2 rfl) ?_
        refine lv_iload_n hx hb dX7_copies_10 rfl (lv_at hl 3 rfl) ?_
        refine lv_aload_n hx hb dX7_copies_11 rfl (lv_at hl 0 rfl) ?_
        refine lv_iload_n hx hb dX7_copies_12 rfl (lv_at hl 1 rfl) ?_
        refine lv_iload_n hx hb dX7_copies_13 rfl (lv_at hl 3 rfl) ?_
        refine lv_iadd hx hb dX7_copies_14 ?_
        obtain ⟨j_1, hj_1, ej_1, h⟩ := h
        refine m_iald hx hb hK hP (k := p1) hp1 ej_1 hj_1 dX7_copies_15 ?_
        obtain ⟨j_2, hj_2, ej_2, h⟩ := h
        obtain ⟨S_3, eS_3⟩ : ∃ z : St, z = bw S p3 j_2 (S p1 j_1) := ⟨_, rfl⟩
        have h := h S_3 eS_3
        refine m_iast hx hb hK hP hS (k := p3) hp3 ej_2 hj_2 dX7_copies_16 (fun H locs hP hS => ?_)
        rw [← eS_3] at hP
        obtain ⟨x3_4, ex3_4⟩ : ∃ y : Int32, y = x3 + 1 := ⟨_, rfl⟩
        have h := h x3_4 ex3_4
        refine lv_iinc (v := x3_4) (lv' := [(3, .int x3_4), (0, .ref (b + p1)), (1, .int p2), (2, .ref (b + p3))]) hx hb dX7_copies_17 hl (k := 3) rfl (by rw [ex3_4]; rfl) (by decide) rfl (fun ls hl => ?_)
        refine lv_goto (tgt := 2) hx hb dX7_copies_20 (by decide) ?_
        obtain ⟨mm, hmm, h⟩ := h
        exact ih2 mm hmm _ _ _ _ _ hP hS (lv_sub hl [1, 2, 3, 0] rfl) h
  unfold wp_copies at h
  refine lv_iconst (v := 0) hx hb dX7_copies_0 (by decide) ?_
  refine lv_istore_n (lv' := [(3, .int 0), (0, .ref (b + p1)), (1, .int p2), (2, .ref (b + p3))]) hx hb dX7_copies_1 rfl hl (by decide) rfl (fun ls hl => ?_)
  exact L2 _ _ _ _ _ h hP hS (lv_sub hl [1, 2, 3, 0] rfl)
def wp_leaves_b118 (p1 : Nat) (p2 : Int32) (p3 : Nat) (p4 : Int32) (post : Int32 → St → Prop) (R118 : Int32 → Prop)  (x6 : Int32) (S : St) : Prop :=
      ((x6 < 0 →
        post x6 S) ∧
       (¬ (x6 < 0) →
        ∃ j_1 : Nat, j_1 < mlen p1 ∧ x6 = nI j_1 ∧
        ((¬ (S p1 j_1) = 0 →
          post x6 S) ∧
         ((S p1 j_1) = 0 →
          ∀ x6_2 : Int32, x6_2 = x6 + (-1) →
          R118 x6_2))))
def wp_leaves_l118 (p1 : Nat) (p2 : Int32) (p3 : Nat) (p4 : Int32) (post : Int32 → St → Prop)  (x6 : Int32) (S : St) : Prop := wLoop (fun (R : Int32 → Prop) (v : Int32) => wp_leaves_b118 p1 p2 p3 p4 post (fun x6 => R x6)  v S) x6
def wp_leaves_j96 (p1 : Nat) (p2 : Int32) (p3 : Nat) (p4 : Int32) (post : Int32 → St → Prop) (R13 : Int32 → St → Prop) (x5 : Int32) (x6 : Int32) (S : St) : Prop :=
        ∀ x6_5 : Int32, x6_5 = x6 + (-1) →
        R13 x6_5 S
def wp_leaves_b45 (p1 : Nat) (p2 : Int32) (p3 : Nat) (p4 : Int32) (post : Int32 → St → Prop) (R13 : Int32 → St → Prop) (R45 : Int32 → St → Prop) (x5 : Int32) (x6 : Int32) (x7 : Int32) (x8 : Int32) (S : St) : Prop :=
          ((p4 < x8 →
            wp_leaves_j96 p1 p2 p3 p4 post R13 x5 x6 S) ∧
           (¬ (p4 < x8) →
            ∃ j_6 : Nat, j_6 < mlen p1 ∧ ((x6 - p4) + x8) = nI j_6 ∧
            ∃ j_7 : Nat, j_7 < mlen p3 ∧ x8 = nI j_7 ∧
            ¬ (S 0 5) = 0 ∧
            ∃ j_8 : Nat, j_8 < mlen p1 ∧ ((x6 - p4) + x8) = nI j_8 ∧ ∀ S_9 : St, S_9 = bw S p1 j_8 (jrem ((S p1 j_6) + (((S 0 5) - x7) * (S p3 j_7))) (S 0 5)) →
            ∀ x8_10 : Int32, x8_10 = x8 + 1 →
            R45 x8_10 S_9))
def wp_leaves_l45 (p1 : Nat) (p2 : Int32) (p3 : Nat) (p4 : Int32) (post : Int32 → St → Prop) (R13 : Int32 → St → Prop) (x5 : Int32) (x6 : Int32) (x7 : Int32) (x8 : Int32) (S : St) : Prop := wLoop (fun (R : (Int32 × St) → Prop) (v : Int32 × St) => wp_leaves_b45 p1 p2 p3 p4 post R13 (fun x8 S => R (x8, S)) x5 x6 x7 v.1 v.2) (x8, S)
def wp_leaves_b13 (p1 : Nat) (p2 : Int32) (p3 : Nat) (p4 : Int32) (post : Int32 → St → Prop) (R13 : Int32 → St → Prop) (x5 : Int32) (x6 : Int32) (S : St) : Prop :=
      ((x6 < p4 →
        ((p4 ≤ p2 →
          ∀ x6_12 : Int32, x6_12 = (p4 - 1) →
          wp_leaves_l118 p1 p2 p3 p4 post x6_12 S) ∧
         (¬ (p4 ≤ p2) →
          wp_leaves_l118 p1 p2 p3 p4 post p2 S))) ∧
       (¬ (x6 < p4) →
        ∃ j_14 : Nat, j_14 < mlen p1 ∧ x6 = nI j_14 ∧
        ¬ (S 0 5) = 0 ∧
        ∀ x7_15 : Int32, x7_15 = (jrem ((S p1 j_14) * x5) (S 0 5)) →
        ((¬ x7_15 = 0 →
          wp_leaves_l45 p1 p2 p3 p4 post R13 x5 x6 x7_15 0 S) ∧
         (x7_15 = 0 →
          wp_leaves_j96 p1 p2 p3 p4 post R13 x5 x6 S))))
def wp_leaves_l13 (p1 : Nat) (p2 : Int32) (p3 : Nat) (p4 : Int32) (post : Int32 → St → Prop) (x5 : Int32) (x6 : Int32) (S : St) : Prop := wLoop (fun (R : (Int32 × St) → Prop) (v : Int32 × St) => wp_leaves_b13 p1 p2 p3 p4 post (fun x6 S => R (x6, S)) x5 v.1 v.2) (x6, S)
def wp_leaves (p1 : Nat) (p2 : Int32) (p3 : Nat) (p4 : Int32) (S : St) (post : Int32 → St → Prop) : Prop :=
  ∃ j_18 : Nat, j_18 < mlen p3 ∧ p4 = nI j_18 ∧
  wp_inverse (S p3 j_18) S (fun r_19 =>
  wp_leaves_l13 p1 p2 p3 p4 post r_19 p2 S)
set_option maxHeartbeats 4000000 in
theorem met_leaves (l : Launch) (D : va_G) (cI cB : ClassId) (b : Nat) (p1 : Nat) (p2 : Int32) (p3 : Nat) (p4 : Int32) (hp1 : mok p1) (hp3 : mok p3) (S : St) (post : Int32 → St → Prop) (h : wp_leaves p1 p2 p3 p4 S post) : Met l yX7_leaves (ws_ yX7_leaves cX7_leaves 9 (some .int)) ({ frames := 1, cells := 0, slots := 0, locals := 22 } : Room) (mPc D cI cB b [.ref b, .ref (b + p1), .int p2, .ref (b + p3), .int p4] S) (mQi D cI cB b post) 0 0 (mA b) := by
  refine Met.ofW (cc := cX7_leaves) (maxL := 9) (ret := (some .int)) (by decide) rfl ?_
  intro p e s m args below meth c s₁ B hml hv
  obtain ⟨rfl, hP, hK⟩ := hv
  have hx := B.exec
  have hb := B.bytes
  have hr := B.returns
  have hts := atoms_spec (ws := ws_ yX7_leaves cX7_leaves 9 (some .int)) B.pre
  have hts : ∀ w ∈ lw_all, w.before _ s = true := fun w h => hts w (List.mem_cons_of_mem _ h)
  have hown : s.vm.findClass RX7 = some m.cls := findClass_of_methodNamed B.named
  have hlocks := B.notSynchronized
  have hS : va_S (mA b) s.heap s.heap [] := va_S.rf
  have hl := lv_entry ([.ref b, .ref (b + p1), .int p2, .ref (b + p3), .int p4]) (n := 9) (Nat.le_of_ble_eq_true rfl)
  rw [lg_entry_eq]
  generalize (lg_sl ([.ref b, .ref (b + p1), .int p2, .ref (b + p3), .int p4]) ++ List.replicate (9 - (lg_sl ([.ref b, .ref (b + p1), .int p2, .ref (b + p3), .int p4])).length) Slot.unset).toArray = ls at hl ⊢
  have hl : lv_has ls 9 [(0, .ref b), (1, .ref (b + p1)), (2, .int p2), (3, .ref (b + p3)), (4, .int p4)] := hl
  have L118 : ∀  (x6 : Int32) (S : St) (H : Heap) (locs : List Loc) (ls : Array Slot), wp_leaves_l118 p1 p2 p3 p4 post  x6 S → mW D cI cB b S H → va_S (mA b) s.heap H locs → lv_has ls 9 [(0, .ref b), (1, .ref (b + p1)), (6, .int x6)] → W p l e (headSpec (ws_ yX7_leaves cX7_leaves 9 (some .int)) ({ frames := 1, cells := 0, slots := 0, locals := 22 } : Room)).room s m ([.ref b, .ref (b + p1), .int p2, .ref (b + p3), .int p4] : List Value).toArray below meth c H locs 0 0 (MQ below (mQi D cI cB b post) ([.ref b, .ref (b + p1), .int p2, .ref (b + p3), .int p4] : List Value).toArray s 0 0 (mA b)) (F0 m 118 ls []) := by
    intro  x6 S H locs ls h hP hS hl
    obtain ⟨I118, n118, hI, hstep118⟩ := h
    induction n118 using Nat.strongRecOn generalizing x6 H locs ls with
    | ind n118 ih118 =>
      have h : wp_leaves_b118 p1 p2 p3 p4 post (fun x6 => ∃ mm, mm < n118 ∧ I118 mm x6)  x6 S := hstep118 n118 _ hI
      clear hI
      unfold wp_leaves_b118 at h
      refine lv_iload hx hb dX7_leaves_118 (lv_at hl 2 rfl) ?_
      refine lv_if_lt (tgt := 136) hx hb dX7_leaves_120 (by decide) (fun c_4 => ?_) (fun c_4 => ?_)
      · have h := h.1 c_4
        refine lv_iload hx hb dX7_leaves_136 (lv_at hl 2 rfl) ?_
        exact W.iret (v := x6) hx hb hr (fun t ht hW => ⟨⟨x6, S, rfl, h, by rw [ht]; exact hP, va_K.moved hW.alike hK⟩, hS.F ht⟩) hS.2.2 dX7_leaves_138
      · have h := h.2 c_4
        refine lv_aload_n hx hb dX7_leaves_123 rfl (lv_at hl 1 rfl) ?_
        refine lv_iload hx hb dX7_leaves_124 (lv_at hl 2 rfl) ?_
        obtain ⟨j_1, hj_1, ej_1, h⟩ := h
        refine m_iald hx hb hK hP (k := p1) hp1 ej_1 hj_1 dX7_leaves_126 ?_
        refine lv_if_ne (tgt := 136) hx hb dX7_leaves_127 (by decide) (fun c_3 => ?_) (fun c_3 => ?_)
        · have h := h.1 c_3
          refine lv_iload hx hb dX7_leaves_136 (lv_at hl 2 rfl) ?_
          exact W.iret (v := x6) hx hb hr (fun t ht hW => ⟨⟨x6, S, rfl, h, by rw [ht]; exact hP, va_K.moved hW.alike hK⟩, hS.F ht⟩) hS.2.2 dX7_leaves_138
        · have h := h.2 c_3
          obtain ⟨x6_2, ex6_2⟩ : ∃ y : Int32, y = x6 + (-1) := ⟨_, rfl⟩
          have h := h x6_2 ex6_2
          refine lv_iinc (v := x6_2) (lv' := [(6, .int x6_2), (0, .ref b), (1, .ref (b + p1))]) hx hb dX7_leaves_130 hl (k := 2) rfl (by rw [ex6_2]; rfl) (by decide) rfl (fun ls hl => ?_)
          refine lv_goto (tgt := 118) hx hb dX7_leaves_133 (by decide) ?_
          obtain ⟨mm, hmm, h⟩ := h
          exact ih118 mm hmm _ _ _ _ hP hS (lv_sub hl [1, 2, 0] rfl) h
  have L13 : ∀ (x5 : Int32) (x6 : Int32) (S : St) (H : Heap) (locs : List Loc) (ls : Array Slot), wp_leaves_l13 p1 p2 p3 p4 post x5 x6 S → mW D cI cB b S H → va_S (mA b) s.heap H locs → lv_has ls 9 [(0, .ref b), (1, .ref (b + p1)), (2, .int p2), (3, .ref (b + p3)), (4, .int p4), (5, .int x5), (6, .int x6)] → W p l e (headSpec (ws_ yX7_leaves cX7_leaves 9 (some .int)) ({ frames := 1, cells := 0, slots := 0, locals := 22 } : Room)).room s m ([.ref b, .ref (b + p1), .int p2, .ref (b + p3), .int p4] : List Value).toArray below meth c H locs 0 0 (MQ below (mQi D cI cB b post) ([.ref b, .ref (b + p1), .int p2, .ref (b + p3), .int p4] : List Value).toArray s 0 0 (mA b)) (F0 m 13 ls []) := by
    intro x5 x6 S H locs ls h hP hS hl
    obtain ⟨I13, n13, hI, hstep13⟩ := h
    induction n13 using Nat.strongRecOn generalizing x6 S H locs ls with
    | ind n13 ih13 =>
      have h : wp_leaves_b13 p1 p2 p3 p4 post (fun x6 S => ∃ mm, mm < n13 ∧ I13 mm (x6, S)) x5 x6 S := hstep13 n13 _ hI
      clear hI
      have J96 : ∀ (x6 : Int32) (S : St) (H : Heap) (locs : List Loc) (ls : Array Slot), wp_leaves_j96 p1 p2 p3 p4 post (fun x6 S => ∃ mm, mm < n13 ∧ I13 mm (x6, S)) x5 x6 S → mW D cI cB b S H → va_S (mA b) s.heap H locs → lv_has ls 9 [(0, .ref b), (1, .ref (b + p1)), (2, .int p2), (3, .ref (b + p3)), (4, .int p4), (5, .int x5), (6, .int x6)] → W p l e (headSpec (ws_ yX7_leaves cX7_leaves 9 (some .int)) ({ frames := 1, cells := 0, slots := 0, locals := 22 } : Room)).room s m ([.ref b, .ref (b + p1), .int p2, .ref (b + p3), .int p4] : List Value).toArray below meth c H locs 0 0 (MQ below (mQi D cI cB b post) ([.ref b, .ref (b + p1), .int p2, .ref (b + p3), .int p4] : List Value).toArray s 0 0 (mA b)) (F0 m 96 ls []) := by
        intro x6 S H locs ls h hP hS hl
        unfold wp_leaves_j96 at h
        obtain ⟨x6_5, ex6_5⟩ : ∃ y : Int32, y = x6 + (-1) := ⟨_, rfl⟩
        have h := h x6_5 ex6_5
        refine lv_iinc (v := x6_5) (lv' := [(6, .int x6_5), (0, .ref b), (1, .ref (b + p1)), (2, .int p2), (3, .ref (b + p3)), (4, .int p4), (5, .int x5)]) hx hb dX7_leaves_96 hl (k := 6) rfl (by rw [ex6_5]; rfl) (by decide) rfl (fun ls hl => ?_)
        refine lv_goto (tgt := 13) hx hb dX7_leaves_99 (by decide) ?_
        obtain ⟨mm, hmm, h⟩ := h
        exact ih13 mm hmm _ _ _ _ _ hP hS (lv_sub hl [1, 2, 3, 4, 5, 6, 0] rfl) h
      have L45 : ∀ (x6 : Int32) (x7 : Int32) (x8 : Int32) (S : St) (H : Heap) (locs : List Loc) (ls : Array Slot), wp_leaves_l45 p1 p2 p3 p4 post (fun x6 S => ∃ mm, mm < n13 ∧ I13 mm (x6, S)) x5 x6 x7 x8 S → mW D cI cB b S H → va_S (mA b) s.heap H locs → lv_has ls 9 [(0, .ref b), (1, .ref (b + p1)), (2, .int p2), (3, .ref (b + p3)), (4, .int p4), (5, .int x5), (6, .int x6), (7, .int x7), (8, .int x8)] → W p l e (headSpec (ws_ yX7_leaves cX7_leaves 9 (some .int)) ({ frames := 1, cells := 0, slots := 0, locals := 22 } : Room)).room s m ([.ref b, .ref (b + p1), .int p2, .ref (b + p3), .int p4] : List Value).toArray below meth c H locs 0 0 (MQ below (mQi D cI cB b post) ([.ref b, .ref (b + p1), .int p2, .ref (b + p3), .int p4] : List Value).toArray s 0 0 (mA b)) (F0 m 45 ls []) := by
        intro x6 x7 x8 S H locs ls h hP hS hl
        obtain ⟨I45, n45, hI, hstep45⟩ := h
        induction n45 using Nat.strongRecOn generalizing x8 S H locs ls with
        | ind n45 ih45 =>
          have h : wp_leaves_b45 p1 p2 p3 p4 post (fun x6 S => ∃ mm, mm < n13 ∧ I13 mm (x6, S)) (fun x8 S => ∃ mm, mm < n45 ∧ I45 mm (x8, S)) x5 x6 x7 x8 S := hstep45 n45 _ hI
          clear hI
          unfold wp_leaves_b45 at h
          refine lv_iload hx hb dX7_leaves_45 (lv_at hl 8 rfl) ?_
          refine lv_iload hx hb dX7_leaves_47 (lv_at hl 4 rfl) ?_
          refine lv_icmp_gt (tgt := 96) hx hb dX7_leaves_49 (by decide) (fun c_11 => ?_) (fun c_11 => ?_)
          · have h := h.1 c_11
            exact J96 _ _ _ _ _ h hP hS (lv_sub hl [0, 1, 2, 3, 4, 5, 6] rfl)
          · have h := h.2 c_11
            refine lv_aload_n hx hb dX7_leaves_52 rfl (lv_at hl 1 rfl) ?_
            refine lv_iload hx hb dX7_leaves_53 (lv_at hl 6 rfl) ?_
            refine lv_iload hx hb dX7_leaves_55 (lv_at hl 4 rfl) ?_
            refine lv_isub hx hb dX7_leaves_57 ?_
            refine lv_iload hx hb dX7_leaves_58 (lv_at hl 8 rfl) ?_
            refine lv_iadd hx hb dX7_leaves_60 ?_
            refine lv_aload_n hx hb dX7_leaves_61 rfl (lv_at hl 1 rfl) ?_
            refine lv_iload hx hb dX7_leaves_62 (lv_at hl 6 rfl) ?_
            refine lv_iload hx hb dX7_leaves_64 (lv_at hl 4 rfl) ?_
            refine lv_isub hx hb dX7_leaves_66 ?_
            refine lv_iload hx hb dX7_leaves_67 (lv_at hl 8 rfl) ?_
            refine lv_iadd hx hb dX7_leaves_69 ?_
            obtain ⟨j_6, hj_6, ej_6, h⟩ := h
            refine m_iald hx hb hK hP (k := p1) hp1 ej_6 hj_6 dX7_leaves_70 ?_
            refine lv_aload_n hx hb dX7_leaves_71 rfl (lv_at hl 0 rfl) ?_
            refine m_get (v := .int (S 0 5)) hx hb hts hown hK hP 5 (by decide) q1215 rfl rfl dX7_leaves_72 ?_
            refine lv_iload hx hb dX7_leaves_75 (lv_at hl 7 rfl) ?_
            refine lv_isub hx hb dX7_leaves_77 ?_
            refine lv_aload_n hx hb dX7_leaves_78 rfl (lv_at hl 3 rfl) ?_
            refine lv_iload hx hb dX7_leaves_79 (lv_at hl 8 rfl) ?_
            obtain ⟨j_7, hj_7, ej_7, h⟩ := h
            refine m_iald hx hb hK hP (k := p3) hp3 ej_7 hj_7 dX7_leaves_81 ?_
            refine lv_imul hx hb dX7_leaves_82 ?_
            refine lv_iadd hx hb dX7_leaves_83 ?_
            refine lv_aload_n hx hb dX7_leaves_84 rfl (lv_at hl 0 rfl) ?_
            refine m_get (v := .int (S 0 5)) hx hb hts hown hK hP 5 (by decide) q1215 rfl rfl dX7_leaves_85 ?_
            obtain ⟨hne, h⟩ := h
            refine m_irem hx hb dX7_leaves_88 hne ?_
            obtain ⟨j_8, hj_8, ej_8, h⟩ := h
            obtain ⟨S_9, eS_9⟩ : ∃ z : St, z = bw S p1 j_8 (jrem ((S p1 j_6) + (((S 0 5) - x7) * (S p3 j_7))) (S 0 5)) := ⟨_, rfl⟩
            have h := h S_9 eS_9
            refine m_iast hx hb hK hP hS (k := p1) hp1 ej_8 hj_8 dX7_leaves_89 (fun H locs hP hS => ?_)
            rw [← eS_9] at hP
            obtain ⟨x8_10, ex8_10⟩ : ∃ y : Int32, y = x8 + 1 := ⟨_, rfl⟩
            have h := h x8_10 ex8_10
            refine lv_iinc (v := x8_10) (lv' := [(8, .int x8_10), (0, .ref b), (1, .ref (b + p1)), (2, .int p2), (3, .ref (b + p3)), (4, .int p4), (5, .int x5), (6, .int x6), (7, .int x7)]) hx hb dX7_leaves_90 hl (k := 8) rfl (by rw [ex8_10]; rfl) (by decide) rfl (fun ls hl => ?_)
            refine lv_goto (tgt := 45) hx hb dX7_leaves_93 (by decide) ?_
            obtain ⟨mm, hmm, h⟩ := h
            exact ih45 mm hmm _ _ _ _ _ hP hS (lv_sub hl [1, 2, 3, 4, 5, 6, 7, 8, 0] rfl) h
      unfold wp_leaves_b13 at h
      refine lv_iload hx hb dX7_leaves_13 (lv_at hl 6 rfl) ?_
      refine lv_iload hx hb dX7_leaves_15 (lv_at hl 4 rfl) ?_
      refine lv_icmp_lt (tgt := 102) hx hb dX7_leaves_17 (by decide) (fun c_17 => ?_) (fun c_17 => ?_)
      · have h := h.1 c_17
        refine lv_iload_n hx hb dX7_leaves_102 rfl (lv_at hl 2 rfl) ?_
        refine lv_iload hx hb dX7_leaves_103 (lv_at hl 4 rfl) ?_
        refine lv_icmp_ge (tgt := 112) hx hb dX7_leaves_105 (by decide) (fun c_13 => ?_) (fun c_13 => ?_)
        · have h := h.1 c_13
          refine lv_iload hx hb dX7_leaves_112 (lv_at hl 4 rfl) ?_
          refine lv_iconst (v := 1) hx hb dX7_leaves_114 (by decide) ?_
          refine lv_isub hx hb dX7_leaves_115 ?_
          refine lv_topi (fun x6_12 ex6_12 => ?_)
          have h := h x6_12 ex6_12
          refine lv_istore (lv' := [(6, .int x6_12), (0, .ref b), (1, .ref (b + p1)), (2, .int p2), (3, .ref (b + p3)), (4, .int p4), (5, .int x5)]) hx hb dX7_leaves_116 hl (by decide) rfl (fun ls hl => ?_)
          exact L118 _ _ _ _ _ h hP hS (lv_sub hl [1, 2, 0] rfl)
        · have h := h.2 c_13
          refine lv_iload_n hx hb dX7_leaves_108 rfl (lv_at hl 2 rfl) ?_
          refine lv_goto (tgt := 116) hx hb dX7_leaves_109 (by decide) ?_
          refine lv_istore (lv' := [(6, .int p2), (0, .ref b), (1, .ref (b + p1)), (2, .int p2), (3, .ref (b + p3)), (4, .int p4), (5, .int x5)]) hx hb dX7_leaves_116 hl (by decide) rfl (fun ls hl => ?_)
          exact L118 _ _ _ _ _ h hP hS (lv_sub hl [1, 2, 0] rfl)
      · have h := h.2 c_17
        refine lv_aload_n hx hb dX7_leaves_20 rfl (lv_at hl 1 rfl) ?_
        refine lv_iload hx hb dX7_leaves_21 (lv_at hl 6 rfl) ?_
        obtain ⟨j_14, hj_14, ej_14, h⟩ := h
        refine m_iald hx hb hK hP (k := p1) hp1 ej_14 hj_14 dX7_leaves_23 ?_
        refine lv_iload hx hb dX7_leaves_24 (lv_at hl 5 rfl) ?_
        refine lv_imul hx hb dX7_leaves_26 ?_
        refine lv_aload_n hx hb dX7_leaves_27 rfl (lv_at hl 0 rfl) ?_
        refine m_get (v := .int (S 0 5)) hx hb hts hown hK hP 5 (by decide) q1215 rfl rfl dX7_leaves_28 ?_
        obtain ⟨hne, h⟩ := h
        refine m_irem hx hb dX7_leaves_31 hne ?_
        refine lv_topi (fun x7_15 ex7_15 => ?_)
        have h := h x7_15 ex7_15
        refine lv_istore (lv' := [(7, .int x7_15), (0, .ref b), (1, .ref (b + p1)), (2, .int p2), (3, .ref (b + p3)), (4, .int p4), (5, .int x5), (6, .int x6)]) hx hb dX7_leaves_32 hl (by decide) rfl (fun ls hl => ?_)
        refine lv_iload hx hb dX7_leaves_34 (lv_at hl 0 rfl) ?_
        refine lv_if_ne (tgt := 42) hx hb dX7_leaves_36 (by decide) (fun c_16 => ?_) (fun c_16 => ?_)
        · have h := h.1 c_16
          refine lv_iconst (v := 0) hx hb dX7_leaves_42 (by decide) ?_
          refine lv_istore (lv' := [(8, .int 0), (7, .int x7_15), (0, .ref b), (1, .ref (b + p1)), (2, .int p2), (3, .ref (b + p3)), (4, .int p4), (5, .int x5), (6, .int x6)]) hx hb dX7_leaves_43 hl (by decide) rfl (fun ls hl => ?_)
          exact L45 _ _ _ _ _ _ _ h hP hS (lv_sub hl [2, 3, 4, 5, 6, 7, 8, 1, 0] rfl)
        · have h := h.2 c_16
          refine lv_goto (tgt := 96) hx hb dX7_leaves_39 (by decide) ?_
          exact J96 _ _ _ _ _ h hP hS (lv_sub hl [1, 2, 3, 4, 5, 6, 7] rfl)
  unfold wp_leaves at h
  refine lv_aload_n hx hb dX7_leaves_0 rfl (lv_at hl 0 rfl) ?_
  refine lv_aload_n hx hb dX7_leaves_1 rfl (lv_at hl 3 rfl) ?_
  refine lv_iload hx hb dX7_leaves_2 (lv_at hl 4 rfl) ?_
  obtain ⟨j_18, hj_18, ej_18, h⟩ := h
  refine m_iald hx hb hK hP (k := p3) hp3 ej_18 hj_18 dX7_leaves_4 ?_
  refine m_cVp (As := [.int (S p3 j_18)]) (rest := []) ⟨hx, hb, hml, hown, hts⟩ (met_inverse l D cI cB b (S p3 j_18)  S _ h) (cwV 1 hts (lw_V q1639 q1641 qs92 q128 q1642) rfl rfl rfl cwd_inverse ⟨Nat.le_of_ble_eq_true rfl, Nat.le_of_ble_eq_true rfl⟩) hK hP hS rfl hl.1 rfl (Nat.le_of_ble_eq_true rfl) dX7_leaves_5 ⟨Nat.zero_le _, Nat.zero_le _⟩ (fun r_19 H locs h hP hS => ?_)
  refine lv_istore (lv' := [(5, .int r_19), (0, .ref b), (1, .ref (b + p1)), (2, .int p2), (3, .ref (b + p3)), (4, .int p4)]) hx hb dX7_leaves_8 hl (by decide) rfl (fun ls hl => ?_)
  refine lv_iload_n hx hb dX7_leaves_10 rfl (lv_at hl 3 rfl) ?_
  refine lv_istore (lv' := [(6, .int p2), (5, .int r_19), (0, .ref b), (1, .ref (b + p1)), (2, .int p2), (3, .ref (b + p3)), (4, .int p4)]) hx hb dX7_leaves_11 hl (by decide) rfl (fun ls hl => ?_)
  exact L13 _ _ _ _ _ _ h hP hS (lv_sub hl [2, 3, 4, 5, 6, 1, 0] rfl)
def wp_monics_b23 (p1 : Nat) (post : St → Prop) (R23 : Int32 → St → Prop) (x2 : Int32) (x3 : Int32) (x4 : Int32) (S : St) : Prop :=
      ((x2 < x4 →
        post S) ∧
       (¬ (x2 < x4) →
        ∃ j_1 : Nat, j_1 < mlen p1 ∧ x4 = nI j_1 ∧
        ¬ (S 0 5) = 0 ∧
        ∃ j_2 : Nat, j_2 < mlen p1 ∧ x4 = nI j_2 ∧ ∀ S_3 : St, S_3 = bw S p1 j_2 (jrem ((S p1 j_1) * x3) (S 0 5)) →
        ∀ x4_4 : Int32, x4_4 = x4 + 1 →
        R23 x4_4 S_3))
def wp_monics_l23 (p1 : Nat) (post : St → Prop) (x2 : Int32) (x3 : Int32) (x4 : Int32) (S : St) : Prop := wLoop (fun (R : (Int32 × St) → Prop) (v : Int32 × St) => wp_monics_b23 p1 post (fun x4 S => R (x4, S)) x2 x3 v.1 v.2) (x4, S)
def wp_monics (p1 : Nat) (S : St) (post : St → Prop) : Prop :=
  wp_heightOf p1 0 S (fun r_6 =>
  ((¬ r_6 = (-1) →
    ∃ j_8 : Nat, j_8 < mlen p1 ∧ r_6 = nI j_8 ∧
    wp_inverse (S p1 j_8) S (fun r_9 =>
    wp_monics_l23 p1 post r_6 r_9 0 S)) ∧
   (r_6 = (-1) →
    post S)))
set_option maxHeartbeats 4000000 in
theorem met_monics (l : Launch) (D : va_G) (cI cB : ClassId) (b : Nat) (p1 : Nat) (hp1 : mok p1) (S : St) (post : St → Prop) (h : wp_monics p1 S post) : Met l yX7_monics (ws_ yX7_monics cX7_monics 5 none) ({ frames := 1, cells := 0, slots := 0, locals := 22 } : Room) (mPc D cI cB b [.ref b, .ref (b + p1)] S) (mQv D cI cB b post) 0 0 (mA b) := by
  refine Met.ofW (cc := cX7_monics) (maxL := 5) (ret := none) (by decide) rfl ?_
  intro p e s m args below meth c s₁ B hml hv
  obtain ⟨rfl, hP, hK⟩ := hv
  have hx := B.exec
  have hb := B.bytes
  have hr := B.returns
  have hts := atoms_spec (ws := ws_ yX7_monics cX7_monics 5 none) B.pre
  have hts : ∀ w ∈ lw_all, w.before _ s = true := fun w h => hts w (List.mem_cons_of_mem _ h)
  have hown : s.vm.findClass RX7 = some m.cls := findClass_of_methodNamed B.named
  have hlocks := B.notSynchronized
  have hS : va_S (mA b) s.heap s.heap [] := va_S.rf
  have hl := lv_entry ([.ref b, .ref (b + p1)]) (n := 5) (Nat.le_of_ble_eq_true rfl)
  rw [lg_entry_eq]
  generalize (lg_sl ([.ref b, .ref (b + p1)]) ++ List.replicate (5 - (lg_sl ([.ref b, .ref (b + p1)])).length) Slot.unset).toArray = ls at hl ⊢
  have hl : lv_has ls 5 [(0, .ref b), (1, .ref (b + p1))] := hl
  have L23 : ∀ (x2 : Int32) (x3 : Int32) (x4 : Int32) (S : St) (H : Heap) (locs : List Loc) (ls : Array Slot), wp_monics_l23 p1 post x2 x3 x4 S → mW D cI cB b S H → va_S (mA b) s.heap H locs → lv_has ls 5 [(0, .ref b), (1, .ref (b + p1)), (2, .int x2), (3, .int x3), (4, .int x4)] → W p l e (headSpec (ws_ yX7_monics cX7_monics 5 none) ({ frames := 1, cells := 0, slots := 0, locals := 22 } : Room)).room s m ([.ref b, .ref (b + p1)] : List Value).toArray below meth c H locs 0 0 (MQ below (mQv D cI cB b post) ([.ref b, .ref (b + p1)] : List Value).toArray s 0 0 (mA b)) (F0 m 23 ls []) := by
    intro x2 x3 x4 S H locs ls h hP hS hl
    obtain ⟨I23, n23, hI, hstep23⟩ := h
    induction n23 using Nat.strongRecOn generalizing x4 S H locs ls with
    | ind n23 ih23 =>
      have h : wp_monics_b23 p1 post (fun x4 S => ∃ mm, mm < n23 ∧ I23 mm (x4, S)) x2 x3 x4 S := hstep23 n23 _ hI
      clear hI
      unfold wp_monics_b23 at h
      refine lv_iload hx hb dX7_monics_23 (lv_at hl 4 rfl) ?_
      refine lv_iload_n hx hb dX7_monics_25 rfl (lv_at hl 2 rfl) ?_
      refine lv_icmp_gt (tgt := 50) hx hb dX7_monics_26 (by decide) (fun c_5 => ?_) (fun c_5 => ?_)
      · have h := h.1 c_5
        exact W.vret hx hb hr (fun t ht hW => ⟨⟨S, rfl, h, by rw [ht]; exact hP, va_K.moved hW.alike hK⟩, hS.F ht⟩) hS.2.2 dX7_monics_50
      · have h := h.2 c_5
        refine lv_aload_n hx hb dX7_monics_29 rfl (lv_at hl 1 rfl) ?_
        refine lv_iload hx hb dX7_monics_30 (lv_at hl 4 rfl) ?_
        refine lv_aload_n hx hb dX7_monics_32 rfl (lv_at hl 1 rfl) ?_
        refine lv_iload hx hb dX7_monics_33 (lv_at hl 4 rfl) ?_
        obtain ⟨j_1, hj_1, ej_1, h⟩ := h
        refine m_iald hx hb hK hP (k := p1) hp1 ej_1 hj_1 dX7_monics_35 ?_
        refine lv_iload_n hx hb dX7_monics_36 rfl (lv_at hl 3 rfl) ?_
        refine lv_imul hx hb dX7_monics_37 ?_
        refine lv_aload_n hx hb dX7_monics_38 rfl (lv_at hl 0 rfl) ?_
        refine m_get (v := .int (S 0 5)) hx hb hts hown hK hP 5 (by decide) q1215 rfl rfl dX7_monics_39 ?_
        obtain ⟨hne, h⟩ := h
        refine m_irem hx hb dX7_monics_42 hne ?_
        obtain ⟨j_2, hj_2, ej_2, h⟩ := h
        obtain ⟨S_3, eS_3⟩ : ∃ z : St, z = bw S p1 j_2 (jrem ((S p1 j_1) * x3) (S 0 5)) := ⟨_, rfl⟩
        have h := h S_3 eS_3
        refine m_iast hx hb hK hP hS (k := p1) hp1 ej_2 hj_2 dX7_monics_43 (fun H locs hP hS => ?_)
        rw [← eS_3] at hP
        obtain ⟨x4_4, ex4_4⟩ : ∃ y : Int32, y = x4 + 1 := ⟨_, rfl⟩
        have h := h x4_4 ex4_4
        refine lv_iinc (v := x4_4) (lv' := [(4, .int x4_4), (0, .ref b), (1, .ref (b + p1)), (2, .int x2), (3, .int x3)]) hx hb dX7_monics_44 hl (k := 4) rfl (by rw [ex4_4]; rfl) (by decide) rfl (fun ls hl => ?_)
        refine lv_goto (tgt := 23) hx hb dX7_monics_47 (by decide) ?_
        obtain ⟨mm, hmm, h⟩ := h
        exact ih23 mm hmm _ _ _ _ _ hP hS (lv_sub hl [1, 2, 3, 4, 0] rfl) h
  unfold wp_monics at h
  refine lv_aload_n hx hb dX7_monics_0 rfl (lv_at hl 1 rfl) ?_
  refine lv_iconst (v := 0) hx hb dX7_monics_1 (by decide) ?_
  refine m_cSp (As := [.ref (b + p1), .int 0]) (rest := []) ⟨hx, hb, hml, hown, hts⟩ (met_heightOf l D cI cB b p1 0 hp1 S _ h) (va_cwS 2 hts (lw_S q1760 q1761 q128 q1762) rfl rfl rfl cwd_heightOf ⟨Nat.le_of_ble_eq_true rfl, Nat.le_of_ble_eq_true rfl⟩) hK hP hS rfl hl.1 rfl (Nat.le_of_ble_eq_true rfl) dX7_monics_2 ⟨Nat.zero_le _, Nat.zero_le _⟩ (fun r_6 H locs h hP hS => ?_)
  refine lv_istore_n (lv' := [(2, .int r_6), (0, .ref b), (1, .ref (b + p1))]) hx hb dX7_monics_5 rfl hl (by decide) rfl (fun ls hl => ?_)
  refine lv_iload_n hx hb dX7_monics_6 rfl (lv_at hl 0 rfl) ?_
  refine lv_iconst (v := (-1)) hx hb dX7_monics_7 (by decide) ?_
  refine lv_icmp_ne (tgt := 12) hx hb dX7_monics_8 (by decide) (fun c_11 => ?_) (fun c_11 => ?_)
  · have h := h.1 c_11
    refine lv_aload_n hx hb dX7_monics_12 rfl (lv_at hl 1 rfl) ?_
    refine lv_aload_n hx hb dX7_monics_13 rfl (lv_at hl 2 rfl) ?_
    refine lv_iload_n hx hb dX7_monics_14 rfl (lv_at hl 0 rfl) ?_
    obtain ⟨j_8, hj_8, ej_8, h⟩ := h
    refine m_iald hx hb hK hP (k := p1) hp1 ej_8 hj_8 dX7_monics_15 ?_
    refine m_cVp (As := [.int (S p1 j_8)]) (rest := []) ⟨hx, hb, hml, hown, hts⟩ (met_inverse l D cI cB b (S p1 j_8)  S _ h) (cwV 1 hts (lw_V q1639 q1641 qs92 q128 q1642) rfl rfl rfl cwd_inverse ⟨Nat.le_of_ble_eq_true rfl, Nat.le_of_ble_eq_true rfl⟩) hK hP hS rfl hl.1 rfl (Nat.le_of_ble_eq_true rfl) dX7_monics_16 ⟨Nat.zero_le _, Nat.zero_le _⟩ (fun r_9 H locs h hP hS => ?_)
    refine lv_istore_n (lv' := [(3, .int r_9), (2, .int r_6), (0, .ref b), (1, .ref (b + p1))]) hx hb dX7_monics_19 rfl hl (by decide) rfl (fun ls hl => ?_)
    refine lv_iconst (v := 0) hx hb dX7_monics_20 (by decide) ?_
    refine lv_istore (lv' := [(4, .int 0), (3, .int r_9), (2, .int r_6), (0, .ref b), (1, .ref (b + p1))]) hx hb dX7_monics_21 hl (by decide) rfl (fun ls hl => ?_)
    exact L23 _ _ _ _ _ _ _ h hP hS (lv_sub hl [3, 4, 2, 1, 0] rfl)
  · have h := h.2 c_11
    exact W.vret hx hb hr (fun t ht hW => ⟨⟨S, rfl, h, by rw [ht]; exact hP, va_K.moved hW.alike hK⟩, hS.F ht⟩) hS.2.2 dX7_monics_11
def wp_meets_j90 (p1 : Nat) (p2 : Nat) (post : St → Prop)  (S : St) : Prop :=
    wp_monics p1 S (fun S_2 =>
    post S_2)
def wp_meets_b63 (p1 : Nat) (p2 : Nat) (post : St → Prop) (R63 : Int32 → St → Prop) (x3 : Nat) (x7 : Int32) (S : St) : Prop :=
      ((x3 = p1 →
        wp_meets_j90 p1 p2 post  S) ∧
       (¬ (x3 = p1) →
        ((2304 ≤ x7 →
          wp_meets_j90 p1 p2 post  S) ∧
         (¬ (2304 ≤ x7) →
          mok x3 ∧ ∃ j_3 : Nat, j_3 < mlen x3 ∧ x7 = nI j_3 ∧
          ∃ j_4 : Nat, j_4 < mlen p1 ∧ x7 = nI j_4 ∧ ∀ S_5 : St, S_5 = bw S p1 j_4 (S x3 j_3) →
          ∀ x7_6 : Int32, x7_6 = x7 + 1 →
          R63 x7_6 S_5))))
def wp_meets_l63 (p1 : Nat) (p2 : Nat) (post : St → Prop) (x3 : Nat) (x7 : Int32) (S : St) : Prop := wLoop (fun (R : (Int32 × St) → Prop) (v : Int32 × St) => wp_meets_b63 p1 p2 post (fun x7 S => R (x7, S)) x3 v.1 v.2) (x7, S)
def wp_meets_b20 (p1 : Nat) (p2 : Nat) (post : St → Prop) (R20 : Nat → Nat → Int32 → Int32 → St → Prop)  (x3 : Nat) (x4 : Nat) (x5 : Int32) (x6 : Int32) (S : St) : Prop :=
      ((x6 = (-1) →
        wp_meets_l63 p1 p2 post x3 0 S) ∧
       (¬ (x6 = (-1)) →
        mok x3 ∧ mok x4 ∧ wp_leaves x3 x5 x4 x6 S (fun r_9 S_10 =>
        R20 x4 x3 x6 r_9 S_10)))
def wp_meets_l20 (p1 : Nat) (p2 : Nat) (post : St → Prop)  (x3 : Nat) (x4 : Nat) (x5 : Int32) (x6 : Int32) (S : St) : Prop := wLoop (fun (R : (Nat × Nat × Int32 × Int32 × St) → Prop) (v : Nat × Nat × Int32 × Int32 × St) => wp_meets_b20 p1 p2 post (fun x3 x4 x5 x6 S => R (x3, x4, x5, x6, S))  v.1 v.2.1 v.2.2.1 v.2.2.2.1 v.2.2.2.2) (x3, x4, x5, x6, S)
def wp_meets (p1 : Nat) (p2 : Nat) (S : St) (post : St → Prop) : Prop :=
  wp_heightOf p1 0 S (fun r_12 =>
  wp_heightOf p2 0 S (fun r_14 =>
  wp_meets_l20 p1 p2 post p1 p2 r_12 r_14 S))
set_option maxHeartbeats 4000000 in
theorem met_meets (l : Launch) (D : va_G) (cI cB : ClassId) (b : Nat) (p1 : Nat) (p2 : Nat) (hp1 : mok p1) (hp2 : mok p2) (S : St) (post : St → Prop) (h : wp_meets p1 p2 S post) : Met l yX7_meets (ws_ yX7_meets cX7_meets 9 none) ({ frames := 2, cells := 0, slots := 0, locals := 50 } : Room) (mPc D cI cB b [.ref b, .ref (b + p1), .ref (b + p2)] S) (mQv D cI cB b post) 0 0 (mA b) := by
  refine Met.ofW (cc := cX7_meets) (maxL := 9) (ret := none) (by decide) rfl ?_
  intro p e s m args below meth c s₁ B hml hv
  obtain ⟨rfl, hP, hK⟩ := hv
  have hx := B.exec
  have hb := B.bytes
  have hr := B.returns
  have hts := atoms_spec (ws := ws_ yX7_meets cX7_meets 9 none) B.pre
  have hts : ∀ w ∈ lw_all, w.before _ s = true := fun w h => hts w (List.mem_cons_of_mem _ h)
  have hown : s.vm.findClass RX7 = some m.cls := findClass_of_methodNamed B.named
  have hlocks := B.notSynchronized
  have hS : va_S (mA b) s.heap s.heap [] := va_S.rf
  have hl := lv_entry ([.ref b, .ref (b + p1), .ref (b + p2)]) (n := 9) (Nat.le_of_ble_eq_true rfl)
  rw [lg_entry_eq]
  generalize (lg_sl ([.ref b, .ref (b + p1), .ref (b + p2)]) ++ List.replicate (9 - (lg_sl ([.ref b, .ref (b + p1), .ref (b + p2)])).length) Slot.unset).toArray = ls at hl ⊢
  have hl : lv_has ls 9 [(0, .ref b), (1, .ref (b + p1)), (2, .ref (b + p2))] := hl
  have J90 : ∀  (S : St) (H : Heap) (locs : List Loc) (ls : Array Slot), wp_meets_j90 p1 p2 post  S → mW D cI cB b S H → va_S (mA b) s.heap H locs → lv_has ls 9 [(0, .ref b), (1, .ref (b + p1))] → W p l e (headSpec (ws_ yX7_meets cX7_meets 9 none) ({ frames := 2, cells := 0, slots := 0, locals := 50 } : Room)).room s m ([.ref b, .ref (b + p1), .ref (b + p2)] : List Value).toArray below meth c H locs 0 0 (MQ below (mQv D cI cB b post) ([.ref b, .ref (b + p1), .ref (b + p2)] : List Value).toArray s 0 0 (mA b)) (F0 m 90 ls []) := by
    intro  S H locs ls h hP hS hl
    unfold wp_meets_j90 at h
    refine lv_aload_n hx hb dX7_meets_90 rfl (lv_at hl 0 rfl) ?_
    refine lv_aload_n hx hb dX7_meets_91 rfl (lv_at hl 1 rfl) ?_
    refine m_cVv (As := [.ref (b + p1)]) (rest := []) ⟨hx, hb, hml, hown, hts⟩ (met_monics l D cI cB b p1 hp1 S _ h) (cwV 1 hts (lw_V q1778 q1780 qs109 q128 q1781) rfl rfl rfl cwd_monics ⟨Nat.le_of_ble_eq_true rfl, Nat.le_of_ble_eq_true rfl⟩) hK hP hS rfl hl.1 rfl (Nat.le_of_ble_eq_true rfl) dX7_meets_92 ⟨Nat.zero_le _, Nat.zero_le _⟩ (fun S_2 H locs h hP hS => ?_)
    exact W.vret hx hb hr (fun t ht hW => ⟨⟨S_2, rfl, h, by rw [ht]; exact hP, va_K.moved hW.alike hK⟩, hS.F ht⟩) hS.2.2 dX7_meets_95
  have L63 : ∀ (x3 : Nat) (x7 : Int32) (S : St) (H : Heap) (locs : List Loc) (ls : Array Slot), wp_meets_l63 p1 p2 post x3 x7 S → mW D cI cB b S H → va_S (mA b) s.heap H locs → lv_has ls 9 [(0, .ref b), (1, .ref (b + p1)), (3, .ref (b + x3)), (7, .int x7)] → W p l e (headSpec (ws_ yX7_meets cX7_meets 9 none) ({ frames := 2, cells := 0, slots := 0, locals := 50 } : Room)).room s m ([.ref b, .ref (b + p1), .ref (b + p2)] : List Value).toArray below meth c H locs 0 0 (MQ below (mQv D cI cB b post) ([.ref b, .ref (b + p1), .ref (b + p2)] : List Value).toArray s 0 0 (mA b)) (F0 m 63 ls []) := by
    intro x3 x7 S H locs ls h hP hS hl
    obtain ⟨I63, n63, hI, hstep63⟩ := h
    induction n63 using Nat.strongRecOn generalizing x7 S H locs ls with
    | ind n63 ih63 =>
      have h : wp_meets_b63 p1 p2 post (fun x7 S => ∃ mm, mm < n63 ∧ I63 mm (x7, S)) x3 x7 S := hstep63 n63 _ hI
      clear hI
      unfold wp_meets_b63 at h
      refine lv_aload_n hx hb dX7_meets_63 rfl (lv_at hl 2 rfl) ?_
      refine lv_aload_n hx hb dX7_meets_64 rfl (lv_at hl 1 rfl) ?_
      refine m_acmp_eq (tgt := 90) hx hb dX7_meets_65 (by decide) (fun c_8 => ?_) (fun c_8 => ?_)
      · have h := h.1 c_8
        exact J90  _ _ _ _ h hP hS (lv_sub hl [0, 1] rfl)
      · have h := h.2 c_8
        refine lv_iload hx hb dX7_meets_68 (lv_at hl 3 rfl) ?_
        refine lv_sipush (v := 2304) hx hb dX7_meets_70 (by decide) ?_
        refine lv_icmp_ge (tgt := 90) hx hb dX7_meets_73 (by decide) (fun c_7 => ?_) (fun c_7 => ?_)
        · have h := h.1 c_7
          exact J90  _ _ _ _ h hP hS (lv_sub hl [0, 1] rfl)
        · have h := h.2 c_7
          refine lv_aload_n hx hb dX7_meets_76 rfl (lv_at hl 1 rfl) ?_
          refine lv_iload hx hb dX7_meets_77 (lv_at hl 3 rfl) ?_
          refine lv_aload_n hx hb dX7_meets_79 rfl (lv_at hl 2 rfl) ?_
          refine lv_iload hx hb dX7_meets_80 (lv_at hl 3 rfl) ?_
          obtain ⟨hok, j_3, hj_3, ej_3, h⟩ := h
          refine m_iald hx hb hK hP (k := x3) hok ej_3 hj_3 dX7_meets_82 ?_
          obtain ⟨j_4, hj_4, ej_4, h⟩ := h
          obtain ⟨S_5, eS_5⟩ : ∃ z : St, z = bw S p1 j_4 (S x3 j_3) := ⟨_, rfl⟩
          have h := h S_5 eS_5
          refine m_iast hx hb hK hP hS (k := p1) hp1 ej_4 hj_4 dX7_meets_83 (fun H locs hP hS => ?_)
          rw [← eS_5] at hP
          obtain ⟨x7_6, ex7_6⟩ : ∃ y : Int32, y = x7 + 1 := ⟨_, rfl⟩
          have h := h x7_6 ex7_6
          refine lv_iinc (v := x7_6) (lv' := [(7, .int x7_6), (0, .ref b), (1, .ref (b + p1)), (3, .ref (b + x3))]) hx hb dX7_meets_84 hl (k := 3) rfl (by rw [ex7_6]; rfl) (by decide) rfl (fun ls hl => ?_)
          refine lv_goto (tgt := 63) hx hb dX7_meets_87 (by decide) ?_
          obtain ⟨mm, hmm, h⟩ := h
          exact ih63 mm hmm _ _ _ _ _ hP hS (lv_sub hl [1, 2, 3, 0] rfl) h
  have L20 : ∀  (x3 : Nat) (x4 : Nat) (x5 : Int32) (x6 : Int32) (S : St) (H : Heap) (locs : List Loc) (ls : Array Slot), wp_meets_l20 p1 p2 post  x3 x4 x5 x6 S → mW D cI cB b S H → va_S (mA b) s.heap H locs → lv_has ls 9 [(0, .ref b), (1, .ref (b + p1)), (3, .ref (b + x3)), (4, .ref (b + x4)), (5, .int x5), (6, .int x6)] → W p l e (headSpec (ws_ yX7_meets cX7_meets 9 none) ({ frames := 2, cells := 0, slots := 0, locals := 50 } : Room)).room s m ([.ref b, .ref (b + p1), .ref (b + p2)] : List Value).toArray below meth c H locs 0 0 (MQ below (mQv D cI cB b post) ([.ref b, .ref (b + p1), .ref (b + p2)] : List Value).toArray s 0 0 (mA b)) (F0 m 20 ls []) := by
    intro  x3 x4 x5 x6 S H locs ls h hP hS hl
    obtain ⟨I20, n20, hI, hstep20⟩ := h
    induction n20 using Nat.strongRecOn generalizing x3 x4 x5 x6 S H locs ls with
    | ind n20 ih20 =>
      have h : wp_meets_b20 p1 p2 post (fun x3 x4 x5 x6 S => ∃ mm, mm < n20 ∧ I20 mm (x3, x4, x5, x6, S))  x3 x4 x5 x6 S := hstep20 n20 _ hI
      clear hI
      unfold wp_meets_b20 at h
      refine lv_iload hx hb dX7_meets_20 (lv_at hl 5 rfl) ?_
      refine lv_iconst (v := (-1)) hx hb dX7_meets_22 (by decide) ?_
      refine lv_icmp_eq (tgt := 60) hx hb dX7_meets_23 (by decide) (fun c_11 => ?_) (fun c_11 => ?_)
      · have h := h.1 c_11
        refine lv_iconst (v := 0) hx hb dX7_meets_60 (by decide) ?_
        refine lv_istore (lv' := [(7, .int 0), (0, .ref b), (1, .ref (b + p1)), (3, .ref (b + x3)), (4, .ref (b + x4)), (5, .int x5), (6, .int x6)]) hx hb dX7_meets_61 hl (by decide) rfl (fun ls hl => ?_)
        exact L63 _ _ _ _ _ _ h hP hS (lv_sub hl [1, 2, 3, 0] rfl)
      · have h := h.2 c_11
        refine lv_aload_n hx hb dX7_meets_26 rfl (lv_at hl 0 rfl) ?_
        refine lv_aload_n hx hb dX7_meets_27 rfl (lv_at hl 2 rfl) ?_
        refine lv_iload hx hb dX7_meets_28 (lv_at hl 4 rfl) ?_
        refine lv_aload hx hb dX7_meets_30 (lv_at hl 3 rfl) ?_
        refine lv_iload hx hb dX7_meets_32 (lv_at hl 5 rfl) ?_
        obtain ⟨hok0, hok1, h⟩ := h
        refine m_cVi (As := [.ref (b + x3), .int x5, .ref (b + x4), .int x6]) (rest := []) ⟨hx, hb, hml, hown, hts⟩ (met_leaves l D cI cB b x3 x5 x4 x6 hok0 hok1 S _ h) (cwV 4 hts (lw_V q1774 q1776 qs108 q128 q1777) rfl rfl rfl cwd_leaves ⟨Nat.le_of_ble_eq_true rfl, Nat.le_of_ble_eq_true rfl⟩) hK hP hS rfl hl.1 rfl (Nat.le_of_ble_eq_true rfl) dX7_meets_34 ⟨Nat.zero_le _, Nat.zero_le _⟩ (fun r_9 S_10 H locs h hP hS => ?_)
        refine lv_istore (lv' := [(7, .int r_9), (0, .ref b), (1, .ref (b + p1)), (3, .ref (b + x3)), (4, .ref (b + x4)), (5, .int x5), (6, .int x6)]) hx hb dX7_meets_37 hl (by decide) rfl (fun ls hl => ?_)
        refine lv_aload_n hx hb dX7_meets_39 rfl (lv_at hl 3 rfl) ?_
        refine lv_astore (lv' := [(8, .ref (b + x3)), (7, .int r_9), (0, .ref b), (1, .ref (b + p1)), (3, .ref (b + x3)), (4, .ref (b + x4)), (5, .int x5), (6, .int x6)]) hx hb dX7_meets_40 hl (by decide) rfl (fun ls hl => ?_)
        refine lv_aload hx hb dX7_meets_42 (lv_at hl 5 rfl) ?_
        refine lv_astore_n (lv' := [(3, .ref (b + x4)), (8, .ref (b + x3)), (7, .int r_9), (0, .ref b), (1, .ref (b + p1)), (4, .ref (b + x4)), (5, .int x5), (6, .int x6)]) hx hb dX7_meets_44 rfl hl (by decide) rfl (fun ls hl => ?_)
        refine lv_aload hx hb dX7_meets_45 (lv_at hl 1 rfl) ?_
        refine lv_astore (lv' := [(4, .ref (b + x3)), (3, .ref (b + x4)), (8, .ref (b + x3)), (7, .int r_9), (0, .ref b), (1, .ref (b + p1)), (5, .int x5), (6, .int x6)]) hx hb dX7_meets_47 hl (by decide) rfl (fun ls hl => ?_)
        refine lv_iload hx hb dX7_meets_49 (lv_at hl 7 rfl) ?_
        refine lv_istore (lv' := [(5, .int x6), (4, .ref (b + x3)), (3, .ref (b + x4)), (8, .ref (b + x3)), (7, .int r_9), (0, .ref b), (1, .ref (b + p1)), (6, .int x6)]) hx hb dX7_meets_51 hl (by decide) rfl (fun ls hl => ?_)
        refine lv_iload hx hb dX7_meets_53 (lv_at hl 4 rfl) ?_
        refine lv_istore (lv' := [(6, .int r_9), (5, .int x6), (4, .ref (b + x3)), (3, .ref (b + x4)), (8, .ref (b + x3)), (7, .int r_9), (0, .ref b), (1, .ref (b + p1))]) hx hb dX7_meets_55 hl (by decide) rfl (fun ls hl => ?_)
        refine lv_goto (tgt := 20) hx hb dX7_meets_57 (by decide) ?_
        obtain ⟨mm, hmm, h⟩ := h
        exact ih20 mm hmm _ _ _ _ _ _ _ _ hP hS (lv_sub hl [6, 7, 3, 2, 1, 0] rfl) h
  unfold wp_meets at h
  refine lv_aload_n hx hb dX7_meets_0 rfl (lv_at hl 1 rfl) ?_
  refine lv_astore_n (lv' := [(3, .ref (b + p1)), (0, .ref b), (1, .ref (b + p1)), (2, .ref (b + p2))]) hx hb dX7_meets_1 rfl hl (by decide) rfl (fun ls hl => ?_)
  refine lv_aload_n hx hb dX7_meets_2 rfl (lv_at hl 3 rfl) ?_
  refine lv_astore (lv' := [(4, .ref (b + p2)), (3, .ref (b + p1)), (0, .ref b), (1, .ref (b + p1)), (2, .ref (b + p2))]) hx hb dX7_meets_3 hl (by decide) rfl (fun ls hl => ?_)
  refine lv_aload_n hx hb dX7_meets_5 rfl (lv_at hl 1 rfl) ?_
  refine lv_iconst (v := 0) hx hb dX7_meets_6 (by decide) ?_
  refine m_cSp (As := [.ref (b + p1), .int 0]) (rest := []) ⟨hx, hb, hml, hown, hts⟩ (met_heightOf l D cI cB b p1 0 hp1 S _ h) (va_cwS 2 hts (lw_S q1760 q1761 q128 q1762) rfl rfl rfl cwd_heightOf ⟨Nat.le_of_ble_eq_true rfl, Nat.le_of_ble_eq_true rfl⟩) hK hP hS rfl hl.1 rfl (Nat.le_of_ble_eq_true rfl) dX7_meets_7 ⟨Nat.zero_le _, Nat.zero_le _⟩ (fun r_12 H locs h hP hS => ?_)
  refine lv_istore (lv' := [(5, .int r_12), (4, .ref (b + p2)), (3, .ref (b + p1)), (0, .ref b), (1, .ref (b + p1)), (2, .ref (b + p2))]) hx hb dX7_meets_10 hl (by decide) rfl (fun ls hl => ?_)
  refine lv_aload hx hb dX7_meets_12 (lv_at hl 1 rfl) ?_
  refine lv_iconst (v := 0) hx hb dX7_meets_14 (by decide) ?_
  refine m_cSp (As := [.ref (b + p2), .int 0]) (rest := []) ⟨hx, hb, hml, hown, hts⟩ (met_heightOf l D cI cB b p2 0 hp2 S _ h) (va_cwS 2 hts (lw_S q1760 q1761 q128 q1762) rfl rfl rfl cwd_heightOf ⟨Nat.le_of_ble_eq_true rfl, Nat.le_of_ble_eq_true rfl⟩) hK hP hS rfl hl.1 rfl (Nat.le_of_ble_eq_true rfl) dX7_meets_15 ⟨Nat.zero_le _, Nat.zero_le _⟩ (fun r_14 H locs h hP hS => ?_)
  refine lv_istore (lv' := [(6, .int r_14), (5, .int r_12), (4, .ref (b + p2)), (3, .ref (b + p1)), (0, .ref b), (1, .ref (b + p1)), (2, .ref (b + p2))]) hx hb dX7_meets_18 hl (by decide) rfl (fun ls hl => ?_)
  exact L20 _ _ _ _ _ _ _ _ h hP hS (lv_sub hl [4, 5, 3, 2, 1, 0] rfl)
def wp_contentOf_b21 (p1 : Nat) (p2 : Nat) (post : St → Prop) (R21 : Int32 → St → Prop)  (x3 : Int32) (S : St) : Prop :=
      ((16 ≤ x3 →
        post S) ∧
       (¬ (16 ≤ x3) →
        wp_heightOf p2 0 S (fun r_1 =>
        ((¬ r_1 = 0 →
          wp_copies p1 (2304 * x3) 22 S (fun S_4 =>
          wp_meets p2 22 S_4 (fun S_6 =>
          ∀ x3_7 : Int32, x3_7 = x3 + 1 →
          R21 x3_7 S_6))) ∧
         (r_1 = 0 →
          post S)))))
def wp_contentOf_l21 (p1 : Nat) (p2 : Nat) (post : St → Prop)  (x3 : Int32) (S : St) : Prop := wLoop (fun (R : (Int32 × St) → Prop) (v : Int32 × St) => wp_contentOf_b21 p1 p2 post (fun x3 S => R (x3, S))  v.1 v.2) (x3, S)
def wp_contentOf_b2 (p1 : Nat) (p2 : Nat) (post : St → Prop) (R2 : Int32 → St → Prop)  (x3 : Int32) (S : St) : Prop :=
      ((2304 ≤ x3 →
        wp_contentOf_l21 p1 p2 post 0 S) ∧
       (¬ (2304 ≤ x3) →
        ∃ j_10 : Nat, j_10 < mlen p2 ∧ x3 = nI j_10 ∧ ∀ S_11 : St, S_11 = bw S p2 j_10 0 →
        ∀ x3_12 : Int32, x3_12 = x3 + 1 →
        R2 x3_12 S_11))
def wp_contentOf_l2 (p1 : Nat) (p2 : Nat) (post : St → Prop)  (x3 : Int32) (S : St) : Prop := wLoop (fun (R : (Int32 × St) → Prop) (v : Int32 × St) => wp_contentOf_b2 p1 p2 post (fun x3 S => R (x3, S))  v.1 v.2) (x3, S)
def wp_contentOf (p1 : Nat) (p2 : Nat) (S : St) (post : St → Prop) : Prop :=
  wp_contentOf_l2 p1 p2 post 0 S
set_option maxHeartbeats 4000000 in
theorem met_contentOf (l : Launch) (D : va_G) (cI cB : ClassId) (b : Nat) (p1 : Nat) (p2 : Nat) (hp1 : mok p1) (hp2 : mok p2) (S : St) (post : St → Prop) (h : wp_contentOf p1 p2 S post) : Met l yX7_contentOf (ws_ yX7_contentOf cX7_contentOf 4 none) ({ frames := 3, cells := 0, slots := 0, locals := 78 } : Room) (mPc D cI cB b [.ref b, .ref (b + p1), .ref (b + p2)] S) (mQv D cI cB b post) 0 0 (mA b) := by
  refine Met.ofW (cc := cX7_contentOf) (maxL := 4) (ret := none) (by decide) rfl ?_
  intro p e s m args below meth c s₁ B hml hv
  obtain ⟨rfl, hP, hK⟩ := hv
  have hx := B.exec
  have hb := B.bytes
  have hr := B.returns
  have hts := atoms_spec (ws := ws_ yX7_contentOf cX7_contentOf 4 none) B.pre
  have hts : ∀ w ∈ lw_all, w.before _ s = true := fun w h => hts w (List.mem_cons_of_mem _ h)
  have hown : s.vm.findClass RX7 = some m.cls := findClass_of_methodNamed B.named
  have hlocks := B.notSynchronized
  have hS : va_S (mA b) s.heap s.heap [] := va_S.rf
  have hl := lv_entry ([.ref b, .ref (b + p1), .ref (b + p2)]) (n := 4) (Nat.le_of_ble_eq_true rfl)
  rw [lg_entry_eq]
  generalize (lg_sl ([.ref b, .ref (b + p1), .ref (b + p2)]) ++ List.replicate (4 - (lg_sl ([.ref b, .ref (b + p1), .ref (b + p2)])).length) Slot.unset).toArray = ls at hl ⊢
  have hl : lv_has ls 4 [(0, .ref b), (1, .ref (b + p1)), (2, .ref (b + p2))] := hl
  have L21 : ∀  (x3 : Int32) (S : St) (H : Heap) (locs : List Loc) (ls : Array Slot), wp_contentOf_l21 p1 p2 post  x3 S → mW D cI cB b S H → va_S (mA b) s.heap H locs → lv_has ls 4 [(0, .ref b), (1, .ref (b + p1)), (2, .ref (b + p2)), (3, .int x3)] → W p l e (headSpec (ws_ yX7_contentOf cX7_contentOf 4 none) ({ frames := 3, cells := 0, slots := 0, locals := 78 } : Room)).room s m ([.ref b, .ref (b + p1), .ref (b + p2)] : List Value).toArray below meth c H locs 0 0 (MQ below (mQv D cI cB b post) ([.ref b, .ref (b + p1), .ref (b + p2)] : List Value).toArray s 0 0 (mA b)) (F0 m 21 ls []) := by
    intro  x3 S H locs ls h hP hS hl
    obtain ⟨I21, n21, hI, hstep21⟩ := h
    induction n21 using Nat.strongRecOn generalizing x3 S H locs ls with
    | ind n21 ih21 =>
      have h : wp_contentOf_b21 p1 p2 post (fun x3 S => ∃ mm, mm < n21 ∧ I21 mm (x3, S))  x3 S := hstep21 n21 _ hI
      clear hI
      unfold wp_contentOf_b21 at h
      refine lv_iload_n hx hb dX7_contentOf_21 rfl (lv_at hl 3 rfl) ?_
      refine lv_bipush (v := 16) hx hb dX7_contentOf_22 (by decide) ?_
      refine lv_icmp_ge (tgt := 64) hx hb dX7_contentOf_24 (by decide) (fun c_9 => ?_) (fun c_9 => ?_)
      · have h := h.1 c_9
        exact W.vret hx hb hr (fun t ht hW => ⟨⟨S, rfl, h, by rw [ht]; exact hP, va_K.moved hW.alike hK⟩, hS.F ht⟩) hS.2.2 dX7_contentOf_64
      · have h := h.2 c_9
        refine lv_aload_n hx hb dX7_contentOf_27 rfl (lv_at hl 2 rfl) ?_
        refine lv_iconst (v := 0) hx hb dX7_contentOf_28 (by decide) ?_
        refine m_cSp (As := [.ref (b + p2), .int 0]) (rest := []) ⟨hx, hb, hml, hown, hts⟩ (met_heightOf l D cI cB b p2 0 hp2 S _ h) (va_cwS 2 hts (lw_S q1760 q1761 q128 q1762) rfl rfl rfl cwd_heightOf ⟨Nat.le_of_ble_eq_true rfl, Nat.le_of_ble_eq_true rfl⟩) hK hP hS rfl hl.1 rfl (Nat.le_of_ble_eq_true rfl) dX7_contentOf_29 ⟨Nat.zero_le _, Nat.zero_le _⟩ (fun r_1 H locs h hP hS => ?_)
        refine lv_if_ne (tgt := 36) hx hb dX7_contentOf_32 (by decide) (fun c_8 => ?_) (fun c_8 => ?_)
        · have h := h.1 c_8
          refine lv_aload_n hx hb dX7_contentOf_36 rfl (lv_at hl 1 rfl) ?_
          refine lv_sipush (v := 2304) hx hb dX7_contentOf_37 (by decide) ?_
          refine lv_iload_n hx hb dX7_contentOf_40 rfl (lv_at hl 3 rfl) ?_
          refine lv_imul hx hb dX7_contentOf_41 ?_
          refine lv_aload_n hx hb dX7_contentOf_42 rfl (lv_at hl 0 rfl) ?_
          refine m_get (v := .ref (b + 22)) hx hb hts hown hK hP 50 (by decide) q1260 rfl rfl dX7_contentOf_43 ?_
          refine m_cSv (As := [.ref (b + p1), .int (2304 * x3), .ref (b + 22)]) (rest := []) ⟨hx, hb, hml, hown, hts⟩ (met_copies l D cI cB b p1 (2304 * x3) 22 hp1 mok_22 S _ h) (va_cwS 3 hts (lw_S q1767 q1768 q128 q1769) rfl rfl rfl cwd_copies ⟨Nat.le_of_ble_eq_true rfl, Nat.le_of_ble_eq_true rfl⟩) hK hP hS rfl hl.1 rfl (Nat.le_of_ble_eq_true rfl) dX7_contentOf_46 ⟨Nat.zero_le _, Nat.zero_le _⟩ (fun S_4 H locs h hP hS => ?_)
          refine lv_aload_n hx hb dX7_contentOf_49 rfl (lv_at hl 0 rfl) ?_
          refine lv_aload_n hx hb dX7_contentOf_50 rfl (lv_at hl 2 rfl) ?_
          refine lv_aload_n hx hb dX7_contentOf_51 rfl (lv_at hl 0 rfl) ?_
          refine m_get (v := .ref (b + 22)) hx hb hts hown hK hP 50 (by decide) q1260 rfl rfl dX7_contentOf_52 ?_
          refine m_cVv (As := [.ref (b + p2), .ref (b + 22)]) (rest := []) ⟨hx, hb, hml, hown, hts⟩ (met_meets l D cI cB b p2 22 hp2 mok_22 S_4 _ h) (cwV 2 hts (lw_V q1770 q1772 qs107 q128 q1773) rfl rfl rfl cwd_meets ⟨Nat.le_of_ble_eq_true rfl, Nat.le_of_ble_eq_true rfl⟩) hK hP hS rfl hl.1 rfl (Nat.le_of_ble_eq_true rfl) dX7_contentOf_55 ⟨Nat.zero_le _, Nat.zero_le _⟩ (fun S_6 H locs h hP hS => ?_)
          obtain ⟨x3_7, ex3_7⟩ : ∃ y : Int32, y = x3 + 1 := ⟨_, rfl⟩
          have h := h x3_7 ex3_7
          refine lv_iinc (v := x3_7) (lv' := [(3, .int x3_7), (0, .ref b), (1, .ref (b + p1)), (2, .ref (b + p2))]) hx hb dX7_contentOf_58 hl (k := 3) rfl (by rw [ex3_7]; rfl) (by decide) rfl (fun ls hl => ?_)
          refine lv_goto (tgt := 21) hx hb dX7_contentOf_61 (by decide) ?_
          obtain ⟨mm, hmm, h⟩ := h
          exact ih21 mm hmm _ _ _ _ _ hP hS (lv_sub hl [1, 2, 3, 0] rfl) h
        · have h := h.2 c_8
          exact W.vret hx hb hr (fun t ht hW => ⟨⟨S, rfl, h, by rw [ht]; exact hP, va_K.moved hW.alike hK⟩, hS.F ht⟩) hS.2.2 dX7_contentOf_35
  have L2 : ∀  (x3 : Int32) (S : St) (H : Heap) (locs : List Loc) (ls : Array Slot), wp_contentOf_l2 p1 p2 post  x3 S → mW D cI cB b S H → va_S (mA b) s.heap H locs → lv_has ls 4 [(0, .ref b), (1, .ref (b + p1)), (2, .ref (b + p2)), (3, .int x3)] → W p l e (headSpec (ws_ yX7_contentOf cX7_contentOf 4 none) ({ frames := 3, cells := 0, slots := 0, locals := 78 } : Room)).room s m ([.ref b, .ref (b + p1), .ref (b + p2)] : List Value).toArray below meth c H locs 0 0 (MQ below (mQv D cI cB b post) ([.ref b, .ref (b + p1), .ref (b + p2)] : List Value).toArray s 0 0 (mA b)) (F0 m 2 ls []) := by
    intro  x3 S H locs ls h hP hS hl
    obtain ⟨I2, n2, hI, hstep2⟩ := h
    induction n2 using Nat.strongRecOn generalizing x3 S H locs ls with
    | ind n2 ih2 =>
      have h : wp_contentOf_b2 p1 p2 post (fun x3 S => ∃ mm, mm < n2 ∧ I2 mm (x3, S))  x3 S := hstep2 n2 _ hI
      clear hI
      unfold wp_contentOf_b2 at h
      refine lv_iload_n hx hb dX7_contentOf_2 rfl (lv_at hl 3 rfl) ?_
      refine lv_sipush (v := 2304) hx hb dX7_contentOf_3 (by decide) ?_
      refine lv_icmp_ge (tgt := 19) hx hb dX7_contentOf_6 (by decide) (fun c_13 => ?_) (fun c_13 => ?_)
      · have h := h.1 c_13
        refine lv_iconst (v := 0) hx hb dX7_contentOf_19 (by decide) ?_
        refine lv_istore_n (lv' := [(3, .int 0), (0, .ref b), (1, .ref (b + p1)), (2, .ref (b + p2))]) hx hb dX7_contentOf_20 rfl hl (by decide) rfl (fun ls hl => ?_)
        exact L21 _ _ _ _ _ h hP hS (lv_sub hl [1, 2, 3, 0] rfl)
      · have h := h.2 c_13
        refine lv_aload_n hx hb dX7_contentOf_9 rfl (lv_at hl 2 rfl) ?_
        refine lv_iload_n hx hb dX7_contentOf_10 rfl (lv_at hl 3 rfl) ?_
        refine lv_iconst (v := 0) hx hb dX7_contentOf_11 (by decide) ?_
        obtain ⟨j_10, hj_10, ej_10, h⟩ := h
        obtain ⟨S_11, eS_11⟩ : ∃ z : St, z = bw S p2 j_10 0 := ⟨_, rfl⟩
        have h := h S_11 eS_11
        refine m_iast hx hb hK hP hS (k := p2) hp2 ej_10 hj_10 dX7_contentOf_12 (fun H locs hP hS => ?_)
        rw [← eS_11] at hP
        obtain ⟨x3_12, ex3_12⟩ : ∃ y : Int32, y = x3 + 1 := ⟨_, rfl⟩
        have h := h x3_12 ex3_12
        refine lv_iinc (v := x3_12) (lv' := [(3, .int x3_12), (0, .ref b), (1, .ref (b + p1)), (2, .ref (b + p2))]) hx hb dX7_contentOf_13 hl (k := 3) rfl (by rw [ex3_12]; rfl) (by decide) rfl (fun ls hl => ?_)
        refine lv_goto (tgt := 2) hx hb dX7_contentOf_16 (by decide) ?_
        obtain ⟨mm, hmm, h⟩ := h
        exact ih2 mm hmm _ _ _ _ _ hP hS (lv_sub hl [1, 2, 3, 0] rfl) h
  unfold wp_contentOf at h
  refine lv_iconst (v := 0) hx hb dX7_contentOf_0 (by decide) ?_
  refine lv_istore_n (lv' := [(3, .int 0), (0, .ref b), (1, .ref (b + p1)), (2, .ref (b + p2))]) hx hb dX7_contentOf_1 rfl hl (by decide) rfl (fun ls hl => ?_)
  exact L2 _ _ _ _ _ h hP hS (lv_sub hl [1, 2, 3, 0] rfl)
