set_option maxRecDepth 100000
def wp_isWord_b5 (p1 : Nat) (post : Int32 → Prop) (R5 : Int64 → Int32 → Prop)  (x2 : Int64) (x4 : Int32) (S : St) : Prop :=
      (((nI (slen.getD p1 0)) ≤ x4 →
        ((¬ (S 0 19) = 2 →
          post 0) ∧
         ((S 0 19) = 2 →
          ((¬ (lg_cmp (mkL (S 0 23) (S 0 53)) x2) = 0 →
            post 0) ∧
           ((lg_cmp (mkL (S 0 23) (S 0 53)) x2) = 0 →
            post 1))))) ∧
       (¬ ((nI (slen.getD p1 0)) ≤ x4) →
        ∃ j_3 : Nat, j_3 < slen.getD p1 0 ∧ x4 = nI j_3 ∧
        ∀ x2_4 : Int64, x2_4 = ((x2 <<< ((8 : Int32).toInt64 &&& 63)) ||| ((((sby.getD p1 []).getD j_3 0) : Int32).toInt64)) →
        ∀ x4_5 : Int32, x4_5 = x4 + 1 →
        R5 x2_4 x4_5))
def wp_isWord_l5 (p1 : Nat) (post : Int32 → Prop)  (x2 : Int64) (x4 : Int32) (S : St) : Prop := wLoop (fun (R : (Int64 × Int32) → Prop) (v : Int64 × Int32) => wp_isWord_b5 p1 post (fun x2 x4 => R (x2, x4))  v.1 v.2 S) (x2, x4)
def wp_isWord (p1 : Nat) (S : St) (post : Int32 → Prop) : Prop :=
  wp_isWord_l5 p1 post 0 0 S
set_option maxHeartbeats 4000000 in
theorem met_isWord (l : Launch) (D : va_G) (cI cB : ClassId) (b : Nat) (p1 : Nat) (ad : SAD) (z : Nat) (hz : z ≤ b) (hp1 : p1 < 22) (S : St) (post : Int32 → Prop) (h : wp_isWord p1 S post) : Met l yX7_isWord (ws_ yX7_isWord cX7_isWord 5 (some .boolean)) ({ frames := 5, cells := 0, slots := 0, locals := 140 } : Room) (mPcS D cI cB b ad z [.ref b, .ref (ad.1 p1)] S) (mQp D cI cB b S post) 0 0 (mA b) := by
  refine Met.ofW (cc := cX7_isWord) (maxL := 5) (ret := (some .boolean)) (by decide) rfl ?_
  intro p e s m args below meth c s₁ B hml hv
  obtain ⟨rfl, ⟨hP, hK⟩, hV⟩ := hv
  have hb0 : b < s.heap.size := (hP 0 (by decide)).lt
  have hx := B.exec
  have hb := B.bytes
  have hr := B.returns
  have hts := atoms_spec (ws := ws_ yX7_isWord cX7_isWord 5 (some .boolean)) B.pre
  have hts : ∀ w ∈ lw_all, w.before _ s = true := fun w h => hts w (List.mem_cons_of_mem _ h)
  have hown : s.vm.findClass RX7 = some m.cls := findClass_of_methodNamed B.named
  have hlocks := B.notSynchronized
  have hS : va_S (mA b) s.heap s.heap [] := va_S.rf
  have hl := lv_entry ([.ref b, .ref (ad.1 p1)]) (n := 5) (Nat.le_of_ble_eq_true rfl)
  rw [lg_entry_eq]
  generalize (lg_sl ([.ref b, .ref (ad.1 p1)]) ++ List.replicate (5 - (lg_sl ([.ref b, .ref (ad.1 p1)])).length) Slot.unset).toArray = ls at hl ⊢
  have hl : lv_has ls 5 [(0, .ref b), (1, .ref (ad.1 p1))] := hl
  have L5 : ∀  (x2 : Int64) (x4 : Int32) (H : Heap) (locs : List Loc) (ls : Array Slot), wp_isWord_l5 p1 post  x2 x4 S → mW D cI cB b S H → va_S (mA b) s.heap H locs → lv_has ls 5 [(0, .ref b), (1, .ref (ad.1 p1)), (2, .long x2), (4, .int x4)] → W p l e (headSpec (ws_ yX7_isWord cX7_isWord 5 (some .boolean)) ({ frames := 5, cells := 0, slots := 0, locals := 140 } : Room)).room s m ([.ref b, .ref (ad.1 p1)] : List Value).toArray below meth c H locs 0 0 (MQ below (mQp D cI cB b S post) ([.ref b, .ref (ad.1 p1)] : List Value).toArray s 0 0 (mA b)) (F0 m 5 ls []) := by
    intro  x2 x4  H locs ls h hP hS hl
    obtain ⟨I5, n5, hI, hstep5⟩ := h
    induction n5 using Nat.strongRecOn generalizing x2 x4 H locs ls with
    | ind n5 ih5 =>
      have h : wp_isWord_b5 p1 post (fun x2 x4 => ∃ mm, mm < n5 ∧ I5 mm (x2, x4))  x2 x4 S := hstep5 n5 _ hI
      clear hI
      unfold wp_isWord_b5 at h
      refine lv_iload hx hb dX7_isWord_5 (lv_at hl 3 rfl) ?_
      refine lv_aload_n hx hb dX7_isWord_7 rfl (lv_at hl 1 rfl) ?_
      refine vp_callSi (W.runV (As := []) (rest := [.int x4]) ⟨hx, hb, hml, hown, hts⟩ (eJ4_length l ad z p1 hp1) (cwV 0 hts (lw_V q1418 q1419 q1420 q129 q1421) rfl rfl rfl ⟨rfl, by decide, by decide, by decide +kernel⟩ ⟨Nat.le_of_ble_eq_true rfl, Nat.le_of_ble_eq_true rfl⟩) ⟨e_blind, sV.recv hV hz (Nat.le_of_lt hb0) hS hp1, fun U hU hW => ⟨rfl, sV.into hV hz (Nat.le_of_lt hb0) hS hU hW⟩⟩ rfl rfl hl.1 rfl (lv_room (Nat.le_of_ble_eq_true rfl)) dX7_isWord_8 ⟨Nat.zero_le _, Nat.zero_le _⟩) (fun r9 hr9 => ?_)
      subst hr9
      refine lv_icmp_ge (tgt := 33) hx hb dX7_isWord_11 (by decide) (fun c_6 => ?_) (fun c_6 => ?_)
      · have h := h.1 c_6
        refine lv_aload_n hx hb dX7_isWord_33 rfl (lv_at hl 0 rfl) ?_
        refine m_get (v := .int (S 0 19)) hx hb hts hown hK hP 19 (by decide) q1229 rfl rfl dX7_isWord_34 ?_
        refine lv_iconst (v := 2) hx hb dX7_isWord_37 (by decide) ?_
        refine lv_icmp_ne (tgt := 54) hx hb dX7_isWord_38 (by decide) (fun c_2 => ?_) (fun c_2 => ?_)
        · have h := h.1 c_2
          refine lv_iconst (v := 0) hx hb dX7_isWord_54 (by decide) ?_
          exact W.zret (v := 0) hx hb hr rfl (fun t ht hW => ⟨⟨0, (), rfl, h, by rw [ht]; exact hP, va_K.moved hW.alike hK⟩, hS.F ht⟩) hS.2.2 dX7_isWord_55
        · have h := h.2 c_2
          refine lv_aload_n hx hb dX7_isWord_41 rfl (lv_at hl 0 rfl) ?_
          refine m_get (v := .long (mkL (S 0 23) (S 0 53))) hx hb hts hown hK hP 23 (by decide) q1233 rfl rfl dX7_isWord_42 ?_
          refine lv_lload_n hx hb dX7_isWord_45 rfl (lv_at hl 2 rfl) ?_
          refine W.lcmp hx hb dX7_isWord_46 ?_
          refine lv_if_ne (tgt := 54) hx hb dX7_isWord_47 (by decide) (fun c_1 => ?_) (fun c_1 => ?_)
          · have h := h.1 c_1
            refine lv_iconst (v := 0) hx hb dX7_isWord_54 (by decide) ?_
            exact W.zret (v := 0) hx hb hr rfl (fun t ht hW => ⟨⟨0, (), rfl, h, by rw [ht]; exact hP, va_K.moved hW.alike hK⟩, hS.F ht⟩) hS.2.2 dX7_isWord_55
          · have h := h.2 c_1
            refine lv_iconst (v := 1) hx hb dX7_isWord_50 (by decide) ?_
            refine lv_goto (tgt := 55) hx hb dX7_isWord_51 (by decide) ?_
            exact W.zret (v := 1) hx hb hr rfl (fun t ht hW => ⟨⟨1, (), rfl, h, by rw [ht]; exact hP, va_K.moved hW.alike hK⟩, hS.F ht⟩) hS.2.2 dX7_isWord_55
      · have h := h.2 c_6
        refine lv_lload_n hx hb dX7_isWord_14 rfl (lv_at hl 2 rfl) ?_
        refine lv_bipush (v := 8) hx hb dX7_isWord_15 (by decide) ?_
        refine lv_lshl hx hb dX7_isWord_17 rfl ?_
        refine lv_aload_n hx hb dX7_isWord_18 rfl (lv_at hl 1 rfl) ?_
        refine lv_iload hx hb dX7_isWord_19 (lv_at hl 3 rfl) ?_
        obtain ⟨j_3, hj_3, ej_3, h⟩ := h
        rw [ej_3]
        refine vp_callSi (W.runV (As := [.int (nI j_3)]) (rest := [.long (x2 <<< ((8 : Int32).toInt64 &&& 63))]) ⟨hx, hb, hml, hown, hts⟩ (eJ4_charAt l ad z p1 j_3 hp1 hj_3) (cwV 1 hts (lw_V q1426 q1427 q1428 q129 q1429) rfl rfl rfl ⟨rfl, by decide, by decide, by decide +kernel⟩ ⟨Nat.le_of_ble_eq_true rfl, Nat.le_of_ble_eq_true rfl⟩) ⟨e_blind, sV.recv hV hz (Nat.le_of_lt hb0) hS hp1, fun U hU hW => ⟨rfl, sV.into hV hz (Nat.le_of_lt hb0) hS hU hW⟩⟩ rfl rfl hl.1 rfl (lv_room (Nat.le_of_ble_eq_true rfl)) dX7_isWord_21 ⟨Nat.zero_le _, Nat.zero_le _⟩) (fun r9 hr9 => ?_)
        subst hr9
        refine lv_i2l hx hb dX7_isWord_24 rfl ?_
        refine lv_lor hx hb dX7_isWord_25 ?_
        refine lv_topl (fun x2_4 ex2_4 => ?_)
        have h := h x2_4 ex2_4
        refine lv_lstore_n (lv' := [(2, .long x2_4), (0, .ref b), (1, .ref (ad.1 p1)), (4, .int x4)]) hx hb dX7_isWord_26 rfl hl (by decide) rfl (fun ls hl => ?_)
        obtain ⟨x4_5, ex4_5⟩ : ∃ y : Int32, y = x4 + 1 := ⟨_, rfl⟩
        have h := h x4_5 ex4_5
        refine lv_iinc (v := x4_5) (lv' := [(4, .int x4_5), (2, .long x2_4), (0, .ref b), (1, .ref (ad.1 p1))]) hx hb dX7_isWord_27 hl (k := 3) rfl (by rw [ex4_5]; rfl) (by decide) rfl (fun ls hl => ?_)
        refine lv_goto (tgt := 5) hx hb dX7_isWord_30 (by decide) ?_
        obtain ⟨mm, hmm, h⟩ := h
        exact ih5 mm hmm _ _ _ _ _ hP hS (lv_sub hl [2, 3, 1, 0] rfl) h
  unfold wp_isWord at h
  refine lv_lconst (v := 0) hx hb dX7_isWord_0 (by decide) ?_
  refine lv_lstore_n (lv' := [(2, .long 0), (0, .ref b), (1, .ref (ad.1 p1))]) hx hb dX7_isWord_1 rfl hl (by decide) rfl (fun ls hl => ?_)
  refine lv_iconst (v := 0) hx hb dX7_isWord_2 (by decide) ?_
  refine lv_istore (lv' := [(4, .int 0), (2, .long 0), (0, .ref b), (1, .ref (ad.1 p1))]) hx hb dX7_isWord_3 hl (by decide) rfl (fun ls hl => ?_)
  exact L5 _ _  _ _ _ h hP hS (lv_sub hl [2, 3, 1, 0] rfl)
def wp_needs_j13 (p1 : Nat) (post : St → Prop)  (S : St) : Prop :=
    wp_next  S (fun S_2 =>
    post S_2)
def wp_needs (p1 : Nat) (S : St) (post : St → Prop) : Prop :=
  wp_isWord p1 S (fun r_3 =>
  ((¬ r_3 = 0 →
    wp_needs_j13 p1 post  S) ∧
   (r_3 = 0 →
    wp_flaw 1 S (fun S_6 =>
    wp_needs_j13 p1 post  S_6))))
set_option maxHeartbeats 4000000 in
theorem met_needs (l : Launch) (D : va_G) (cI cB : ClassId) (b : Nat) (p1 : Nat) (ad : SAD) (z : Nat) (hz : z ≤ b) (hp1 : p1 < 22) (S : St) (post : St → Prop) (h : wp_needs p1 S post) : Met l yX7_needs (ws_ yX7_needs cX7_needs 2 none) ({ frames := 6, cells := 0, slots := 0, locals := 164 } : Room) (mPcS D cI cB b ad z [.ref b, .ref (ad.1 p1)] S) (mQv D cI cB b post) 0 0 (mA b) := by
  refine Met.ofW (cc := cX7_needs) (maxL := 2) (ret := none) (by decide) rfl ?_
  intro p e s m args below meth c s₁ B hml hv
  obtain ⟨rfl, ⟨hP, hK⟩, hV⟩ := hv
  have hb0 : b < s.heap.size := (hP 0 (by decide)).lt
  have hx := B.exec
  have hb := B.bytes
  have hr := B.returns
  have hts := atoms_spec (ws := ws_ yX7_needs cX7_needs 2 none) B.pre
  have hts : ∀ w ∈ lw_all, w.before _ s = true := fun w h => hts w (List.mem_cons_of_mem _ h)
  have hown : s.vm.findClass RX7 = some m.cls := findClass_of_methodNamed B.named
  have hlocks := B.notSynchronized
  have hS : va_S (mA b) s.heap s.heap [] := va_S.rf
  have hl := lv_entry ([.ref b, .ref (ad.1 p1)]) (n := 2) (Nat.le_of_ble_eq_true rfl)
  rw [lg_entry_eq]
  generalize (lg_sl ([.ref b, .ref (ad.1 p1)]) ++ List.replicate (2 - (lg_sl ([.ref b, .ref (ad.1 p1)])).length) Slot.unset).toArray = ls at hl ⊢
  have hl : lv_has ls 2 [(0, .ref b), (1, .ref (ad.1 p1))] := hl
  have J13 : ∀  (S : St) (H : Heap) (locs : List Loc) (ls : Array Slot), wp_needs_j13 p1 post  S → mW D cI cB b S H → va_S (mA b) s.heap H locs → lv_has ls 2 [(0, .ref b)] → W p l e (headSpec (ws_ yX7_needs cX7_needs 2 none) ({ frames := 6, cells := 0, slots := 0, locals := 164 } : Room)).room s m ([.ref b, .ref (ad.1 p1)] : List Value).toArray below meth c H locs 0 0 (MQ below (mQv D cI cB b post) ([.ref b, .ref (ad.1 p1)] : List Value).toArray s 0 0 (mA b)) (F0 m 13 ls []) := by
    intro  S H locs ls h hP hS hl
    unfold wp_needs_j13 at h
    refine lv_aload_n hx hb dX7_needs_13 rfl (lv_at hl 0 rfl) ?_
    refine m_cVv (As := []) (rest := []) ⟨hx, hb, hml, hown, hts⟩ (met_next l D cI cB b   S _ h) (cwV 0 hts (lw_V q1390 q1392 qs60 q128 q1393) rfl rfl rfl cwd_next ⟨Nat.le_of_ble_eq_true rfl, Nat.le_of_ble_eq_true rfl⟩) hK hP hS rfl hl.1 rfl (Nat.le_of_ble_eq_true rfl) dX7_needs_14 ⟨Nat.zero_le _, Nat.zero_le _⟩ (fun S_2 H locs h hP hS => ?_)
    exact W.vret hx hb hr (fun t ht hW => ⟨⟨S_2, rfl, h, by rw [ht]; exact hP, va_K.moved hW.alike hK⟩, hS.F ht⟩) hS.2.2 dX7_needs_17
  unfold wp_needs at h
  refine lv_aload_n hx hb dX7_needs_0 rfl (lv_at hl 0 rfl) ?_
  refine lv_aload_n hx hb dX7_needs_1 rfl (lv_at hl 1 rfl) ?_
  refine m_cVpS (As := [.ref (ad.1 p1)]) (rest := []) ⟨hx, hb, hml, hown, hts⟩ (met_isWord l D cI cB b p1 ad z hz hp1 S _ h) (cwV 1 hts (lw_V q1414 q1416 qs65 q128 q1417) rfl rfl rfl cwd_isWord ⟨Nat.le_of_ble_eq_true rfl, Nat.le_of_ble_eq_true rfl⟩) hV hz (Nat.le_of_lt hb0) hK hP hS rfl hl.1 rfl (Nat.le_of_ble_eq_true rfl) dX7_needs_2 ⟨Nat.zero_le _, Nat.zero_le _⟩ (fun r_3 H locs h hP hS => ?_)
  refine lv_if_ne (tgt := 13) hx hb dX7_needs_5 (by decide) (fun c_7 => ?_) (fun c_7 => ?_)
  · have h := h.1 c_7
    exact J13  _ _ _ _ h hP hS (lv_sub hl [0] rfl)
  · have h := h.2 c_7
    refine lv_aload_n hx hb dX7_needs_8 rfl (lv_at hl 0 rfl) ?_
    refine lv_iconst (v := 1) hx hb dX7_needs_9 (by decide) ?_
    refine m_cVv (As := [.int 1]) (rest := []) ⟨hx, hb, hml, hown, hts⟩ (met_flaw l D cI cB b 1  S _ h) (cwV 1 hts (lw_V q1450 q1452 qs67 q128 q1453) rfl rfl rfl cwd_flaw ⟨Nat.le_of_ble_eq_true rfl, Nat.le_of_ble_eq_true rfl⟩) hK hP hS rfl hl.1 rfl (Nat.le_of_ble_eq_true rfl) dX7_needs_10 ⟨Nat.zero_le _, Nat.zero_le _⟩ (fun S_6 H locs h hP hS => ?_)
    exact J13  _ _ _ _ h hP hS (lv_sub hl [0] rfl)
def wp_unknownHere  (S : St) (post : Int32 → Prop) : Prop :=
  wp_isWord 0 S (fun r_1 =>
  ((r_1 = 0 →
    wp_isWord 1 S (fun r_3 =>
    ((r_3 = 0 →
      wp_isWord 2 S (fun r_5 =>
      ((r_5 = 0 →
        post (-1)) ∧
       (¬ (r_5 = 0) →
        post 2)))) ∧
     (¬ (r_3 = 0) →
      post 1)))) ∧
   (¬ (r_1 = 0) →
    post 0)))
set_option maxHeartbeats 4000000 in
theorem met_unknownHere (l : Launch) (D : va_G) (cI cB : ClassId) (b : Nat)  (ad : SAD) (z : Nat) (hz : z ≤ b)  (S : St) (post : Int32 → Prop) (h : wp_unknownHere  S post) : Met l yX7_unknownHere (ws_ yX7_unknownHere cX7_unknownHere 1 (some .int)) ({ frames := 6, cells := 0, slots := 0, locals := 164 } : Room) (mPcS D cI cB b ad z [.ref b] S) (mQp D cI cB b S post) 0 0 (mA b) := by
  refine Met.ofW (cc := cX7_unknownHere) (maxL := 1) (ret := (some .int)) (by decide) rfl ?_
  intro p e s m args below meth c s₁ B hml hv
  obtain ⟨rfl, ⟨hP, hK⟩, hV⟩ := hv
  have hb0 : b < s.heap.size := (hP 0 (by decide)).lt
  have hx := B.exec
  have hb := B.bytes
  have hr := B.returns
  have hts := atoms_spec (ws := ws_ yX7_unknownHere cX7_unknownHere 1 (some .int)) B.pre
  have hts : ∀ w ∈ lw_all, w.before _ s = true := fun w h => hts w (List.mem_cons_of_mem _ h)
  have hown : s.vm.findClass RX7 = some m.cls := findClass_of_methodNamed B.named
  have hlocks := B.notSynchronized
  have hS : va_S (mA b) s.heap s.heap [] := va_S.rf
  have hl := lv_entry ([.ref b]) (n := 1) (Nat.le_of_ble_eq_true rfl)
  rw [lg_entry_eq]
  generalize (lg_sl ([.ref b]) ++ List.replicate (1 - (lg_sl ([.ref b])).length) Slot.unset).toArray = ls at hl ⊢
  have hl : lv_has ls 1 [(0, .ref b)] := hl
  unfold wp_unknownHere at h
  refine lv_aload_n hx hb dX7_unknownHere_0 rfl (lv_at hl 0 rfl) ?_
  refine va_ldcS hx hb hown (hV.2.1 0 (by decide)) dX7_unknownHere_1 ?_
  refine m_cVpS (As := [.ref (ad.1 0)]) (rest := []) ⟨hx, hb, hml, hown, hts⟩ (met_isWord l D cI cB b 0 ad z hz (by decide) S _ h) (cwV 1 hts (lw_V q1414 q1416 qs65 q128 q1417) rfl rfl rfl cwd_isWord ⟨Nat.le_of_ble_eq_true rfl, Nat.le_of_ble_eq_true rfl⟩) hV hz (Nat.le_of_lt hb0) hK hP hS rfl hl.1 rfl (Nat.le_of_ble_eq_true rfl) dX7_unknownHere_3 ⟨Nat.zero_le _, Nat.zero_le _⟩ (fun r_1 H locs h hP hS => ?_)
  refine lv_if_eq (tgt := 13) hx hb dX7_unknownHere_6 (by decide) (fun c_9 => ?_) (fun c_9 => ?_)
  · have h := h.1 c_9
    refine lv_aload_n hx hb dX7_unknownHere_13 rfl (lv_at hl 0 rfl) ?_
    refine va_ldcS hx hb hown (hV.2.1 1 (by decide)) dX7_unknownHere_14 ?_
    refine m_cVpS (As := [.ref (ad.1 1)]) (rest := []) ⟨hx, hb, hml, hown, hts⟩ (met_isWord l D cI cB b 1 ad z hz (by decide) S _ h) (cwV 1 hts (lw_V q1414 q1416 qs65 q128 q1417) rfl rfl rfl cwd_isWord ⟨Nat.le_of_ble_eq_true rfl, Nat.le_of_ble_eq_true rfl⟩) hV hz (Nat.le_of_lt hb0) hK hP hS rfl hl.1 rfl (Nat.le_of_ble_eq_true rfl) dX7_unknownHere_16 ⟨Nat.zero_le _, Nat.zero_le _⟩ (fun r_3 H locs h hP hS => ?_)
    refine lv_if_eq (tgt := 26) hx hb dX7_unknownHere_19 (by decide) (fun c_8 => ?_) (fun c_8 => ?_)
    · have h := h.1 c_8
      refine lv_aload_n hx hb dX7_unknownHere_26 rfl (lv_at hl 0 rfl) ?_
      refine va_ldcS hx hb hown (hV.2.1 2 (by decide)) dX7_unknownHere_27 ?_
      refine m_cVpS (As := [.ref (ad.1 2)]) (rest := []) ⟨hx, hb, hml, hown, hts⟩ (met_isWord l D cI cB b 2 ad z hz (by decide) S _ h) (cwV 1 hts (lw_V q1414 q1416 qs65 q128 q1417) rfl rfl rfl cwd_isWord ⟨Nat.le_of_ble_eq_true rfl, Nat.le_of_ble_eq_true rfl⟩) hV hz (Nat.le_of_lt hb0) hK hP hS rfl hl.1 rfl (Nat.le_of_ble_eq_true rfl) dX7_unknownHere_29 ⟨Nat.zero_le _, Nat.zero_le _⟩ (fun r_5 H locs h hP hS => ?_)
      refine lv_if_eq (tgt := 39) hx hb dX7_unknownHere_32 (by decide) (fun c_7 => ?_) (fun c_7 => ?_)
      · have h := h.1 c_7
        refine lv_iconst (v := (-1)) hx hb dX7_unknownHere_39 (by decide) ?_
        exact W.iret (v := (-1)) hx hb hr (fun t ht hW => ⟨⟨(-1), (), rfl, h, by rw [ht]; exact hP, va_K.moved hW.alike hK⟩, hS.F ht⟩) hS.2.2 dX7_unknownHere_40
      · have h := h.2 c_7
        refine lv_iconst (v := 2) hx hb dX7_unknownHere_35 (by decide) ?_
        refine lv_goto (tgt := 40) hx hb dX7_unknownHere_36 (by decide) ?_
        exact W.iret (v := 2) hx hb hr (fun t ht hW => ⟨⟨2, (), rfl, h, by rw [ht]; exact hP, va_K.moved hW.alike hK⟩, hS.F ht⟩) hS.2.2 dX7_unknownHere_40
    · have h := h.2 c_8
      refine lv_iconst (v := 1) hx hb dX7_unknownHere_22 (by decide) ?_
      refine lv_goto (tgt := 40) hx hb dX7_unknownHere_23 (by decide) ?_
      exact W.iret (v := 1) hx hb hr (fun t ht hW => ⟨⟨1, (), rfl, h, by rw [ht]; exact hP, va_K.moved hW.alike hK⟩, hS.F ht⟩) hS.2.2 dX7_unknownHere_40
  · have h := h.2 c_9
    refine lv_iconst (v := 0) hx hb dX7_unknownHere_9 (by decide) ?_
    refine lv_goto (tgt := 40) hx hb dX7_unknownHere_10 (by decide) ?_
    exact W.iret (v := 0) hx hb hr (fun t ht hW => ⟨⟨0, (), rfl, h, by rw [ht]; exact hP, va_K.moved hW.alike hK⟩, hS.F ht⟩) hS.2.2 dX7_unknownHere_40
def wp_readUnknown_j33 (p1 : Int32) (p2 : Int32) (post : Int32 → St → Prop) (x3 : Int32) (S : St) : Prop :=
    wp_next  S (fun S_2 =>
    post x3 S_2)
def wp_readUnknown_j28 (p1 : Int32) (p2 : Int32) (post : Int32 → St → Prop) (x3 : Int32) (S : St) : Prop :=
    wp_flaw 3 S (fun S_4 =>
    wp_readUnknown_j33 p1 p2 post x3 S_4)
def wp_readUnknown (p1 : Int32) (p2 : Int32) (S : St) (post : Int32 → St → Prop) : Prop :=
  wp_unknownHere  S (fun r_5 =>
  ((¬ r_5 = (-1) →
    ((r_5 = p1 →
      wp_readUnknown_j28 p1 p2 post r_5 S) ∧
     (¬ (r_5 = p1) →
      ((¬ r_5 = p2 →
        wp_readUnknown_j33 p1 p2 post r_5 S) ∧
       (r_5 = p2 →
        wp_readUnknown_j28 p1 p2 post r_5 S))))) ∧
   (r_5 = (-1) →
    wp_flaw 1 S (fun S_10 =>
    wp_readUnknown_j33 p1 p2 post r_5 S_10))))
set_option maxHeartbeats 4000000 in
theorem met_readUnknown (l : Launch) (D : va_G) (cI cB : ClassId) (b : Nat) (p1 : Int32) (p2 : Int32) (ad : SAD) (z : Nat) (hz : z ≤ b)  (S : St) (post : Int32 → St → Prop) (h : wp_readUnknown p1 p2 S post) : Met l yX7_readUnknown (ws_ yX7_readUnknown cX7_readUnknown 4 (some .int)) ({ frames := 7, cells := 0, slots := 0, locals := 184 } : Room) (mPcS D cI cB b ad z [.ref b, .int p1, .int p2] S) (mQi D cI cB b post) 0 0 (mA b) := by
  refine Met.ofW (cc := cX7_readUnknown) (maxL := 4) (ret := (some .int)) (by decide) rfl ?_
  intro p e s m args below meth c s₁ B hml hv
  obtain ⟨rfl, ⟨hP, hK⟩, hV⟩ := hv
  have hb0 : b < s.heap.size := (hP 0 (by decide)).lt
  have hx := B.exec
  have hb := B.bytes
  have hr := B.returns
  have hts := atoms_spec (ws := ws_ yX7_readUnknown cX7_readUnknown 4 (some .int)) B.pre
  have hts : ∀ w ∈ lw_all, w.before _ s = true := fun w h => hts w (List.mem_cons_of_mem _ h)
  have hown : s.vm.findClass RX7 = some m.cls := findClass_of_methodNamed B.named
  have hlocks := B.notSynchronized
  have hS : va_S (mA b) s.heap s.heap [] := va_S.rf
  have hl := lv_entry ([.ref b, .int p1, .int p2]) (n := 4) (Nat.le_of_ble_eq_true rfl)
  rw [lg_entry_eq]
  generalize (lg_sl ([.ref b, .int p1, .int p2]) ++ List.replicate (4 - (lg_sl ([.ref b, .int p1, .int p2])).length) Slot.unset).toArray = ls at hl ⊢
  have hl : lv_has ls 4 [(0, .ref b), (1, .int p1), (2, .int p2)] := hl
  have J33 : ∀ (x3 : Int32) (S : St) (H : Heap) (locs : List Loc) (ls : Array Slot), wp_readUnknown_j33 p1 p2 post x3 S → mW D cI cB b S H → va_S (mA b) s.heap H locs → lv_has ls 4 [(0, .ref b), (3, .int x3)] → W p l e (headSpec (ws_ yX7_readUnknown cX7_readUnknown 4 (some .int)) ({ frames := 7, cells := 0, slots := 0, locals := 184 } : Room)).room s m ([.ref b, .int p1, .int p2] : List Value).toArray below meth c H locs 0 0 (MQ below (mQi D cI cB b post) ([.ref b, .int p1, .int p2] : List Value).toArray s 0 0 (mA b)) (F0 m 33 ls []) := by
    intro x3 S H locs ls h hP hS hl
    unfold wp_readUnknown_j33 at h
    refine lv_aload_n hx hb dX7_readUnknown_33 rfl (lv_at hl 0 rfl) ?_
    refine m_cVv (As := []) (rest := []) ⟨hx, hb, hml, hown, hts⟩ (met_next l D cI cB b   S _ h) (cwV 0 hts (lw_V q1390 q1392 qs60 q128 q1393) rfl rfl rfl cwd_next ⟨Nat.le_of_ble_eq_true rfl, Nat.le_of_ble_eq_true rfl⟩) hK hP hS rfl hl.1 rfl (Nat.le_of_ble_eq_true rfl) dX7_readUnknown_34 ⟨Nat.zero_le _, Nat.zero_le _⟩ (fun S_2 H locs h hP hS => ?_)
    refine lv_iload_n hx hb dX7_readUnknown_37 rfl (lv_at hl 1 rfl) ?_
    exact W.iret (v := x3) hx hb hr (fun t ht hW => ⟨⟨x3, S_2, rfl, h, by rw [ht]; exact hP, va_K.moved hW.alike hK⟩, hS.F ht⟩) hS.2.2 dX7_readUnknown_38
  have J28 : ∀ (x3 : Int32) (S : St) (H : Heap) (locs : List Loc) (ls : Array Slot), wp_readUnknown_j28 p1 p2 post x3 S → mW D cI cB b S H → va_S (mA b) s.heap H locs → lv_has ls 4 [(0, .ref b), (3, .int x3)] → W p l e (headSpec (ws_ yX7_readUnknown cX7_readUnknown 4 (some .int)) ({ frames := 7, cells := 0, slots := 0, locals := 184 } : Room)).room s m ([.ref b, .int p1, .int p2] : List Value).toArray below meth c H locs 0 0 (MQ below (mQi D cI cB b post) ([.ref b, .int p1, .int p2] : List Value).toArray s 0 0 (mA b)) (F0 m 28 ls []) := by
    intro x3 S H locs ls h hP hS hl
    unfold wp_readUnknown_j28 at h
    refine lv_aload_n hx hb dX7_readUnknown_28 rfl (lv_at hl 0 rfl) ?_
    refine lv_iconst (v := 3) hx hb dX7_readUnknown_29 (by decide) ?_
    refine m_cVv (As := [.int 3]) (rest := []) ⟨hx, hb, hml, hown, hts⟩ (met_flaw l D cI cB b 3  S _ h) (cwV 1 hts (lw_V q1450 q1452 qs67 q128 q1453) rfl rfl rfl cwd_flaw ⟨Nat.le_of_ble_eq_true rfl, Nat.le_of_ble_eq_true rfl⟩) hK hP hS rfl hl.1 rfl (Nat.le_of_ble_eq_true rfl) dX7_readUnknown_30 ⟨Nat.zero_le _, Nat.zero_le _⟩ (fun S_4 H locs h hP hS => ?_)
    exact J33 _ _ _ _ _ h hP hS (lv_sub hl [0, 1] rfl)
  unfold wp_readUnknown at h
  refine lv_aload_n hx hb dX7_readUnknown_0 rfl (lv_at hl 0 rfl) ?_
  refine m_cVpS (As := []) (rest := []) ⟨hx, hb, hml, hown, hts⟩ (met_unknownHere l D cI cB b  ad z hz S _ h) (cwV 0 hts (lw_V q1470 q1472 qs70 q128 q1473) rfl rfl rfl cwd_unknownHere ⟨Nat.le_of_ble_eq_true rfl, Nat.le_of_ble_eq_true rfl⟩) hV hz (Nat.le_of_lt hb0) hK hP hS rfl hl.1 rfl (Nat.le_of_ble_eq_true rfl) dX7_readUnknown_1 ⟨Nat.zero_le _, Nat.zero_le _⟩ (fun r_5 H locs h hP hS => ?_)
  refine lv_istore_n (lv' := [(3, .int r_5), (0, .ref b), (1, .int p1), (2, .int p2)]) hx hb dX7_readUnknown_4 rfl hl (by decide) rfl (fun ls hl => ?_)
  refine lv_iload_n hx hb dX7_readUnknown_5 rfl (lv_at hl 0 rfl) ?_
  refine lv_iconst (v := (-1)) hx hb dX7_readUnknown_6 (by decide) ?_
  refine lv_icmp_ne (tgt := 18) hx hb dX7_readUnknown_7 (by decide) (fun c_11 => ?_) (fun c_11 => ?_)
  · have h := h.1 c_11
    refine lv_iload_n hx hb dX7_readUnknown_18 rfl (lv_at hl 0 rfl) ?_
    refine lv_iload_n hx hb dX7_readUnknown_19 rfl (lv_at hl 2 rfl) ?_
    refine lv_icmp_eq (tgt := 28) hx hb dX7_readUnknown_20 (by decide) (fun c_8 => ?_) (fun c_8 => ?_)
    · have h := h.1 c_8
      exact J28 _ _ _ _ _ h hP hS (lv_sub hl [1, 0] rfl)
    · have h := h.2 c_8
      refine lv_iload_n hx hb dX7_readUnknown_23 rfl (lv_at hl 0 rfl) ?_
      refine lv_iload_n hx hb dX7_readUnknown_24 rfl (lv_at hl 3 rfl) ?_
      refine lv_icmp_ne (tgt := 33) hx hb dX7_readUnknown_25 (by decide) (fun c_7 => ?_) (fun c_7 => ?_)
      · have h := h.1 c_7
        exact J33 _ _ _ _ _ h hP hS (lv_sub hl [1, 0] rfl)
      · have h := h.2 c_7
        exact J28 _ _ _ _ _ h hP hS (lv_sub hl [1, 0] rfl)
  · have h := h.2 c_11
    refine lv_aload_n hx hb dX7_readUnknown_10 rfl (lv_at hl 1 rfl) ?_
    refine lv_iconst (v := 1) hx hb dX7_readUnknown_11 (by decide) ?_
    refine m_cVv (As := [.int 1]) (rest := []) ⟨hx, hb, hml, hown, hts⟩ (met_flaw l D cI cB b 1  S _ h) (cwV 1 hts (lw_V q1450 q1452 qs67 q128 q1453) rfl rfl rfl cwd_flaw ⟨Nat.le_of_ble_eq_true rfl, Nat.le_of_ble_eq_true rfl⟩) hK hP hS rfl hl.1 rfl (Nat.le_of_ble_eq_true rfl) dX7_readUnknown_12 ⟨Nat.zero_le _, Nat.zero_le _⟩ (fun S_10 H locs h hP hS => ?_)
    refine lv_goto (tgt := 33) hx hb dX7_readUnknown_15 (by decide) ?_
    exact J33 _ _ _ _ _ h hP hS (lv_sub hl [1, 0] rfl)
def wp_readRing_j125  (post : St → Prop) (x1 : Int32) (S : St) : Prop :=
    wp_next  S (fun S_2 =>
    wp_readUnknown (-1) (-1) S_2 (fun r_3 S_4 =>
    ∀ S_5 : St, S_5 = bw S_4 0 11 r_3 →
    wp_readUnknown (S_5 0 11) (-1) S_5 (fun r_6 S_7 =>
    ∀ S_8 : St, S_8 = bw S_7 0 12 r_6 →
    wp_readUnknown (S_8 0 11) (S_8 0 12) S_8 (fun r_9 S_10 =>
    ((¬ (S_10 0 22) = 0 →
      post S_10) ∧
     ((S_10 0 22) = 0 →
      ∀ S_11 : St, S_11 = bw S_10 0 9 x1 →
      post S_11))))))
def wp_readRing_j112  (post : St → Prop) (x1 : Int32) (S : St) : Prop :=
    ((¬ (S 0 10) = (-1) →
      wp_readRing_j125  post x1 S) ∧
     ((S 0 10) = (-1) →
      wp_flaw 1 S (fun S_14 =>
      wp_readRing_j125  post x1 S_14)))
def wp_readRing_j53  (post : St → Prop)  (S : St) : Prop :=
    wp_next  S (fun S_17 =>
    wp_needs 6 S_17 (fun S_19 =>
    wp_isWord 7 S_19 (fun r_20 =>
    ((r_20 = 0 →
      wp_isWord 8 S_19 (fun r_22 =>
      ((r_22 = 0 →
        wp_isWord 9 S_19 (fun r_24 =>
        ((r_24 = 0 →
          ∀ S_26 : St, S_26 = bw S_19 0 10 (-1) →
          wp_readRing_j112  post (S 0 21) S_26) ∧
         (¬ (r_24 = 0) →
          ∀ S_27 : St, S_27 = bw S_19 0 10 2 →
          wp_readRing_j112  post (S 0 21) S_27)))) ∧
       (¬ (r_22 = 0) →
        ∀ S_29 : St, S_29 = bw S_19 0 10 1 →
        wp_readRing_j112  post (S 0 21) S_29)))) ∧
     (¬ (r_20 = 0) →
      ∀ S_31 : St, S_31 = bw S_19 0 10 0 →
      wp_readRing_j112  post (S 0 21) S_31)))))
def wp_readRing_j12  (post : St → Prop)  (S : St) : Prop :=
    wp_next  S (fun S_34 =>
    wp_needs 5 S_34 (fun S_36 =>
    (((S_36 0 19) = 3 →
      wp_isPrime (S_36 0 21) S_36 (fun r_37 =>
      ((¬ r_37 = 0 →
        wp_readRing_j53  post  S_36) ∧
       (r_37 = 0 →
        wp_flaw 2 S_36 (fun S_40 =>
        wp_readRing_j53  post  S_40))))) ∧
     (¬ ((S_36 0 19) = 3) →
      wp_flaw 1 S_36 (fun S_43 =>
      wp_readRing_j53  post  S_43)))))
def wp_readRing  (S : St) (post : St → Prop) : Prop :=
  (((S 0 9) ≤ 0 →
    wp_readRing_j12  post  S) ∧
   (¬ ((S 0 9) ≤ 0) →
    wp_flaw 3 S (fun S_46 =>
    wp_readRing_j12  post  S_46)))
set_option maxHeartbeats 4000000 in
theorem met_readRing (l : Launch) (D : va_G) (cI cB : ClassId) (b : Nat)  (ad : SAD) (z : Nat) (hz : z ≤ b)  (S : St) (post : St → Prop) (h : wp_readRing  S post) : Met l yX7_readRing (ws_ yX7_readRing cX7_readRing 2 none) ({ frames := 8, cells := 0, slots := 0, locals := 207 } : Room) (mPcS D cI cB b ad z [.ref b] S) (mQv D cI cB b post) 0 0 (mA b) := by
  refine Met.ofW (cc := cX7_readRing) (maxL := 2) (ret := none) (by decide) rfl ?_
  intro p e s m args below meth c s₁ B hml hv
  obtain ⟨rfl, ⟨hP, hK⟩, hV⟩ := hv
  have hb0 : b < s.heap.size := (hP 0 (by decide)).lt
  have hx := B.exec
  have hb := B.bytes
  have hr := B.returns
  have hts := atoms_spec (ws := ws_ yX7_readRing cX7_readRing 2 none) B.pre
  have hts : ∀ w ∈ lw_all, w.before _ s = true := fun w h => hts w (List.mem_cons_of_mem _ h)
  have hown : s.vm.findClass RX7 = some m.cls := findClass_of_methodNamed B.named
  have hlocks := B.notSynchronized
  have hS : va_S (mA b) s.heap s.heap [] := va_S.rf
  have hl := lv_entry ([.ref b]) (n := 2) (Nat.le_of_ble_eq_true rfl)
  rw [lg_entry_eq]
  generalize (lg_sl ([.ref b]) ++ List.replicate (2 - (lg_sl ([.ref b])).length) Slot.unset).toArray = ls at hl ⊢
  have hl : lv_has ls 2 [(0, .ref b)] := hl
  have J125 : ∀ (x1 : Int32) (S : St) (H : Heap) (locs : List Loc) (ls : Array Slot), wp_readRing_j125  post x1 S → mW D cI cB b S H → va_S (mA b) s.heap H locs → lv_has ls 2 [(0, .ref b), (1, .int x1)] → W p l e (headSpec (ws_ yX7_readRing cX7_readRing 2 none) ({ frames := 8, cells := 0, slots := 0, locals := 207 } : Room)).room s m ([.ref b] : List Value).toArray below meth c H locs 0 0 (MQ below (mQv D cI cB b post) ([.ref b] : List Value).toArray s 0 0 (mA b)) (F0 m 125 ls []) := by
    intro x1 S H locs ls h hP hS hl
    unfold wp_readRing_j125 at h
    refine lv_aload_n hx hb dX7_readRing_125 rfl (lv_at hl 0 rfl) ?_
    refine m_cVv (As := []) (rest := []) ⟨hx, hb, hml, hown, hts⟩ (met_next l D cI cB b   S _ h) (cwV 0 hts (lw_V q1390 q1392 qs60 q128 q1393) rfl rfl rfl cwd_next ⟨Nat.le_of_ble_eq_true rfl, Nat.le_of_ble_eq_true rfl⟩) hK hP hS rfl hl.1 rfl (Nat.le_of_ble_eq_true rfl) dX7_readRing_126 ⟨Nat.zero_le _, Nat.zero_le _⟩ (fun S_2 H locs h hP hS => ?_)
    refine lv_aload_n hx hb dX7_readRing_129 rfl (lv_at hl 0 rfl) ?_
    refine lv_aload_n hx hb dX7_readRing_130 rfl (lv_at hl 0 rfl) ?_
    refine lv_iconst (v := (-1)) hx hb dX7_readRing_131 (by decide) ?_
    refine lv_iconst (v := (-1)) hx hb dX7_readRing_132 (by decide) ?_
    refine m_cViS (As := [.int (-1), .int (-1)]) (rest := [.ref b]) ⟨hx, hb, hml, hown, hts⟩ (met_readUnknown l D cI cB b (-1) (-1) ad z hz S_2 _ h) (cwV 2 hts (lw_V q1466 q1468 qs69 q128 q1469) rfl rfl rfl cwd_readUnknown ⟨Nat.le_of_ble_eq_true rfl, Nat.le_of_ble_eq_true rfl⟩) hV hz (Nat.le_of_lt hb0) hK hP hS rfl hl.1 rfl (Nat.le_of_ble_eq_true rfl) dX7_readRing_133 ⟨Nat.zero_le _, Nat.zero_le _⟩ (fun r_3 S_4 H locs h hP hS => ?_)
    obtain ⟨S_5, eS_5⟩ : ∃ z : St, z = bw S_4 0 11 r_3 := ⟨_, rfl⟩
    have h := h S_5 eS_5
    refine m_put (S1 := S_5) (v := .int r_3) (ty := .int) hx hb hts hown hK hP hS 11 (by decide) q1221 rfl rfl (tyX7_ok 11 (by decide)) rfl rfl (by rw [eS_5]; exact mset_11 b S_4 r_3) (by rw [eS_5]; exact bw_0) dX7_readRing_136 (fun H locs hP hS => ?_)
    refine lv_aload_n hx hb dX7_readRing_139 rfl (lv_at hl 0 rfl) ?_
    refine lv_aload_n hx hb dX7_readRing_140 rfl (lv_at hl 0 rfl) ?_
    refine lv_aload_n hx hb dX7_readRing_141 rfl (lv_at hl 0 rfl) ?_
    refine m_get (v := .int (S_5 0 11)) hx hb hts hown hK hP 11 (by decide) q1221 rfl rfl dX7_readRing_142 ?_
    refine lv_iconst (v := (-1)) hx hb dX7_readRing_145 (by decide) ?_
    refine m_cViS (As := [.int (S_5 0 11), .int (-1)]) (rest := [.ref b]) ⟨hx, hb, hml, hown, hts⟩ (met_readUnknown l D cI cB b (S_5 0 11) (-1) ad z hz S_5 _ h) (cwV 2 hts (lw_V q1466 q1468 qs69 q128 q1469) rfl rfl rfl cwd_readUnknown ⟨Nat.le_of_ble_eq_true rfl, Nat.le_of_ble_eq_true rfl⟩) hV hz (Nat.le_of_lt hb0) hK hP hS rfl hl.1 rfl (Nat.le_of_ble_eq_true rfl) dX7_readRing_146 ⟨Nat.zero_le _, Nat.zero_le _⟩ (fun r_6 S_7 H locs h hP hS => ?_)
    obtain ⟨S_8, eS_8⟩ : ∃ z : St, z = bw S_7 0 12 r_6 := ⟨_, rfl⟩
    have h := h S_8 eS_8
    refine m_put (S1 := S_8) (v := .int r_6) (ty := .int) hx hb hts hown hK hP hS 12 (by decide) q1222 rfl rfl (tyX7_ok 12 (by decide)) rfl rfl (by rw [eS_8]; exact mset_12 b S_7 r_6) (by rw [eS_8]; exact bw_0) dX7_readRing_149 (fun H locs hP hS => ?_)
    refine lv_aload_n hx hb dX7_readRing_152 rfl (lv_at hl 0 rfl) ?_
    refine lv_aload_n hx hb dX7_readRing_153 rfl (lv_at hl 0 rfl) ?_
    refine m_get (v := .int (S_8 0 11)) hx hb hts hown hK hP 11 (by decide) q1221 rfl rfl dX7_readRing_154 ?_
    refine lv_aload_n hx hb dX7_readRing_157 rfl (lv_at hl 0 rfl) ?_
    refine m_get (v := .int (S_8 0 12)) hx hb hts hown hK hP 12 (by decide) q1222 rfl rfl dX7_readRing_158 ?_
    refine m_cViS (As := [.int (S_8 0 11), .int (S_8 0 12)]) (rest := []) ⟨hx, hb, hml, hown, hts⟩ (met_readUnknown l D cI cB b (S_8 0 11) (S_8 0 12) ad z hz S_8 _ h) (cwV 2 hts (lw_V q1466 q1468 qs69 q128 q1469) rfl rfl rfl cwd_readUnknown ⟨Nat.le_of_ble_eq_true rfl, Nat.le_of_ble_eq_true rfl⟩) hV hz (Nat.le_of_lt hb0) hK hP hS rfl hl.1 rfl (Nat.le_of_ble_eq_true rfl) dX7_readRing_161 ⟨Nat.zero_le _, Nat.zero_le _⟩ (fun r_9 S_10 H locs h hP hS => ?_)
    refine lv_pop hx hb dX7_readRing_164 rfl ?_
    refine lv_aload_n hx hb dX7_readRing_165 rfl (lv_at hl 0 rfl) ?_
    refine m_get (v := .int (S_10 0 22)) hx hb hts hown hK hP 22 (by decide) q1232 rfl rfl dX7_readRing_166 ?_
    refine lv_if_ne (tgt := 177) hx hb dX7_readRing_169 (by decide) (fun c_12 => ?_) (fun c_12 => ?_)
    · have h := h.1 c_12
      exact W.vret hx hb hr (fun t ht hW => ⟨⟨S_10, rfl, h, by rw [ht]; exact hP, va_K.moved hW.alike hK⟩, hS.F ht⟩) hS.2.2 dX7_readRing_177
    · have h := h.2 c_12
      refine lv_aload_n hx hb dX7_readRing_172 rfl (lv_at hl 0 rfl) ?_
      refine lv_iload_n hx hb dX7_readRing_173 rfl (lv_at hl 1 rfl) ?_
      obtain ⟨S_11, eS_11⟩ : ∃ z : St, z = bw S_10 0 9 x1 := ⟨_, rfl⟩
      have h := h S_11 eS_11
      refine m_put (S1 := S_11) (v := .int x1) (ty := .int) hx hb hts hown hK hP hS 9 (by decide) q1219 rfl rfl (tyX7_ok 9 (by decide)) rfl rfl (by rw [eS_11]; exact mset_9 b S_10 x1) (by rw [eS_11]; exact bw_0) dX7_readRing_174 (fun H locs hP hS => ?_)
      exact W.vret hx hb hr (fun t ht hW => ⟨⟨S_11, rfl, h, by rw [ht]; exact hP, va_K.moved hW.alike hK⟩, hS.F ht⟩) hS.2.2 dX7_readRing_177
  have J112 : ∀ (x1 : Int32) (S : St) (H : Heap) (locs : List Loc) (ls : Array Slot), wp_readRing_j112  post x1 S → mW D cI cB b S H → va_S (mA b) s.heap H locs → lv_has ls 2 [(0, .ref b), (1, .int x1)] → W p l e (headSpec (ws_ yX7_readRing cX7_readRing 2 none) ({ frames := 8, cells := 0, slots := 0, locals := 207 } : Room)).room s m ([.ref b] : List Value).toArray below meth c H locs 0 0 (MQ below (mQv D cI cB b post) ([.ref b] : List Value).toArray s 0 0 (mA b)) (F0 m 112 ls []) := by
    intro x1 S H locs ls h hP hS hl
    unfold wp_readRing_j112 at h
    refine lv_aload_n hx hb dX7_readRing_112 rfl (lv_at hl 0 rfl) ?_
    refine m_get (v := .int (S 0 10)) hx hb hts hown hK hP 10 (by decide) q1220 rfl rfl dX7_readRing_113 ?_
    refine lv_iconst (v := (-1)) hx hb dX7_readRing_116 (by decide) ?_
    refine lv_icmp_ne (tgt := 125) hx hb dX7_readRing_117 (by decide) (fun c_15 => ?_) (fun c_15 => ?_)
    · have h := h.1 c_15
      exact J125 _ _ _ _ _ h hP hS (lv_sub hl [0, 1] rfl)
    · have h := h.2 c_15
      refine lv_aload_n hx hb dX7_readRing_120 rfl (lv_at hl 0 rfl) ?_
      refine lv_iconst (v := 1) hx hb dX7_readRing_121 (by decide) ?_
      refine m_cVv (As := [.int 1]) (rest := []) ⟨hx, hb, hml, hown, hts⟩ (met_flaw l D cI cB b 1  S _ h) (cwV 1 hts (lw_V q1450 q1452 qs67 q128 q1453) rfl rfl rfl cwd_flaw ⟨Nat.le_of_ble_eq_true rfl, Nat.le_of_ble_eq_true rfl⟩) hK hP hS rfl hl.1 rfl (Nat.le_of_ble_eq_true rfl) dX7_readRing_122 ⟨Nat.zero_le _, Nat.zero_le _⟩ (fun S_14 H locs h hP hS => ?_)
      exact J125 _ _ _ _ _ h hP hS (lv_sub hl [0, 1] rfl)
  have J53 : ∀  (S : St) (H : Heap) (locs : List Loc) (ls : Array Slot), wp_readRing_j53  post  S → mW D cI cB b S H → va_S (mA b) s.heap H locs → lv_has ls 2 [(0, .ref b)] → W p l e (headSpec (ws_ yX7_readRing cX7_readRing 2 none) ({ frames := 8, cells := 0, slots := 0, locals := 207 } : Room)).room s m ([.ref b] : List Value).toArray below meth c H locs 0 0 (MQ below (mQv D cI cB b post) ([.ref b] : List Value).toArray s 0 0 (mA b)) (F0 m 53 ls []) := by
    intro  S H locs ls h hP hS hl
    unfold wp_readRing_j53 at h
    refine lv_aload_n hx hb dX7_readRing_53 rfl (lv_at hl 0 rfl) ?_
    refine m_get (v := .int (S 0 21)) hx hb hts hown hK hP 21 (by decide) q1231 rfl rfl dX7_readRing_54 ?_
    refine lv_istore_n (lv' := [(1, .int (S 0 21)), (0, .ref b)]) hx hb dX7_readRing_57 rfl hl (by decide) rfl (fun ls hl => ?_)
    refine lv_aload_n hx hb dX7_readRing_58 rfl (lv_at hl 1 rfl) ?_
    refine m_cVv (As := []) (rest := []) ⟨hx, hb, hml, hown, hts⟩ (met_next l D cI cB b   S _ h) (cwV 0 hts (lw_V q1390 q1392 qs60 q128 q1393) rfl rfl rfl cwd_next ⟨Nat.le_of_ble_eq_true rfl, Nat.le_of_ble_eq_true rfl⟩) hK hP hS rfl hl.1 rfl (Nat.le_of_ble_eq_true rfl) dX7_readRing_59 ⟨Nat.zero_le _, Nat.zero_le _⟩ (fun S_17 H locs h hP hS => ?_)
    refine lv_aload_n hx hb dX7_readRing_62 rfl (lv_at hl 1 rfl) ?_
    refine va_ldcS hx hb hown (hV.2.1 6 (by decide)) dX7_readRing_63 ?_
    refine m_cVvS (As := [.ref (ad.1 6)]) (rest := []) ⟨hx, hb, hml, hown, hts⟩ (met_needs l D cI cB b 6 ad z hz (by decide) S_17 _ h) (cwV 1 hts (lw_V q1455 q1457 qs68 q128 q1458) rfl rfl rfl cwd_needs ⟨Nat.le_of_ble_eq_true rfl, Nat.le_of_ble_eq_true rfl⟩) hV hz (Nat.le_of_lt hb0) hK hP hS rfl hl.1 rfl (Nat.le_of_ble_eq_true rfl) dX7_readRing_65 ⟨Nat.zero_le _, Nat.zero_le _⟩ (fun S_19 H locs h hP hS => ?_)
    refine lv_aload_n hx hb dX7_readRing_68 rfl (lv_at hl 1 rfl) ?_
    refine lv_aload_n hx hb dX7_readRing_69 rfl (lv_at hl 1 rfl) ?_
    refine va_ldcS hx hb hown (hV.2.1 7 (by decide)) dX7_readRing_70 ?_
    refine m_cVpS (As := [.ref (ad.1 7)]) (rest := [.ref b]) ⟨hx, hb, hml, hown, hts⟩ (met_isWord l D cI cB b 7 ad z hz (by decide) S_19 _ h) (cwV 1 hts (lw_V q1414 q1416 qs65 q128 q1417) rfl rfl rfl cwd_isWord ⟨Nat.le_of_ble_eq_true rfl, Nat.le_of_ble_eq_true rfl⟩) hV hz (Nat.le_of_lt hb0) hK hP hS rfl hl.1 rfl (Nat.le_of_ble_eq_true rfl) dX7_readRing_72 ⟨Nat.zero_le _, Nat.zero_le _⟩ (fun r_20 H locs h hP hS => ?_)
    refine lv_if_eq (tgt := 82) hx hb dX7_readRing_75 (by decide) (fun c_32 => ?_) (fun c_32 => ?_)
    · have h := h.1 c_32
      refine lv_aload_n hx hb dX7_readRing_82 rfl (lv_at hl 1 rfl) ?_
      refine va_ldcS hx hb hown (hV.2.1 8 (by decide)) dX7_readRing_83 ?_
      refine m_cVpS (As := [.ref (ad.1 8)]) (rest := [.ref b]) ⟨hx, hb, hml, hown, hts⟩ (met_isWord l D cI cB b 8 ad z hz (by decide) S_19 _ h) (cwV 1 hts (lw_V q1414 q1416 qs65 q128 q1417) rfl rfl rfl cwd_isWord ⟨Nat.le_of_ble_eq_true rfl, Nat.le_of_ble_eq_true rfl⟩) hV hz (Nat.le_of_lt hb0) hK hP hS rfl hl.1 rfl (Nat.le_of_ble_eq_true rfl) dX7_readRing_85 ⟨Nat.zero_le _, Nat.zero_le _⟩ (fun r_22 H locs h hP hS => ?_)
      refine lv_if_eq (tgt := 95) hx hb dX7_readRing_88 (by decide) (fun c_30 => ?_) (fun c_30 => ?_)
      · have h := h.1 c_30
        refine lv_aload_n hx hb dX7_readRing_95 rfl (lv_at hl 1 rfl) ?_
        refine va_ldcS hx hb hown (hV.2.1 9 (by decide)) dX7_readRing_96 ?_
        refine m_cVpS (As := [.ref (ad.1 9)]) (rest := [.ref b]) ⟨hx, hb, hml, hown, hts⟩ (met_isWord l D cI cB b 9 ad z hz (by decide) S_19 _ h) (cwV 1 hts (lw_V q1414 q1416 qs65 q128 q1417) rfl rfl rfl cwd_isWord ⟨Nat.le_of_ble_eq_true rfl, Nat.le_of_ble_eq_true rfl⟩) hV hz (Nat.le_of_lt hb0) hK hP hS rfl hl.1 rfl (Nat.le_of_ble_eq_true rfl) dX7_readRing_98 ⟨Nat.zero_le _, Nat.zero_le _⟩ (fun r_24 H locs h hP hS => ?_)
        refine lv_if_eq (tgt := 108) hx hb dX7_readRing_101 (by decide) (fun c_28 => ?_) (fun c_28 => ?_)
        · have h := h.1 c_28
          refine lv_iconst (v := (-1)) hx hb dX7_readRing_108 (by decide) ?_
          obtain ⟨S_26, eS_26⟩ : ∃ z : St, z = bw S_19 0 10 (-1) := ⟨_, rfl⟩
          have h := h S_26 eS_26
          refine m_put (S1 := S_26) (v := .int (-1)) (ty := .int) hx hb hts hown hK hP hS 10 (by decide) q1220 rfl rfl (tyX7_ok 10 (by decide)) rfl rfl (by rw [eS_26]; exact mset_10 b S_19 (-1)) (by rw [eS_26]; exact bw_0) dX7_readRing_109 (fun H locs hP hS => ?_)
          exact J112 _ _ _ _ _ h hP hS (lv_sub hl [1, 0] rfl)
        · have h := h.2 c_28
          refine lv_iconst (v := 2) hx hb dX7_readRing_104 (by decide) ?_
          refine lv_goto (tgt := 109) hx hb dX7_readRing_105 (by decide) ?_
          obtain ⟨S_27, eS_27⟩ : ∃ z : St, z = bw S_19 0 10 2 := ⟨_, rfl⟩
          have h := h S_27 eS_27
          refine m_put (S1 := S_27) (v := .int 2) (ty := .int) hx hb hts hown hK hP hS 10 (by decide) q1220 rfl rfl (tyX7_ok 10 (by decide)) rfl rfl (by rw [eS_27]; exact mset_10 b S_19 2) (by rw [eS_27]; exact bw_0) dX7_readRing_109 (fun H locs hP hS => ?_)
          exact J112 _ _ _ _ _ h hP hS (lv_sub hl [1, 0] rfl)
      · have h := h.2 c_30
        refine lv_iconst (v := 1) hx hb dX7_readRing_91 (by decide) ?_
        refine lv_goto (tgt := 109) hx hb dX7_readRing_92 (by decide) ?_
        obtain ⟨S_29, eS_29⟩ : ∃ z : St, z = bw S_19 0 10 1 := ⟨_, rfl⟩
        have h := h S_29 eS_29
        refine m_put (S1 := S_29) (v := .int 1) (ty := .int) hx hb hts hown hK hP hS 10 (by decide) q1220 rfl rfl (tyX7_ok 10 (by decide)) rfl rfl (by rw [eS_29]; exact mset_10 b S_19 1) (by rw [eS_29]; exact bw_0) dX7_readRing_109 (fun H locs hP hS => ?_)
        exact J112 _ _ _ _ _ h hP hS (lv_sub hl [1, 0] rfl)
    · have h := h.2 c_32
      refine lv_iconst (v := 0) hx hb dX7_readRing_78 (by decide) ?_
      refine lv_goto (tgt := 109) hx hb dX7_readRing_79 (by decide) ?_
      obtain ⟨S_31, eS_31⟩ : ∃ z : St, z = bw S_19 0 10 0 := ⟨_, rfl⟩
      have h := h S_31 eS_31
      refine m_put (S1 := S_31) (v := .int 0) (ty := .int) hx hb hts hown hK hP hS 10 (by decide) q1220 rfl rfl (tyX7_ok 10 (by decide)) rfl rfl (by rw [eS_31]; exact mset_10 b S_19 0) (by rw [eS_31]; exact bw_0) dX7_readRing_109 (fun H locs hP hS => ?_)
      exact J112 _ _ _ _ _ h hP hS (lv_sub hl [1, 0] rfl)
  have J12 : ∀  (S : St) (H : Heap) (locs : List Loc) (ls : Array Slot), wp_readRing_j12  post  S → mW D cI cB b S H → va_S (mA b) s.heap H locs → lv_has ls 2 [(0, .ref b)] → W p l e (headSpec (ws_ yX7_readRing cX7_readRing 2 none) ({ frames := 8, cells := 0, slots := 0, locals := 207 } : Room)).room s m ([.ref b] : List Value).toArray below meth c H locs 0 0 (MQ below (mQv D cI cB b post) ([.ref b] : List Value).toArray s 0 0 (mA b)) (F0 m 12 ls []) := by
    intro  S H locs ls h hP hS hl
    unfold wp_readRing_j12 at h
    refine lv_aload_n hx hb dX7_readRing_12 rfl (lv_at hl 0 rfl) ?_
    refine m_cVv (As := []) (rest := []) ⟨hx, hb, hml, hown, hts⟩ (met_next l D cI cB b   S _ h) (cwV 0 hts (lw_V q1390 q1392 qs60 q128 q1393) rfl rfl rfl cwd_next ⟨Nat.le_of_ble_eq_true rfl, Nat.le_of_ble_eq_true rfl⟩) hK hP hS rfl hl.1 rfl (Nat.le_of_ble_eq_true rfl) dX7_readRing_13 ⟨Nat.zero_le _, Nat.zero_le _⟩ (fun S_34 H locs h hP hS => ?_)
    refine lv_aload_n hx hb dX7_readRing_16 rfl (lv_at hl 0 rfl) ?_
    refine va_ldcS hx hb hown (hV.2.1 5 (by decide)) dX7_readRing_17 ?_
    refine m_cVvS (As := [.ref (ad.1 5)]) (rest := []) ⟨hx, hb, hml, hown, hts⟩ (met_needs l D cI cB b 5 ad z hz (by decide) S_34 _ h) (cwV 1 hts (lw_V q1455 q1457 qs68 q128 q1458) rfl rfl rfl cwd_needs ⟨Nat.le_of_ble_eq_true rfl, Nat.le_of_ble_eq_true rfl⟩) hV hz (Nat.le_of_lt hb0) hK hP hS rfl hl.1 rfl (Nat.le_of_ble_eq_true rfl) dX7_readRing_19 ⟨Nat.zero_le _, Nat.zero_le _⟩ (fun S_36 H locs h hP hS => ?_)
    refine lv_aload_n hx hb dX7_readRing_22 rfl (lv_at hl 0 rfl) ?_
    refine m_get (v := .int (S_36 0 19)) hx hb hts hown hK hP 19 (by decide) q1229 rfl rfl dX7_readRing_23 ?_
    refine lv_iconst (v := 3) hx hb dX7_readRing_26 (by decide) ?_
    refine lv_icmp_eq (tgt := 38) hx hb dX7_readRing_27 (by decide) (fun c_44 => ?_) (fun c_44 => ?_)
    · have h := h.1 c_44
      refine lv_aload_n hx hb dX7_readRing_38 rfl (lv_at hl 0 rfl) ?_
      refine m_get (v := .int (S_36 0 21)) hx hb hts hown hK hP 21 (by decide) q1231 rfl rfl dX7_readRing_39 ?_
      refine m_cSp (As := [.int (S_36 0 21)]) (rest := []) ⟨hx, hb, hml, hown, hts⟩ (met_isPrime l D cI cB b (S_36 0 21)  S_36 _ h) (va_cwS 1 hts (lw_S q1459 q1460 q128 q1461) rfl rfl rfl cwd_isPrime ⟨Nat.le_of_ble_eq_true rfl, Nat.le_of_ble_eq_true rfl⟩) hK hP hS rfl hl.1 rfl (Nat.le_of_ble_eq_true rfl) dX7_readRing_42 ⟨Nat.zero_le _, Nat.zero_le _⟩ (fun r_37 H locs h hP hS => ?_)
      refine lv_if_ne (tgt := 53) hx hb dX7_readRing_45 (by decide) (fun c_41 => ?_) (fun c_41 => ?_)
      · have h := h.1 c_41
        exact J53  _ _ _ _ h hP hS (lv_sub hl [0] rfl)
      · have h := h.2 c_41
        refine lv_aload_n hx hb dX7_readRing_48 rfl (lv_at hl 0 rfl) ?_
        refine lv_iconst (v := 2) hx hb dX7_readRing_49 (by decide) ?_
        refine m_cVv (As := [.int 2]) (rest := []) ⟨hx, hb, hml, hown, hts⟩ (met_flaw l D cI cB b 2  S_36 _ h) (cwV 1 hts (lw_V q1450 q1452 qs67 q128 q1453) rfl rfl rfl cwd_flaw ⟨Nat.le_of_ble_eq_true rfl, Nat.le_of_ble_eq_true rfl⟩) hK hP hS rfl hl.1 rfl (Nat.le_of_ble_eq_true rfl) dX7_readRing_50 ⟨Nat.zero_le _, Nat.zero_le _⟩ (fun S_40 H locs h hP hS => ?_)
        exact J53  _ _ _ _ h hP hS (lv_sub hl [0] rfl)
    · have h := h.2 c_44
      refine lv_aload_n hx hb dX7_readRing_30 rfl (lv_at hl 0 rfl) ?_
      refine lv_iconst (v := 1) hx hb dX7_readRing_31 (by decide) ?_
      refine m_cVv (As := [.int 1]) (rest := []) ⟨hx, hb, hml, hown, hts⟩ (met_flaw l D cI cB b 1  S_36 _ h) (cwV 1 hts (lw_V q1450 q1452 qs67 q128 q1453) rfl rfl rfl cwd_flaw ⟨Nat.le_of_ble_eq_true rfl, Nat.le_of_ble_eq_true rfl⟩) hK hP hS rfl hl.1 rfl (Nat.le_of_ble_eq_true rfl) dX7_readRing_32 ⟨Nat.zero_le _, Nat.zero_le _⟩ (fun S_43 H locs h hP hS => ?_)
      refine lv_goto (tgt := 53) hx hb dX7_readRing_35 (by decide) ?_
      exact J53  _ _ _ _ h hP hS (lv_sub hl [0] rfl)
  unfold wp_readRing at h
  refine lv_aload_n hx hb dX7_readRing_0 rfl (lv_at hl 0 rfl) ?_
  refine m_get (v := .int (S 0 9)) hx hb hts hown hK hP 9 (by decide) q1219 rfl rfl dX7_readRing_1 ?_
  refine lv_if_le (tgt := 12) hx hb dX7_readRing_4 (by decide) (fun c_47 => ?_) (fun c_47 => ?_)
  · have h := h.1 c_47
    exact J12  _ _ _ _ h hP hS (lv_sub hl [0] rfl)
  · have h := h.2 c_47
    refine lv_aload_n hx hb dX7_readRing_7 rfl (lv_at hl 0 rfl) ?_
    refine lv_iconst (v := 3) hx hb dX7_readRing_8 (by decide) ?_
    refine m_cVv (As := [.int 3]) (rest := []) ⟨hx, hb, hml, hown, hts⟩ (met_flaw l D cI cB b 3  S _ h) (cwV 1 hts (lw_V q1450 q1452 qs67 q128 q1453) rfl rfl rfl cwd_flaw ⟨Nat.le_of_ble_eq_true rfl, Nat.le_of_ble_eq_true rfl⟩) hK hP hS rfl hl.1 rfl (Nat.le_of_ble_eq_true rfl) dX7_readRing_9 ⟨Nat.zero_le _, Nat.zero_le _⟩ (fun S_46 H locs h hP hS => ?_)
    exact J12  _ _ _ _ h hP hS (lv_sub hl [0] rfl)
def wp_readTerm_j174 (p1 : Int32) (post : St → Prop) (x2 : Int32) (x4 : Int32) (S : St) : Prop :=
    (((S 0 22) ≤ 0 →
      ∀ x6_1 : Int32, x6_1 = ((4096 * (S 0 13)) + x4) →
      ∃ j_2 : Nat, j_2 < 24576 ∧ x6_1 = nI j_2 ∧
      ((p1 = 0 →
        ¬ (S 0 9) = 0 ∧
        ∃ j_3 : Nat, j_3 < 24576 ∧ x6_1 = nI j_3 ∧ ∀ S_4 : St, S_4 = bw S 2 j_3 (jrem ((S 2 j_2) + x2) (S 0 9)) →
        post S_4) ∧
       (¬ (p1 = 0) →
        ¬ (S 0 9) = 0 ∧
        ∃ j_5 : Nat, j_5 < 24576 ∧ x6_1 = nI j_5 ∧ ∀ S_6 : St, S_6 = bw S 2 j_5 (jrem ((S 2 j_2) + ((S 0 9) - x2)) (S 0 9)) →
        post S_6))) ∧
     (¬ ((S 0 22) ≤ 0) →
      post S))
def wp_readTerm_j152 (p1 : Int32) (post : St → Prop) (R56 : Int32 → Int32 → St → Prop) (x2 : Int32) (x4 : Int32) (x5 : Int32) (x6 : Int32) (x7 : Int32) (S : St) : Prop :=
        ((¬ (S 0 22) = 0 →
          R56 x4 x5 S) ∧
         ((S 0 22) = 0 →
          ∀ x4_9 : Int32, x4_9 = (x4 ||| (jshl x7 (4 * x6))) →
          R56 x4_9 x5 S))
def wp_readTerm_j142 (p1 : Int32) (post : St → Prop) (R56 : Int32 → Int32 → St → Prop) (x2 : Int32) (x4 : Int32) (x5 : Int32) (x6 : Int32) (S : St) : Prop :=
        wp_next  S (fun S_12 =>
        wp_readTerm_j152 p1 post R56 x2 x4 x5 x6 (S 0 21) S_12)
def wp_readTerm_j93 (p1 : Int32) (post : St → Prop) (R56 : Int32 → Int32 → St → Prop) (x2 : Int32) (x4 : Int32) (x5 : Int32) (x6 : Int32) (S : St) : Prop :=
        ∀ x5_13 : Int32, x5_13 = (x5 ||| (jshl 1 x6)) →
        wp_next  S (fun S_15 =>
        ((¬ (S_15 0 22) = 0 →
          wp_readTerm_j152 p1 post R56 x2 x4 x5_13 x6 1 S_15) ∧
         ((S_15 0 22) = 0 →
          ((¬ (S_15 0 19) = 3 →
            wp_readTerm_j152 p1 post R56 x2 x4 x5_13 x6 1 S_15) ∧
           ((S_15 0 19) = 3 →
            wp_in (S_15 0 21) 1 15 S_15 (fun r_16 =>
            ((¬ r_16 = 0 →
              wp_readTerm_j142 p1 post R56 x2 x4 x5_13 x6 S_15) ∧
             (r_16 = 0 →
              wp_flaw 4 S_15 (fun S_19 =>
              wp_readTerm_j142 p1 post R56 x2 x4 x5_13 x6 S_19)))))))))
def wp_readTerm_b56 (p1 : Int32) (post : St → Prop) (R56 : Int32 → Int32 → St → Prop) (x2 : Int32) (x4 : Int32) (x5 : Int32) (S : St) : Prop :=
      ((¬ (S 0 22) = 0 →
        wp_readTerm_j174 p1 post x2 x4 S) ∧
       ((S 0 22) = 0 →
        wp_unknownHere  S (fun r_23 =>
        ((r_23 = (-1) →
          wp_readTerm_j174 p1 post x2 x4 S) ∧
         (¬ (r_23 = (-1)) →
          wp_unknownHere  S (fun r_25 =>
          ((¬ ((jshr x5 r_25) &&& 1) = 1 →
            wp_readTerm_j93 p1 post R56 x2 x4 x5 r_25 S) ∧
           (((jshr x5 r_25) &&& 1) = 1 →
            wp_flaw 3 S (fun S_28 =>
            wp_readTerm_j93 p1 post R56 x2 x4 x5 r_25 S_28)))))))))
def wp_readTerm_l56 (p1 : Int32) (post : St → Prop) (x2 : Int32) (x4 : Int32) (x5 : Int32) (S : St) : Prop := wLoop (fun (R : (Int32 × Int32 × St) → Prop) (v : Int32 × Int32 × St) => wp_readTerm_b56 p1 post (fun x4 x5 S => R (x4, x5, S)) x2 v.1 v.2.1 v.2.2) (x4, x5, S)
def wp_readTerm_j50 (p1 : Int32) (post : St → Prop) (x2 : Int32) (S : St) : Prop :=
    wp_readTerm_l56 p1 post x2 0 0 S
def wp_readTerm_j16 (p1 : Int32) (post : St → Prop) (x2 : Int32) (x3 : Int32) (S : St) : Prop :=
    ((x3 = 0 →
      wp_unknownHere  S (fun r_32 =>
      ((¬ r_32 = (-1) →
        wp_readTerm_j50 p1 post x2 S) ∧
       (r_32 = (-1) →
        wp_flaw 1 S (fun S_35 =>
        wp_readTerm_j50 p1 post x2 S_35))))) ∧
     (¬ (x3 = 0) →
      ¬ (S 0 9) = 0 ∧
      ∀ x2_37 : Int32, x2_37 = (jrem (S 0 21) (S 0 9)) →
      wp_next  S (fun S_39 =>
      wp_readTerm_j50 p1 post x2_37 S_39)))
def wp_readTerm (p1 : Int32) (S : St) (post : St → Prop) : Prop :=
  ((¬ (S 0 19) = 3 →
    wp_readTerm_j16 p1 post 1 0 S) ∧
   ((S 0 19) = 3 →
    wp_readTerm_j16 p1 post 1 1 S))
set_option maxHeartbeats 4000000 in
theorem met_readTerm (l : Launch) (D : va_G) (cI cB : ClassId) (b : Nat) (p1 : Int32) (ad : SAD) (z : Nat) (hz : z ≤ b)  (S : St) (post : St → Prop) (h : wp_readTerm p1 S post) : Met l yX7_readTerm (ws_ yX7_readTerm cX7_readTerm 8 none) ({ frames := 7, cells := 0, slots := 0, locals := 184 } : Room) (mPcS D cI cB b ad z [.ref b, .int p1] S) (mQv D cI cB b post) 0 0 (mA b) := by
  refine Met.ofW (cc := cX7_readTerm) (maxL := 8) (ret := none) (by decide) rfl ?_
  intro p e s m args below meth c s₁ B hml hv
  obtain ⟨rfl, ⟨hP, hK⟩, hV⟩ := hv
  have hb0 : b < s.heap.size := (hP 0 (by decide)).lt
  have hx := B.exec
  have hb := B.bytes
  have hr := B.returns
  have hts := atoms_spec (ws := ws_ yX7_readTerm cX7_readTerm 8 none) B.pre
  have hts : ∀ w ∈ lw_all, w.before _ s = true := fun w h => hts w (List.mem_cons_of_mem _ h)
  have hown : s.vm.findClass RX7 = some m.cls := findClass_of_methodNamed B.named
  have hlocks := B.notSynchronized
  have hS : va_S (mA b) s.heap s.heap [] := va_S.rf
  have hl := lv_entry ([.ref b, .int p1]) (n := 8) (Nat.le_of_ble_eq_true rfl)
  rw [lg_entry_eq]
  generalize (lg_sl ([.ref b, .int p1]) ++ List.replicate (8 - (lg_sl ([.ref b, .int p1])).length) Slot.unset).toArray = ls at hl ⊢
  have hl : lv_has ls 8 [(0, .ref b), (1, .int p1)] := hl
  have J174 : ∀ (x2 : Int32) (x4 : Int32) (S : St) (H : Heap) (locs : List Loc) (ls : Array Slot), wp_readTerm_j174 p1 post x2 x4 S → mW D cI cB b S H → va_S (mA b) s.heap H locs → lv_has ls 8 [(0, .ref b), (1, .int p1), (2, .int x2), (4, .int x4)] → W p l e (headSpec (ws_ yX7_readTerm cX7_readTerm 8 none) ({ frames := 7, cells := 0, slots := 0, locals := 184 } : Room)).room s m ([.ref b, .int p1] : List Value).toArray below meth c H locs 0 0 (MQ below (mQv D cI cB b post) ([.ref b, .int p1] : List Value).toArray s 0 0 (mA b)) (F0 m 174 ls []) := by
    intro x2 x4 S H locs ls h hP hS hl
    unfold wp_readTerm_j174 at h
    refine lv_aload_n hx hb dX7_readTerm_174 rfl (lv_at hl 0 rfl) ?_
    refine m_get (v := .int (S 0 22)) hx hb hts hown hK hP 22 (by decide) q1232 rfl rfl dX7_readTerm_175 ?_
    refine lv_if_le (tgt := 182) hx hb dX7_readTerm_178 (by decide) (fun c_8 => ?_) (fun c_8 => ?_)
    · have h := h.1 c_8
      refine lv_sipush (v := 4096) hx hb dX7_readTerm_182 (by decide) ?_
      refine lv_aload_n hx hb dX7_readTerm_185 rfl (lv_at hl 0 rfl) ?_
      refine m_get (v := .int (S 0 13)) hx hb hts hown hK hP 13 (by decide) q1223 rfl rfl dX7_readTerm_186 ?_
      refine lv_imul hx hb dX7_readTerm_189 ?_
      refine lv_iload hx hb dX7_readTerm_190 (lv_at hl 3 rfl) ?_
      refine lv_iadd hx hb dX7_readTerm_192 ?_
      refine lv_topi (fun x6_1 ex6_1 => ?_)
      have h := h x6_1 ex6_1
      refine lv_istore (lv' := [(6, .int x6_1), (0, .ref b), (1, .int p1), (2, .int x2), (4, .int x4)]) hx hb dX7_readTerm_193 hl (by decide) rfl (fun ls hl => ?_)
      refine lv_aload_n hx hb dX7_readTerm_195 rfl (lv_at hl 1 rfl) ?_
      refine m_get (v := .ref (b + 2)) hx hb hts hown hK hP 4 (by decide) q1214 rfl rfl dX7_readTerm_196 ?_
      refine lv_iload hx hb dX7_readTerm_199 (lv_at hl 0 rfl) ?_
      refine lv_aload_n hx hb dX7_readTerm_201 rfl (lv_at hl 1 rfl) ?_
      refine m_get (v := .ref (b + 2)) hx hb hts hown hK hP 4 (by decide) q1214 rfl rfl dX7_readTerm_202 ?_
      refine lv_iload hx hb dX7_readTerm_205 (lv_at hl 0 rfl) ?_
      obtain ⟨j_2, hj_2, ej_2, h⟩ := h
      refine m_iald hx hb hK hP (k := 2) mok_2 ej_2 hj_2 dX7_readTerm_207 ?_
      refine lv_iload_n hx hb dX7_readTerm_208 rfl (lv_at hl 2 rfl) ?_
      refine lv_if_eq (tgt := 221) hx hb dX7_readTerm_209 (by decide) (fun c_7 => ?_) (fun c_7 => ?_)
      · have h := h.1 c_7
        refine lv_iload_n hx hb dX7_readTerm_221 rfl (lv_at hl 3 rfl) ?_
        refine lv_iadd hx hb dX7_readTerm_222 ?_
        refine lv_aload_n hx hb dX7_readTerm_223 rfl (lv_at hl 1 rfl) ?_
        refine m_get (v := .int (S 0 9)) hx hb hts hown hK hP 9 (by decide) q1219 rfl rfl dX7_readTerm_224 ?_
        obtain ⟨hne, h⟩ := h
        refine m_irem hx hb dX7_readTerm_227 hne ?_
        obtain ⟨j_3, hj_3, ej_3, h⟩ := h
        obtain ⟨S_4, eS_4⟩ : ∃ z : St, z = bw S 2 j_3 (jrem ((S 2 j_2) + x2) (S 0 9)) := ⟨_, rfl⟩
        have h := h S_4 eS_4
        refine m_iast hx hb hK hP hS (k := 2) mok_2 ej_3 hj_3 dX7_readTerm_228 (fun H locs hP hS => ?_)
        rw [← eS_4] at hP
        exact W.vret hx hb hr (fun t ht hW => ⟨⟨S_4, rfl, h, by rw [ht]; exact hP, va_K.moved hW.alike hK⟩, hS.F ht⟩) hS.2.2 dX7_readTerm_229
      · have h := h.2 c_7
        refine lv_aload_n hx hb dX7_readTerm_212 rfl (lv_at hl 1 rfl) ?_
        refine m_get (v := .int (S 0 9)) hx hb hts hown hK hP 9 (by decide) q1219 rfl rfl dX7_readTerm_213 ?_
        refine lv_iload_n hx hb dX7_readTerm_216 rfl (lv_at hl 3 rfl) ?_
        refine lv_isub hx hb dX7_readTerm_217 ?_
        refine lv_goto (tgt := 222) hx hb dX7_readTerm_218 (by decide) ?_
        refine lv_iadd hx hb dX7_readTerm_222 ?_
        refine lv_aload_n hx hb dX7_readTerm_223 rfl (lv_at hl 1 rfl) ?_
        refine m_get (v := .int (S 0 9)) hx hb hts hown hK hP 9 (by decide) q1219 rfl rfl dX7_readTerm_224 ?_
        obtain ⟨hne, h⟩ := h
        refine m_irem hx hb dX7_readTerm_227 hne ?_
        obtain ⟨j_5, hj_5, ej_5, h⟩ := h
        obtain ⟨S_6, eS_6⟩ : ∃ z : St, z = bw S 2 j_5 (jrem ((S 2 j_2) + ((S 0 9) - x2)) (S 0 9)) := ⟨_, rfl⟩
        have h := h S_6 eS_6
        refine m_iast hx hb hK hP hS (k := 2) mok_2 ej_5 hj_5 dX7_readTerm_228 (fun H locs hP hS => ?_)
        rw [← eS_6] at hP
        exact W.vret hx hb hr (fun t ht hW => ⟨⟨S_6, rfl, h, by rw [ht]; exact hP, va_K.moved hW.alike hK⟩, hS.F ht⟩) hS.2.2 dX7_readTerm_229
    · have h := h.2 c_8
      exact W.vret hx hb hr (fun t ht hW => ⟨⟨S, rfl, h, by rw [ht]; exact hP, va_K.moved hW.alike hK⟩, hS.F ht⟩) hS.2.2 dX7_readTerm_181
  have L56 : ∀ (x2 : Int32) (x4 : Int32) (x5 : Int32) (S : St) (H : Heap) (locs : List Loc) (ls : Array Slot), wp_readTerm_l56 p1 post x2 x4 x5 S → mW D cI cB b S H → va_S (mA b) s.heap H locs → lv_has ls 8 [(0, .ref b), (1, .int p1), (2, .int x2), (4, .int x4), (5, .int x5)] → W p l e (headSpec (ws_ yX7_readTerm cX7_readTerm 8 none) ({ frames := 7, cells := 0, slots := 0, locals := 184 } : Room)).room s m ([.ref b, .int p1] : List Value).toArray below meth c H locs 0 0 (MQ below (mQv D cI cB b post) ([.ref b, .int p1] : List Value).toArray s 0 0 (mA b)) (F0 m 56 ls []) := by
    intro x2 x4 x5 S H locs ls h hP hS hl
    obtain ⟨I56, n56, hI, hstep56⟩ := h
    induction n56 using Nat.strongRecOn generalizing x4 x5 S H locs ls with
    | ind n56 ih56 =>
      have h : wp_readTerm_b56 p1 post (fun x4 x5 S => ∃ mm, mm < n56 ∧ I56 mm (x4, x5, S)) x2 x4 x5 S := hstep56 n56 _ hI
      clear hI
      have J152 : ∀ (x4 : Int32) (x5 : Int32) (x6 : Int32) (x7 : Int32) (S : St) (H : Heap) (locs : List Loc) (ls : Array Slot), wp_readTerm_j152 p1 post (fun x4 x5 S => ∃ mm, mm < n56 ∧ I56 mm (x4, x5, S)) x2 x4 x5 x6 x7 S → mW D cI cB b S H → va_S (mA b) s.heap H locs → lv_has ls 8 [(0, .ref b), (1, .int p1), (2, .int x2), (4, .int x4), (5, .int x5), (6, .int x6), (7, .int x7)] → W p l e (headSpec (ws_ yX7_readTerm cX7_readTerm 8 none) ({ frames := 7, cells := 0, slots := 0, locals := 184 } : Room)).room s m ([.ref b, .int p1] : List Value).toArray below meth c H locs 0 0 (MQ below (mQv D cI cB b post) ([.ref b, .int p1] : List Value).toArray s 0 0 (mA b)) (F0 m 152 ls []) := by
        intro x4 x5 x6 x7 S H locs ls h hP hS hl
        unfold wp_readTerm_j152 at h
        refine lv_aload_n hx hb dX7_readTerm_152 rfl (lv_at hl 0 rfl) ?_
        refine m_get (v := .int (S 0 22)) hx hb hts hown hK hP 22 (by decide) q1232 rfl rfl dX7_readTerm_153 ?_
        refine lv_if_ne (tgt := 171) hx hb dX7_readTerm_156 (by decide) (fun c_10 => ?_) (fun c_10 => ?_)
        · have h := h.1 c_10
          refine lv_goto (tgt := 56) hx hb dX7_readTerm_171 (by decide) ?_
          obtain ⟨mm, hmm, h⟩ := h
          exact ih56 mm hmm _ _ _ _ _ _ hP hS (lv_sub hl [0, 1, 2, 3, 4] rfl) h
        · have h := h.2 c_10
          refine lv_iload hx hb dX7_readTerm_159 (lv_at hl 3 rfl) ?_
          refine lv_iload hx hb dX7_readTerm_161 (lv_at hl 6 rfl) ?_
          refine lv_iconst (v := 4) hx hb dX7_readTerm_163 (by decide) ?_
          refine lv_iload hx hb dX7_readTerm_164 (lv_at hl 5 rfl) ?_
          refine lv_imul hx hb dX7_readTerm_166 ?_
          refine m_ishl hx hb dX7_readTerm_167 ?_
          refine lv_ior hx hb dX7_readTerm_168 ?_
          refine lv_topi (fun x4_9 ex4_9 => ?_)
          have h := h x4_9 ex4_9
          refine lv_istore (lv' := [(4, .int x4_9), (0, .ref b), (1, .int p1), (2, .int x2), (5, .int x5), (6, .int x6), (7, .int x7)]) hx hb dX7_readTerm_169 hl (by decide) rfl (fun ls hl => ?_)
          refine lv_goto (tgt := 56) hx hb dX7_readTerm_171 (by decide) ?_
          obtain ⟨mm, hmm, h⟩ := h
          exact ih56 mm hmm _ _ _ _ _ _ hP hS (lv_sub hl [1, 2, 3, 0, 4] rfl) h
      have J142 : ∀ (x4 : Int32) (x5 : Int32) (x6 : Int32) (S : St) (H : Heap) (locs : List Loc) (ls : Array Slot), wp_readTerm_j142 p1 post (fun x4 x5 S => ∃ mm, mm < n56 ∧ I56 mm (x4, x5, S)) x2 x4 x5 x6 S → mW D cI cB b S H → va_S (mA b) s.heap H locs → lv_has ls 8 [(0, .ref b), (1, .int p1), (2, .int x2), (4, .int x4), (5, .int x5), (6, .int x6)] → W p l e (headSpec (ws_ yX7_readTerm cX7_readTerm 8 none) ({ frames := 7, cells := 0, slots := 0, locals := 184 } : Room)).room s m ([.ref b, .int p1] : List Value).toArray below meth c H locs 0 0 (MQ below (mQv D cI cB b post) ([.ref b, .int p1] : List Value).toArray s 0 0 (mA b)) (F0 m 142 ls []) := by
        intro x4 x5 x6 S H locs ls h hP hS hl
        unfold wp_readTerm_j142 at h
        refine lv_aload_n hx hb dX7_readTerm_142 rfl (lv_at hl 0 rfl) ?_
        refine m_get (v := .int (S 0 21)) hx hb hts hown hK hP 21 (by decide) q1231 rfl rfl dX7_readTerm_143 ?_
        refine lv_istore (lv' := [(7, .int (S 0 21)), (0, .ref b), (1, .int p1), (2, .int x2), (4, .int x4), (5, .int x5), (6, .int x6)]) hx hb dX7_readTerm_146 hl (by decide) rfl (fun ls hl => ?_)
        refine lv_aload_n hx hb dX7_readTerm_148 rfl (lv_at hl 1 rfl) ?_
        refine m_cVv (As := []) (rest := []) ⟨hx, hb, hml, hown, hts⟩ (met_next l D cI cB b   S _ h) (cwV 0 hts (lw_V q1390 q1392 qs60 q128 q1393) rfl rfl rfl cwd_next ⟨Nat.le_of_ble_eq_true rfl, Nat.le_of_ble_eq_true rfl⟩) hK hP hS rfl hl.1 rfl (Nat.le_of_ble_eq_true rfl) dX7_readTerm_149 ⟨Nat.zero_le _, Nat.zero_le _⟩ (fun S_12 H locs h hP hS => ?_)
        exact J152 _ _ _ _ _ _ _ _ h hP hS (lv_sub hl [1, 2, 3, 4, 5, 6, 0] rfl)
      have J93 : ∀ (x4 : Int32) (x5 : Int32) (x6 : Int32) (S : St) (H : Heap) (locs : List Loc) (ls : Array Slot), wp_readTerm_j93 p1 post (fun x4 x5 S => ∃ mm, mm < n56 ∧ I56 mm (x4, x5, S)) x2 x4 x5 x6 S → mW D cI cB b S H → va_S (mA b) s.heap H locs → lv_has ls 8 [(0, .ref b), (1, .int p1), (2, .int x2), (4, .int x4), (5, .int x5), (6, .int x6)] → W p l e (headSpec (ws_ yX7_readTerm cX7_readTerm 8 none) ({ frames := 7, cells := 0, slots := 0, locals := 184 } : Room)).room s m ([.ref b, .int p1] : List Value).toArray below meth c H locs 0 0 (MQ below (mQv D cI cB b post) ([.ref b, .int p1] : List Value).toArray s 0 0 (mA b)) (F0 m 93 ls []) := by
        intro x4 x5 x6 S H locs ls h hP hS hl
        unfold wp_readTerm_j93 at h
        refine lv_iload hx hb dX7_readTerm_93 (lv_at hl 4 rfl) ?_
        refine lv_iconst (v := 1) hx hb dX7_readTerm_95 (by decide) ?_
        refine lv_iload hx hb dX7_readTerm_96 (lv_at hl 5 rfl) ?_
        refine m_ishl hx hb dX7_readTerm_98 ?_
        refine lv_ior hx hb dX7_readTerm_99 ?_
        refine lv_topi (fun x5_13 ex5_13 => ?_)
        have h := h x5_13 ex5_13
        refine lv_istore (lv' := [(5, .int x5_13), (0, .ref b), (1, .int p1), (2, .int x2), (4, .int x4), (6, .int x6)]) hx hb dX7_readTerm_100 hl (by decide) rfl (fun ls hl => ?_)
        refine lv_aload_n hx hb dX7_readTerm_102 rfl (lv_at hl 1 rfl) ?_
        refine m_cVv (As := []) (rest := []) ⟨hx, hb, hml, hown, hts⟩ (met_next l D cI cB b   S _ h) (cwV 0 hts (lw_V q1390 q1392 qs60 q128 q1393) rfl rfl rfl cwd_next ⟨Nat.le_of_ble_eq_true rfl, Nat.le_of_ble_eq_true rfl⟩) hK hP hS rfl hl.1 rfl (Nat.le_of_ble_eq_true rfl) dX7_readTerm_103 ⟨Nat.zero_le _, Nat.zero_le _⟩ (fun S_15 H locs h hP hS => ?_)
        refine lv_iconst (v := 1) hx hb dX7_readTerm_106 (by decide) ?_
        refine lv_istore (lv' := [(7, .int 1), (5, .int x5_13), (0, .ref b), (1, .int p1), (2, .int x2), (4, .int x4), (6, .int x6)]) hx hb dX7_readTerm_107 hl (by decide) rfl (fun ls hl => ?_)
        refine lv_aload_n hx hb dX7_readTerm_109 rfl (lv_at hl 2 rfl) ?_
        refine m_get (v := .int (S_15 0 22)) hx hb hts hown hK hP 22 (by decide) q1232 rfl rfl dX7_readTerm_110 ?_
        refine lv_if_ne (tgt := 152) hx hb dX7_readTerm_113 (by decide) (fun c_22 => ?_) (fun c_22 => ?_)
        · have h := h.1 c_22
          exact J152 _ _ _ _ _ _ _ _ h hP hS (lv_sub hl [2, 3, 4, 5, 1, 6, 0] rfl)
        · have h := h.2 c_22
          refine lv_aload_n hx hb dX7_readTerm_116 rfl (lv_at hl 2 rfl) ?_
          refine m_get (v := .int (S_15 0 19)) hx hb hts hown hK hP 19 (by decide) q1229 rfl rfl dX7_readTerm_117 ?_
          refine lv_iconst (v := 3) hx hb dX7_readTerm_120 (by decide) ?_
          refine lv_icmp_ne (tgt := 152) hx hb dX7_readTerm_121 (by decide) (fun c_21 => ?_) (fun c_21 => ?_)
          · have h := h.1 c_21
            exact J152 _ _ _ _ _ _ _ _ h hP hS (lv_sub hl [2, 3, 4, 5, 1, 6, 0] rfl)
          · have h := h.2 c_21
            refine lv_aload_n hx hb dX7_readTerm_124 rfl (lv_at hl 2 rfl) ?_
            refine m_get (v := .int (S_15 0 21)) hx hb hts hown hK hP 21 (by decide) q1231 rfl rfl dX7_readTerm_125 ?_
            refine lv_iconst (v := 1) hx hb dX7_readTerm_128 (by decide) ?_
            refine lv_bipush (v := 15) hx hb dX7_readTerm_129 (by decide) ?_
            refine m_cSp (As := [.int (S_15 0 21), .int 1, .int 15]) (rest := []) ⟨hx, hb, hml, hown, hts⟩ (met_in l D cI cB b (S_15 0 21) 1 15  S_15 _ h) (va_cwS 3 hts (lw_S q1398 q1399 q128 q1400) rfl rfl rfl cwd_in ⟨Nat.le_of_ble_eq_true rfl, Nat.le_of_ble_eq_true rfl⟩) hK hP hS rfl hl.1 rfl (Nat.le_of_ble_eq_true rfl) dX7_readTerm_131 ⟨Nat.zero_le _, Nat.zero_le _⟩ (fun r_16 H locs h hP hS => ?_)
            refine lv_if_ne (tgt := 142) hx hb dX7_readTerm_134 (by decide) (fun c_20 => ?_) (fun c_20 => ?_)
            · have h := h.1 c_20
              exact J142 _ _ _ _ _ _ _ h hP hS (lv_sub hl [2, 3, 4, 5, 1, 6] rfl)
            · have h := h.2 c_20
              refine lv_aload_n hx hb dX7_readTerm_137 rfl (lv_at hl 2 rfl) ?_
              refine lv_iconst (v := 4) hx hb dX7_readTerm_138 (by decide) ?_
              refine m_cVv (As := [.int 4]) (rest := []) ⟨hx, hb, hml, hown, hts⟩ (met_flaw l D cI cB b 4  S_15 _ h) (cwV 1 hts (lw_V q1450 q1452 qs67 q128 q1453) rfl rfl rfl cwd_flaw ⟨Nat.le_of_ble_eq_true rfl, Nat.le_of_ble_eq_true rfl⟩) hK hP hS rfl hl.1 rfl (Nat.le_of_ble_eq_true rfl) dX7_readTerm_139 ⟨Nat.zero_le _, Nat.zero_le _⟩ (fun S_19 H locs h hP hS => ?_)
              exact J142 _ _ _ _ _ _ _ h hP hS (lv_sub hl [2, 3, 4, 5, 1, 6] rfl)
      unfold wp_readTerm_b56 at h
      refine lv_aload_n hx hb dX7_readTerm_56 rfl (lv_at hl 0 rfl) ?_
      refine m_get (v := .int (S 0 22)) hx hb hts hown hK hP 22 (by decide) q1232 rfl rfl dX7_readTerm_57 ?_
      refine lv_if_ne (tgt := 174) hx hb dX7_readTerm_60 (by decide) (fun c_31 => ?_) (fun c_31 => ?_)
      · have h := h.1 c_31
        exact J174 _ _ _ _ _ _ h hP hS (lv_sub hl [0, 1, 2, 3] rfl)
      · have h := h.2 c_31
        refine lv_aload_n hx hb dX7_readTerm_63 rfl (lv_at hl 0 rfl) ?_
        refine m_cVpS (As := []) (rest := []) ⟨hx, hb, hml, hown, hts⟩ (met_unknownHere l D cI cB b  ad z hz S _ h) (cwV 0 hts (lw_V q1470 q1472 qs70 q128 q1473) rfl rfl rfl cwd_unknownHere ⟨Nat.le_of_ble_eq_true rfl, Nat.le_of_ble_eq_true rfl⟩) hV hz (Nat.le_of_lt hb0) hK hP hS rfl hl.1 rfl (Nat.le_of_ble_eq_true rfl) dX7_readTerm_64 ⟨Nat.zero_le _, Nat.zero_le _⟩ (fun r_23 H locs h hP hS => ?_)
        refine lv_iconst (v := (-1)) hx hb dX7_readTerm_67 (by decide) ?_
        refine lv_icmp_eq (tgt := 174) hx hb dX7_readTerm_68 (by decide) (fun c_30 => ?_) (fun c_30 => ?_)
        · have h := h.1 c_30
          exact J174 _ _ _ _ _ _ h hP hS (lv_sub hl [0, 1, 2, 3] rfl)
        · have h := h.2 c_30
          refine lv_aload_n hx hb dX7_readTerm_71 rfl (lv_at hl 0 rfl) ?_
          refine m_cVpS (As := []) (rest := []) ⟨hx, hb, hml, hown, hts⟩ (met_unknownHere l D cI cB b  ad z hz S _ h) (cwV 0 hts (lw_V q1470 q1472 qs70 q128 q1473) rfl rfl rfl cwd_unknownHere ⟨Nat.le_of_ble_eq_true rfl, Nat.le_of_ble_eq_true rfl⟩) hV hz (Nat.le_of_lt hb0) hK hP hS rfl hl.1 rfl (Nat.le_of_ble_eq_true rfl) dX7_readTerm_72 ⟨Nat.zero_le _, Nat.zero_le _⟩ (fun r_25 H locs h hP hS => ?_)
          refine lv_istore (lv' := [(6, .int r_25), (0, .ref b), (1, .int p1), (2, .int x2), (4, .int x4), (5, .int x5)]) hx hb dX7_readTerm_75 hl (by decide) rfl (fun ls hl => ?_)
          refine lv_iload hx hb dX7_readTerm_77 (lv_at hl 5 rfl) ?_
          refine lv_iload hx hb dX7_readTerm_79 (lv_at hl 0 rfl) ?_
          refine m_ishr hx hb dX7_readTerm_81 ?_
          refine lv_iconst (v := 1) hx hb dX7_readTerm_82 (by decide) ?_
          refine lv_iand hx hb dX7_readTerm_83 ?_
          refine lv_iconst (v := 1) hx hb dX7_readTerm_84 (by decide) ?_
          refine lv_icmp_ne (tgt := 93) hx hb dX7_readTerm_85 (by decide) (fun c_29 => ?_) (fun c_29 => ?_)
          · have h := h.1 c_29
            exact J93 _ _ _ _ _ _ _ h hP hS (lv_sub hl [1, 2, 3, 4, 5, 0] rfl)
          · have h := h.2 c_29
            refine lv_aload_n hx hb dX7_readTerm_88 rfl (lv_at hl 1 rfl) ?_
            refine lv_iconst (v := 3) hx hb dX7_readTerm_89 (by decide) ?_
            refine m_cVv (As := [.int 3]) (rest := []) ⟨hx, hb, hml, hown, hts⟩ (met_flaw l D cI cB b 3  S _ h) (cwV 1 hts (lw_V q1450 q1452 qs67 q128 q1453) rfl rfl rfl cwd_flaw ⟨Nat.le_of_ble_eq_true rfl, Nat.le_of_ble_eq_true rfl⟩) hK hP hS rfl hl.1 rfl (Nat.le_of_ble_eq_true rfl) dX7_readTerm_90 ⟨Nat.zero_le _, Nat.zero_le _⟩ (fun S_28 H locs h hP hS => ?_)
            exact J93 _ _ _ _ _ _ _ h hP hS (lv_sub hl [1, 2, 3, 4, 5, 0] rfl)
  have J50 : ∀ (x2 : Int32) (S : St) (H : Heap) (locs : List Loc) (ls : Array Slot), wp_readTerm_j50 p1 post x2 S → mW D cI cB b S H → va_S (mA b) s.heap H locs → lv_has ls 8 [(0, .ref b), (1, .int p1), (2, .int x2)] → W p l e (headSpec (ws_ yX7_readTerm cX7_readTerm 8 none) ({ frames := 7, cells := 0, slots := 0, locals := 184 } : Room)).room s m ([.ref b, .int p1] : List Value).toArray below meth c H locs 0 0 (MQ below (mQv D cI cB b post) ([.ref b, .int p1] : List Value).toArray s 0 0 (mA b)) (F0 m 50 ls []) := by
    intro x2 S H locs ls h hP hS hl
    unfold wp_readTerm_j50 at h
    refine lv_iconst (v := 0) hx hb dX7_readTerm_50 (by decide) ?_
    refine lv_istore (lv' := [(4, .int 0), (0, .ref b), (1, .int p1), (2, .int x2)]) hx hb dX7_readTerm_51 hl (by decide) rfl (fun ls hl => ?_)
    refine lv_iconst (v := 0) hx hb dX7_readTerm_53 (by decide) ?_
    refine lv_istore (lv' := [(5, .int 0), (4, .int 0), (0, .ref b), (1, .int p1), (2, .int x2)]) hx hb dX7_readTerm_54 hl (by decide) rfl (fun ls hl => ?_)
    exact L56 _ _ _ _ _ _ _ h hP hS (lv_sub hl [2, 3, 4, 1, 0] rfl)
  have J16 : ∀ (x2 : Int32) (x3 : Int32) (S : St) (H : Heap) (locs : List Loc) (ls : Array Slot), wp_readTerm_j16 p1 post x2 x3 S → mW D cI cB b S H → va_S (mA b) s.heap H locs → lv_has ls 8 [(0, .ref b), (1, .int p1), (2, .int x2), (3, .int x3)] → W p l e (headSpec (ws_ yX7_readTerm cX7_readTerm 8 none) ({ frames := 7, cells := 0, slots := 0, locals := 184 } : Room)).room s m ([.ref b, .int p1] : List Value).toArray below meth c H locs 0 0 (MQ below (mQv D cI cB b post) ([.ref b, .int p1] : List Value).toArray s 0 0 (mA b)) (F0 m 16 ls []) := by
    intro x2 x3 S H locs ls h hP hS hl
    unfold wp_readTerm_j16 at h
    refine lv_iload_n hx hb dX7_readTerm_16 rfl (lv_at hl 3 rfl) ?_
    refine lv_if_eq (tgt := 37) hx hb dX7_readTerm_17 (by decide) (fun c_40 => ?_) (fun c_40 => ?_)
    · have h := h.1 c_40
      refine lv_aload_n hx hb dX7_readTerm_37 rfl (lv_at hl 0 rfl) ?_
      refine m_cVpS (As := []) (rest := []) ⟨hx, hb, hml, hown, hts⟩ (met_unknownHere l D cI cB b  ad z hz S _ h) (cwV 0 hts (lw_V q1470 q1472 qs70 q128 q1473) rfl rfl rfl cwd_unknownHere ⟨Nat.le_of_ble_eq_true rfl, Nat.le_of_ble_eq_true rfl⟩) hV hz (Nat.le_of_lt hb0) hK hP hS rfl hl.1 rfl (Nat.le_of_ble_eq_true rfl) dX7_readTerm_38 ⟨Nat.zero_le _, Nat.zero_le _⟩ (fun r_32 H locs h hP hS => ?_)
      refine lv_iconst (v := (-1)) hx hb dX7_readTerm_41 (by decide) ?_
      refine lv_icmp_ne (tgt := 50) hx hb dX7_readTerm_42 (by decide) (fun c_36 => ?_) (fun c_36 => ?_)
      · have h := h.1 c_36
        exact J50 _ _ _ _ _ h hP hS (lv_sub hl [0, 1, 2] rfl)
      · have h := h.2 c_36
        refine lv_aload_n hx hb dX7_readTerm_45 rfl (lv_at hl 0 rfl) ?_
        refine lv_iconst (v := 1) hx hb dX7_readTerm_46 (by decide) ?_
        refine m_cVv (As := [.int 1]) (rest := []) ⟨hx, hb, hml, hown, hts⟩ (met_flaw l D cI cB b 1  S _ h) (cwV 1 hts (lw_V q1450 q1452 qs67 q128 q1453) rfl rfl rfl cwd_flaw ⟨Nat.le_of_ble_eq_true rfl, Nat.le_of_ble_eq_true rfl⟩) hK hP hS rfl hl.1 rfl (Nat.le_of_ble_eq_true rfl) dX7_readTerm_47 ⟨Nat.zero_le _, Nat.zero_le _⟩ (fun S_35 H locs h hP hS => ?_)
        exact J50 _ _ _ _ _ h hP hS (lv_sub hl [0, 1, 2] rfl)
    · have h := h.2 c_40
      refine lv_aload_n hx hb dX7_readTerm_20 rfl (lv_at hl 0 rfl) ?_
      refine m_get (v := .int (S 0 21)) hx hb hts hown hK hP 21 (by decide) q1231 rfl rfl dX7_readTerm_21 ?_
      refine lv_aload_n hx hb dX7_readTerm_24 rfl (lv_at hl 0 rfl) ?_
      refine m_get (v := .int (S 0 9)) hx hb hts hown hK hP 9 (by decide) q1219 rfl rfl dX7_readTerm_25 ?_
      obtain ⟨hne, h⟩ := h
      refine m_irem hx hb dX7_readTerm_28 hne ?_
      refine lv_topi (fun x2_37 ex2_37 => ?_)
      have h := h x2_37 ex2_37
      refine lv_istore_n (lv' := [(2, .int x2_37), (0, .ref b), (1, .int p1), (3, .int x3)]) hx hb dX7_readTerm_29 rfl hl (by decide) rfl (fun ls hl => ?_)
      refine lv_aload_n hx hb dX7_readTerm_30 rfl (lv_at hl 1 rfl) ?_
      refine m_cVv (As := []) (rest := []) ⟨hx, hb, hml, hown, hts⟩ (met_next l D cI cB b   S _ h) (cwV 0 hts (lw_V q1390 q1392 qs60 q128 q1393) rfl rfl rfl cwd_next ⟨Nat.le_of_ble_eq_true rfl, Nat.le_of_ble_eq_true rfl⟩) hK hP hS rfl hl.1 rfl (Nat.le_of_ble_eq_true rfl) dX7_readTerm_31 ⟨Nat.zero_le _, Nat.zero_le _⟩ (fun S_39 H locs h hP hS => ?_)
      refine lv_goto (tgt := 50) hx hb dX7_readTerm_34 (by decide) ?_
      exact J50 _ _ _ _ _ h hP hS (lv_sub hl [1, 2, 0] rfl)
  unfold wp_readTerm at h
  refine lv_iconst (v := 1) hx hb dX7_readTerm_0 (by decide) ?_
  refine lv_istore_n (lv' := [(2, .int 1), (0, .ref b), (1, .int p1)]) hx hb dX7_readTerm_1 rfl hl (by decide) rfl (fun ls hl => ?_)
  refine lv_aload_n hx hb dX7_readTerm_2 rfl (lv_at hl 1 rfl) ?_
  refine m_get (v := .int (S 0 19)) hx hb hts hown hK hP 19 (by decide) q1229 rfl rfl dX7_readTerm_3 ?_
  refine lv_iconst (v := 3) hx hb dX7_readTerm_6 (by decide) ?_
  refine lv_icmp_ne (tgt := 14) hx hb dX7_readTerm_7 (by decide) (fun c_41 => ?_) (fun c_41 => ?_)
  · have h := h.1 c_41
    refine lv_iconst (v := 0) hx hb dX7_readTerm_14 (by decide) ?_
    refine lv_istore_n (lv' := [(3, .int 0), (2, .int 1), (0, .ref b), (1, .int p1)]) hx hb dX7_readTerm_15 rfl hl (by decide) rfl (fun ls hl => ?_)
    exact J16 _ _ _ _ _ _ h hP hS (lv_sub hl [2, 3, 1, 0] rfl)
  · have h := h.2 c_41
    refine lv_iconst (v := 1) hx hb dX7_readTerm_10 (by decide) ?_
    refine lv_goto (tgt := 15) hx hb dX7_readTerm_11 (by decide) ?_
    refine lv_istore_n (lv' := [(3, .int 1), (2, .int 1), (0, .ref b), (1, .int p1)]) hx hb dX7_readTerm_15 rfl hl (by decide) rfl (fun ls hl => ?_)
    exact J16 _ _ _ _ _ _ h hP hS (lv_sub hl [2, 3, 1, 0] rfl)
def wp_readPoly_j126  (post : St → Prop)  (S : St) : Prop :=
    ((¬ (S 0 22) = 0 →
      post S) ∧
     ((S 0 22) = 0 →
      ∀ S_1 : St, S_1 = bw S 0 13 ((S 0 13) + 1) →
      post S_1))
def wp_readPoly_j111  (post : St → Prop) (R61 : Int32 → St → Prop) (x1 : Int32) (x2 : Int32) (S : St) : Prop :=
        wp_next  S (fun S_4 =>
        wp_readTerm x1 S_4 (fun S_6 =>
        ∀ x2_7 : Int32, x2_7 = x2 + 1 →
        R61 x2_7 S_6))
def wp_readPoly_j96  (post : St → Prop) (R61 : Int32 → St → Prop) (x2 : Int32) (S : St) : Prop :=
        ((¬ (S 0 19) = 6 →
          wp_readPoly_j111  post R61 0 x2 S) ∧
         ((S 0 19) = 6 →
          wp_readPoly_j111  post R61 1 x2 S))
def wp_readPoly_j85  (post : St → Prop) (R61 : Int32 → St → Prop) (x2 : Int32) (S : St) : Prop :=
        ((¬ x2 = 12 →
          wp_readPoly_j96  post R61 x2 S) ∧
         (x2 = 12 →
          wp_flaw 5 S (fun S_10 =>
          wp_readPoly_j96  post R61 x2 S_10)))
def wp_readPoly_b61  (post : St → Prop) (R61 : Int32 → St → Prop)  (x2 : Int32) (S : St) : Prop :=
      ((¬ (S 0 22) = 0 →
        wp_readPoly_j126  post  S) ∧
       ((S 0 22) = 0 →
        (((S 0 19) = 5 →
          wp_readPoly_j85  post R61 x2 S) ∧
         (¬ ((S 0 19) = 5) →
          ((¬ (S 0 19) = 6 →
            wp_readPoly_j126  post  S) ∧
           ((S 0 19) = 6 →
            wp_readPoly_j85  post R61 x2 S))))))
def wp_readPoly_l61  (post : St → Prop)  (x2 : Int32) (S : St) : Prop := wLoop (fun (R : (Int32 × St) → Prop) (v : Int32 × St) => wp_readPoly_b61  post (fun x2 S => R (x2, S))  v.1 v.2) (x2, S)
def wp_readPoly_j54  (post : St → Prop) (x1 : Int32) (S : St) : Prop :=
    wp_readTerm x1 S (fun S_16 =>
    wp_readPoly_l61  post 1 S_16)
def wp_readPoly_j46  (post : St → Prop) (x1 : Int32) (S : St) : Prop :=
    ((x1 = 0 →
      wp_readPoly_j54  post x1 S) ∧
     (¬ (x1 = 0) →
      wp_next  S (fun S_18 =>
      wp_readPoly_j54  post x1 S_18)))
def wp_readPoly_j27  (post : St → Prop)  (S : St) : Prop :=
    wp_next  S (fun S_21 =>
    ((¬ (S_21 0 19) = 6 →
      wp_readPoly_j46  post 0 S_21) ∧
     ((S_21 0 19) = 6 →
      wp_readPoly_j46  post 1 S_21)))
def wp_readPoly_j14  (post : St → Prop)  (S : St) : Prop :=
    ((¬ (S 0 9) = 0 →
      wp_readPoly_j27  post  S) ∧
     ((S 0 9) = 0 →
      wp_flaw 6 S (fun S_24 =>
      wp_readPoly_j27  post  S_24)))
def wp_readPoly  (S : St) (post : St → Prop) : Prop :=
  ((¬ (S 0 13) = 6 →
    wp_readPoly_j14  post  S) ∧
   ((S 0 13) = 6 →
    wp_flaw 5 S (fun S_27 =>
    wp_readPoly_j14  post  S_27)))
set_option maxHeartbeats 4000000 in
theorem met_readPoly (l : Launch) (D : va_G) (cI cB : ClassId) (b : Nat)  (ad : SAD) (z : Nat) (hz : z ≤ b)  (S : St) (post : St → Prop) (h : wp_readPoly  S post) : Met l yX7_readPoly (ws_ yX7_readPoly cX7_readPoly 3 none) ({ frames := 8, cells := 0, slots := 0, locals := 211 } : Room) (mPcS D cI cB b ad z [.ref b] S) (mQv D cI cB b post) 0 0 (mA b) := by
  refine Met.ofW (cc := cX7_readPoly) (maxL := 3) (ret := none) (by decide) rfl ?_
  intro p e s m args below meth c s₁ B hml hv
  obtain ⟨rfl, ⟨hP, hK⟩, hV⟩ := hv
  have hb0 : b < s.heap.size := (hP 0 (by decide)).lt
  have hx := B.exec
  have hb := B.bytes
  have hr := B.returns
  have hts := atoms_spec (ws := ws_ yX7_readPoly cX7_readPoly 3 none) B.pre
  have hts : ∀ w ∈ lw_all, w.before _ s = true := fun w h => hts w (List.mem_cons_of_mem _ h)
  have hown : s.vm.findClass RX7 = some m.cls := findClass_of_methodNamed B.named
  have hlocks := B.notSynchronized
  have hS : va_S (mA b) s.heap s.heap [] := va_S.rf
  have hl := lv_entry ([.ref b]) (n := 3) (Nat.le_of_ble_eq_true rfl)
  rw [lg_entry_eq]
  generalize (lg_sl ([.ref b]) ++ List.replicate (3 - (lg_sl ([.ref b])).length) Slot.unset).toArray = ls at hl ⊢
  have hl : lv_has ls 3 [(0, .ref b)] := hl
  have J126 : ∀  (S : St) (H : Heap) (locs : List Loc) (ls : Array Slot), wp_readPoly_j126  post  S → mW D cI cB b S H → va_S (mA b) s.heap H locs → lv_has ls 3 [(0, .ref b)] → W p l e (headSpec (ws_ yX7_readPoly cX7_readPoly 3 none) ({ frames := 8, cells := 0, slots := 0, locals := 211 } : Room)).room s m ([.ref b] : List Value).toArray below meth c H locs 0 0 (MQ below (mQv D cI cB b post) ([.ref b] : List Value).toArray s 0 0 (mA b)) (F0 m 126 ls []) := by
    intro  S H locs ls h hP hS hl
    unfold wp_readPoly_j126 at h
    refine lv_aload_n hx hb dX7_readPoly_126 rfl (lv_at hl 0 rfl) ?_
    refine m_get (v := .int (S 0 22)) hx hb hts hown hK hP 22 (by decide) q1232 rfl rfl dX7_readPoly_127 ?_
    refine lv_if_ne (tgt := 143) hx hb dX7_readPoly_130 (by decide) (fun c_2 => ?_) (fun c_2 => ?_)
    · have h := h.1 c_2
      exact W.vret hx hb hr (fun t ht hW => ⟨⟨S, rfl, h, by rw [ht]; exact hP, va_K.moved hW.alike hK⟩, hS.F ht⟩) hS.2.2 dX7_readPoly_143
    · have h := h.2 c_2
      refine lv_aload_n hx hb dX7_readPoly_133 rfl (lv_at hl 0 rfl) ?_
      refine lv_dup hx hb dX7_readPoly_134 rfl ?_
      refine m_get (v := .int (S 0 13)) hx hb hts hown hK hP 13 (by decide) q1223 rfl rfl dX7_readPoly_135 ?_
      refine lv_iconst (v := 1) hx hb dX7_readPoly_138 (by decide) ?_
      refine lv_iadd hx hb dX7_readPoly_139 ?_
      obtain ⟨S_1, eS_1⟩ : ∃ z : St, z = bw S 0 13 ((S 0 13) + 1) := ⟨_, rfl⟩
      have h := h S_1 eS_1
      refine m_put (S1 := S_1) (v := .int ((S 0 13) + 1)) (ty := .int) hx hb hts hown hK hP hS 13 (by decide) q1223 rfl rfl (tyX7_ok 13 (by decide)) rfl rfl (by rw [eS_1]; exact mset_13 b S ((S 0 13) + 1)) (by rw [eS_1]; exact bw_0) dX7_readPoly_140 (fun H locs hP hS => ?_)
      exact W.vret hx hb hr (fun t ht hW => ⟨⟨S_1, rfl, h, by rw [ht]; exact hP, va_K.moved hW.alike hK⟩, hS.F ht⟩) hS.2.2 dX7_readPoly_143
  have L61 : ∀  (x2 : Int32) (S : St) (H : Heap) (locs : List Loc) (ls : Array Slot), wp_readPoly_l61  post  x2 S → mW D cI cB b S H → va_S (mA b) s.heap H locs → lv_has ls 3 [(0, .ref b), (2, .int x2)] → W p l e (headSpec (ws_ yX7_readPoly cX7_readPoly 3 none) ({ frames := 8, cells := 0, slots := 0, locals := 211 } : Room)).room s m ([.ref b] : List Value).toArray below meth c H locs 0 0 (MQ below (mQv D cI cB b post) ([.ref b] : List Value).toArray s 0 0 (mA b)) (F0 m 61 ls []) := by
    intro  x2 S H locs ls h hP hS hl
    obtain ⟨I61, n61, hI, hstep61⟩ := h
    induction n61 using Nat.strongRecOn generalizing x2 S H locs ls with
    | ind n61 ih61 =>
      have h : wp_readPoly_b61  post (fun x2 S => ∃ mm, mm < n61 ∧ I61 mm (x2, S))  x2 S := hstep61 n61 _ hI
      clear hI
      have J111 : ∀ (x1 : Int32) (x2 : Int32) (S : St) (H : Heap) (locs : List Loc) (ls : Array Slot), wp_readPoly_j111  post (fun x2 S => ∃ mm, mm < n61 ∧ I61 mm (x2, S)) x1 x2 S → mW D cI cB b S H → va_S (mA b) s.heap H locs → lv_has ls 3 [(0, .ref b), (1, .int x1), (2, .int x2)] → W p l e (headSpec (ws_ yX7_readPoly cX7_readPoly 3 none) ({ frames := 8, cells := 0, slots := 0, locals := 211 } : Room)).room s m ([.ref b] : List Value).toArray below meth c H locs 0 0 (MQ below (mQv D cI cB b post) ([.ref b] : List Value).toArray s 0 0 (mA b)) (F0 m 111 ls []) := by
        intro x1 x2 S H locs ls h hP hS hl
        unfold wp_readPoly_j111 at h
        refine lv_aload_n hx hb dX7_readPoly_111 rfl (lv_at hl 0 rfl) ?_
        refine m_cVv (As := []) (rest := []) ⟨hx, hb, hml, hown, hts⟩ (met_next l D cI cB b   S _ h) (cwV 0 hts (lw_V q1390 q1392 qs60 q128 q1393) rfl rfl rfl cwd_next ⟨Nat.le_of_ble_eq_true rfl, Nat.le_of_ble_eq_true rfl⟩) hK hP hS rfl hl.1 rfl (Nat.le_of_ble_eq_true rfl) dX7_readPoly_112 ⟨Nat.zero_le _, Nat.zero_le _⟩ (fun S_4 H locs h hP hS => ?_)
        refine lv_aload_n hx hb dX7_readPoly_115 rfl (lv_at hl 0 rfl) ?_
        refine lv_iload_n hx hb dX7_readPoly_116 rfl (lv_at hl 1 rfl) ?_
        refine m_cVvS (As := [.int x1]) (rest := []) ⟨hx, hb, hml, hown, hts⟩ (met_readTerm l D cI cB b x1 ad z hz S_4 _ h) (cwV 1 hts (lw_V q1482 q1484 qs72 q128 q1485) rfl rfl rfl cwd_readTerm ⟨Nat.le_of_ble_eq_true rfl, Nat.le_of_ble_eq_true rfl⟩) hV hz (Nat.le_of_lt hb0) hK hP hS rfl hl.1 rfl (Nat.le_of_ble_eq_true rfl) dX7_readPoly_117 ⟨Nat.zero_le _, Nat.zero_le _⟩ (fun S_6 H locs h hP hS => ?_)
        obtain ⟨x2_7, ex2_7⟩ : ∃ y : Int32, y = x2 + 1 := ⟨_, rfl⟩
        have h := h x2_7 ex2_7
        refine lv_iinc (v := x2_7) (lv' := [(2, .int x2_7), (0, .ref b), (1, .int x1)]) hx hb dX7_readPoly_120 hl (k := 2) rfl (by rw [ex2_7]; rfl) (by decide) rfl (fun ls hl => ?_)
        refine lv_goto (tgt := 61) hx hb dX7_readPoly_123 (by decide) ?_
        obtain ⟨mm, hmm, h⟩ := h
        exact ih61 mm hmm _ _ _ _ _ hP hS (lv_sub hl [1, 0] rfl) h
      have J96 : ∀ (x2 : Int32) (S : St) (H : Heap) (locs : List Loc) (ls : Array Slot), wp_readPoly_j96  post (fun x2 S => ∃ mm, mm < n61 ∧ I61 mm (x2, S)) x2 S → mW D cI cB b S H → va_S (mA b) s.heap H locs → lv_has ls 3 [(0, .ref b), (2, .int x2)] → W p l e (headSpec (ws_ yX7_readPoly cX7_readPoly 3 none) ({ frames := 8, cells := 0, slots := 0, locals := 211 } : Room)).room s m ([.ref b] : List Value).toArray below meth c H locs 0 0 (MQ below (mQv D cI cB b post) ([.ref b] : List Value).toArray s 0 0 (mA b)) (F0 m 96 ls []) := by
        intro x2 S H locs ls h hP hS hl
        unfold wp_readPoly_j96 at h
        refine lv_aload_n hx hb dX7_readPoly_96 rfl (lv_at hl 0 rfl) ?_
        refine m_get (v := .int (S 0 19)) hx hb hts hown hK hP 19 (by decide) q1229 rfl rfl dX7_readPoly_97 ?_
        refine lv_bipush (v := 6) hx hb dX7_readPoly_100 (by decide) ?_
        refine lv_icmp_ne (tgt := 109) hx hb dX7_readPoly_102 (by decide) (fun c_8 => ?_) (fun c_8 => ?_)
        · have h := h.1 c_8
          refine lv_iconst (v := 0) hx hb dX7_readPoly_109 (by decide) ?_
          refine lv_istore_n (lv' := [(1, .int 0), (0, .ref b), (2, .int x2)]) hx hb dX7_readPoly_110 rfl hl (by decide) rfl (fun ls hl => ?_)
          exact J111 _ _ _ _ _ _ h hP hS (lv_sub hl [1, 0, 2] rfl)
        · have h := h.2 c_8
          refine lv_iconst (v := 1) hx hb dX7_readPoly_105 (by decide) ?_
          refine lv_goto (tgt := 110) hx hb dX7_readPoly_106 (by decide) ?_
          refine lv_istore_n (lv' := [(1, .int 1), (0, .ref b), (2, .int x2)]) hx hb dX7_readPoly_110 rfl hl (by decide) rfl (fun ls hl => ?_)
          exact J111 _ _ _ _ _ _ h hP hS (lv_sub hl [1, 0, 2] rfl)
      have J85 : ∀ (x2 : Int32) (S : St) (H : Heap) (locs : List Loc) (ls : Array Slot), wp_readPoly_j85  post (fun x2 S => ∃ mm, mm < n61 ∧ I61 mm (x2, S)) x2 S → mW D cI cB b S H → va_S (mA b) s.heap H locs → lv_has ls 3 [(0, .ref b), (2, .int x2)] → W p l e (headSpec (ws_ yX7_readPoly cX7_readPoly 3 none) ({ frames := 8, cells := 0, slots := 0, locals := 211 } : Room)).room s m ([.ref b] : List Value).toArray below meth c H locs 0 0 (MQ below (mQv D cI cB b post) ([.ref b] : List Value).toArray s 0 0 (mA b)) (F0 m 85 ls []) := by
        intro x2 S H locs ls h hP hS hl
        unfold wp_readPoly_j85 at h
        refine lv_iload_n hx hb dX7_readPoly_85 rfl (lv_at hl 1 rfl) ?_
        refine lv_bipush (v := 12) hx hb dX7_readPoly_86 (by decide) ?_
        refine lv_icmp_ne (tgt := 96) hx hb dX7_readPoly_88 (by decide) (fun c_11 => ?_) (fun c_11 => ?_)
        · have h := h.1 c_11
          exact J96 _ _ _ _ _ h hP hS (lv_sub hl [0, 1] rfl)
        · have h := h.2 c_11
          refine lv_aload_n hx hb dX7_readPoly_91 rfl (lv_at hl 0 rfl) ?_
          refine lv_iconst (v := 5) hx hb dX7_readPoly_92 (by decide) ?_
          refine m_cVv (As := [.int 5]) (rest := []) ⟨hx, hb, hml, hown, hts⟩ (met_flaw l D cI cB b 5  S _ h) (cwV 1 hts (lw_V q1450 q1452 qs67 q128 q1453) rfl rfl rfl cwd_flaw ⟨Nat.le_of_ble_eq_true rfl, Nat.le_of_ble_eq_true rfl⟩) hK hP hS rfl hl.1 rfl (Nat.le_of_ble_eq_true rfl) dX7_readPoly_93 ⟨Nat.zero_le _, Nat.zero_le _⟩ (fun S_10 H locs h hP hS => ?_)
          exact J96 _ _ _ _ _ h hP hS (lv_sub hl [0, 1] rfl)
      unfold wp_readPoly_b61 at h
      refine lv_aload_n hx hb dX7_readPoly_61 rfl (lv_at hl 0 rfl) ?_
      refine m_get (v := .int (S 0 22)) hx hb hts hown hK hP 22 (by decide) q1232 rfl rfl dX7_readPoly_62 ?_
      refine lv_if_ne (tgt := 126) hx hb dX7_readPoly_65 (by decide) (fun c_14 => ?_) (fun c_14 => ?_)
      · have h := h.1 c_14
        exact J126  _ _ _ _ h hP hS (lv_sub hl [0] rfl)
      · have h := h.2 c_14
        refine lv_aload_n hx hb dX7_readPoly_68 rfl (lv_at hl 0 rfl) ?_
        refine m_get (v := .int (S 0 19)) hx hb hts hown hK hP 19 (by decide) q1229 rfl rfl dX7_readPoly_69 ?_
        refine lv_iconst (v := 5) hx hb dX7_readPoly_72 (by decide) ?_
        refine lv_icmp_eq (tgt := 85) hx hb dX7_readPoly_73 (by decide) (fun c_13 => ?_) (fun c_13 => ?_)
        · have h := h.1 c_13
          exact J85 _ _ _ _ _ h hP hS (lv_sub hl [0, 1] rfl)
        · have h := h.2 c_13
          refine lv_aload_n hx hb dX7_readPoly_76 rfl (lv_at hl 0 rfl) ?_
          refine m_get (v := .int (S 0 19)) hx hb hts hown hK hP 19 (by decide) q1229 rfl rfl dX7_readPoly_77 ?_
          refine lv_bipush (v := 6) hx hb dX7_readPoly_80 (by decide) ?_
          refine lv_icmp_ne (tgt := 126) hx hb dX7_readPoly_82 (by decide) (fun c_12 => ?_) (fun c_12 => ?_)
          · have h := h.1 c_12
            exact J126  _ _ _ _ h hP hS (lv_sub hl [0] rfl)
          · have h := h.2 c_12
            exact J85 _ _ _ _ _ h hP hS (lv_sub hl [0, 1] rfl)
  have J54 : ∀ (x1 : Int32) (S : St) (H : Heap) (locs : List Loc) (ls : Array Slot), wp_readPoly_j54  post x1 S → mW D cI cB b S H → va_S (mA b) s.heap H locs → lv_has ls 3 [(0, .ref b), (1, .int x1)] → W p l e (headSpec (ws_ yX7_readPoly cX7_readPoly 3 none) ({ frames := 8, cells := 0, slots := 0, locals := 211 } : Room)).room s m ([.ref b] : List Value).toArray below meth c H locs 0 0 (MQ below (mQv D cI cB b post) ([.ref b] : List Value).toArray s 0 0 (mA b)) (F0 m 54 ls []) := by
    intro x1 S H locs ls h hP hS hl
    unfold wp_readPoly_j54 at h
    refine lv_aload_n hx hb dX7_readPoly_54 rfl (lv_at hl 0 rfl) ?_
    refine lv_iload_n hx hb dX7_readPoly_55 rfl (lv_at hl 1 rfl) ?_
    refine m_cVvS (As := [.int x1]) (rest := []) ⟨hx, hb, hml, hown, hts⟩ (met_readTerm l D cI cB b x1 ad z hz S _ h) (cwV 1 hts (lw_V q1482 q1484 qs72 q128 q1485) rfl rfl rfl cwd_readTerm ⟨Nat.le_of_ble_eq_true rfl, Nat.le_of_ble_eq_true rfl⟩) hV hz (Nat.le_of_lt hb0) hK hP hS rfl hl.1 rfl (Nat.le_of_ble_eq_true rfl) dX7_readPoly_56 ⟨Nat.zero_le _, Nat.zero_le _⟩ (fun S_16 H locs h hP hS => ?_)
    refine lv_iconst (v := 1) hx hb dX7_readPoly_59 (by decide) ?_
    refine lv_istore_n (lv' := [(2, .int 1), (0, .ref b), (1, .int x1)]) hx hb dX7_readPoly_60 rfl hl (by decide) rfl (fun ls hl => ?_)
    exact L61 _ _ _ _ _ h hP hS (lv_sub hl [1, 0] rfl)
  have J46 : ∀ (x1 : Int32) (S : St) (H : Heap) (locs : List Loc) (ls : Array Slot), wp_readPoly_j46  post x1 S → mW D cI cB b S H → va_S (mA b) s.heap H locs → lv_has ls 3 [(0, .ref b), (1, .int x1)] → W p l e (headSpec (ws_ yX7_readPoly cX7_readPoly 3 none) ({ frames := 8, cells := 0, slots := 0, locals := 211 } : Room)).room s m ([.ref b] : List Value).toArray below meth c H locs 0 0 (MQ below (mQv D cI cB b post) ([.ref b] : List Value).toArray s 0 0 (mA b)) (F0 m 46 ls []) := by
    intro x1 S H locs ls h hP hS hl
    unfold wp_readPoly_j46 at h
    refine lv_iload_n hx hb dX7_readPoly_46 rfl (lv_at hl 1 rfl) ?_
    refine lv_if_eq (tgt := 54) hx hb dX7_readPoly_47 (by decide) (fun c_19 => ?_) (fun c_19 => ?_)
    · have h := h.1 c_19
      exact J54 _ _ _ _ _ h hP hS (lv_sub hl [0, 1] rfl)
    · have h := h.2 c_19
      refine lv_aload_n hx hb dX7_readPoly_50 rfl (lv_at hl 0 rfl) ?_
      refine m_cVv (As := []) (rest := []) ⟨hx, hb, hml, hown, hts⟩ (met_next l D cI cB b   S _ h) (cwV 0 hts (lw_V q1390 q1392 qs60 q128 q1393) rfl rfl rfl cwd_next ⟨Nat.le_of_ble_eq_true rfl, Nat.le_of_ble_eq_true rfl⟩) hK hP hS rfl hl.1 rfl (Nat.le_of_ble_eq_true rfl) dX7_readPoly_51 ⟨Nat.zero_le _, Nat.zero_le _⟩ (fun S_18 H locs h hP hS => ?_)
      exact J54 _ _ _ _ _ h hP hS (lv_sub hl [0, 1] rfl)
  have J27 : ∀  (S : St) (H : Heap) (locs : List Loc) (ls : Array Slot), wp_readPoly_j27  post  S → mW D cI cB b S H → va_S (mA b) s.heap H locs → lv_has ls 3 [(0, .ref b)] → W p l e (headSpec (ws_ yX7_readPoly cX7_readPoly 3 none) ({ frames := 8, cells := 0, slots := 0, locals := 211 } : Room)).room s m ([.ref b] : List Value).toArray below meth c H locs 0 0 (MQ below (mQv D cI cB b post) ([.ref b] : List Value).toArray s 0 0 (mA b)) (F0 m 27 ls []) := by
    intro  S H locs ls h hP hS hl
    unfold wp_readPoly_j27 at h
    refine lv_aload_n hx hb dX7_readPoly_27 rfl (lv_at hl 0 rfl) ?_
    refine m_cVv (As := []) (rest := []) ⟨hx, hb, hml, hown, hts⟩ (met_next l D cI cB b   S _ h) (cwV 0 hts (lw_V q1390 q1392 qs60 q128 q1393) rfl rfl rfl cwd_next ⟨Nat.le_of_ble_eq_true rfl, Nat.le_of_ble_eq_true rfl⟩) hK hP hS rfl hl.1 rfl (Nat.le_of_ble_eq_true rfl) dX7_readPoly_28 ⟨Nat.zero_le _, Nat.zero_le _⟩ (fun S_21 H locs h hP hS => ?_)
    refine lv_aload_n hx hb dX7_readPoly_31 rfl (lv_at hl 0 rfl) ?_
    refine m_get (v := .int (S_21 0 19)) hx hb hts hown hK hP 19 (by decide) q1229 rfl rfl dX7_readPoly_32 ?_
    refine lv_bipush (v := 6) hx hb dX7_readPoly_35 (by decide) ?_
    refine lv_icmp_ne (tgt := 44) hx hb dX7_readPoly_37 (by decide) (fun c_22 => ?_) (fun c_22 => ?_)
    · have h := h.1 c_22
      refine lv_iconst (v := 0) hx hb dX7_readPoly_44 (by decide) ?_
      refine lv_istore_n (lv' := [(1, .int 0), (0, .ref b)]) hx hb dX7_readPoly_45 rfl hl (by decide) rfl (fun ls hl => ?_)
      exact J46 _ _ _ _ _ h hP hS (lv_sub hl [1, 0] rfl)
    · have h := h.2 c_22
      refine lv_iconst (v := 1) hx hb dX7_readPoly_40 (by decide) ?_
      refine lv_goto (tgt := 45) hx hb dX7_readPoly_41 (by decide) ?_
      refine lv_istore_n (lv' := [(1, .int 1), (0, .ref b)]) hx hb dX7_readPoly_45 rfl hl (by decide) rfl (fun ls hl => ?_)
      exact J46 _ _ _ _ _ h hP hS (lv_sub hl [1, 0] rfl)
  have J14 : ∀  (S : St) (H : Heap) (locs : List Loc) (ls : Array Slot), wp_readPoly_j14  post  S → mW D cI cB b S H → va_S (mA b) s.heap H locs → lv_has ls 3 [(0, .ref b)] → W p l e (headSpec (ws_ yX7_readPoly cX7_readPoly 3 none) ({ frames := 8, cells := 0, slots := 0, locals := 211 } : Room)).room s m ([.ref b] : List Value).toArray below meth c H locs 0 0 (MQ below (mQv D cI cB b post) ([.ref b] : List Value).toArray s 0 0 (mA b)) (F0 m 14 ls []) := by
    intro  S H locs ls h hP hS hl
    unfold wp_readPoly_j14 at h
    refine lv_aload_n hx hb dX7_readPoly_14 rfl (lv_at hl 0 rfl) ?_
    refine m_get (v := .int (S 0 9)) hx hb hts hown hK hP 9 (by decide) q1219 rfl rfl dX7_readPoly_15 ?_
    refine lv_if_ne (tgt := 27) hx hb dX7_readPoly_18 (by decide) (fun c_25 => ?_) (fun c_25 => ?_)
    · have h := h.1 c_25
      exact J27  _ _ _ _ h hP hS (lv_sub hl [0] rfl)
    · have h := h.2 c_25
      refine lv_aload_n hx hb dX7_readPoly_21 rfl (lv_at hl 0 rfl) ?_
      refine lv_bipush (v := 6) hx hb dX7_readPoly_22 (by decide) ?_
      refine m_cVv (As := [.int 6]) (rest := []) ⟨hx, hb, hml, hown, hts⟩ (met_flaw l D cI cB b 6  S _ h) (cwV 1 hts (lw_V q1450 q1452 qs67 q128 q1453) rfl rfl rfl cwd_flaw ⟨Nat.le_of_ble_eq_true rfl, Nat.le_of_ble_eq_true rfl⟩) hK hP hS rfl hl.1 rfl (Nat.le_of_ble_eq_true rfl) dX7_readPoly_24 ⟨Nat.zero_le _, Nat.zero_le _⟩ (fun S_24 H locs h hP hS => ?_)
      exact J27  _ _ _ _ h hP hS (lv_sub hl [0] rfl)
  unfold wp_readPoly at h
  refine lv_aload_n hx hb dX7_readPoly_0 rfl (lv_at hl 0 rfl) ?_
  refine m_get (v := .int (S 0 13)) hx hb hts hown hK hP 13 (by decide) q1223 rfl rfl dX7_readPoly_1 ?_
  refine lv_bipush (v := 6) hx hb dX7_readPoly_4 (by decide) ?_
  refine lv_icmp_ne (tgt := 14) hx hb dX7_readPoly_6 (by decide) (fun c_28 => ?_) (fun c_28 => ?_)
  · have h := h.1 c_28
    exact J14  _ _ _ _ h hP hS (lv_sub hl [0] rfl)
  · have h := h.2 c_28
    refine lv_aload_n hx hb dX7_readPoly_9 rfl (lv_at hl 0 rfl) ?_
    refine lv_iconst (v := 5) hx hb dX7_readPoly_10 (by decide) ?_
    refine m_cVv (As := [.int 5]) (rest := []) ⟨hx, hb, hml, hown, hts⟩ (met_flaw l D cI cB b 5  S _ h) (cwV 1 hts (lw_V q1450 q1452 qs67 q128 q1453) rfl rfl rfl cwd_flaw ⟨Nat.le_of_ble_eq_true rfl, Nat.le_of_ble_eq_true rfl⟩) hK hP hS rfl hl.1 rfl (Nat.le_of_ble_eq_true rfl) dX7_readPoly_11 ⟨Nat.zero_le _, Nat.zero_le _⟩ (fun S_27 H locs h hP hS => ?_)
    exact J14  _ _ _ _ h hP hS (lv_sub hl [0] rfl)
def wp_readLine  (S : St) (post : St → Prop) : Prop :=
  wp_isWord 3 S (fun r_1 =>
  ((r_1 = 0 →
    wp_isWord 4 S (fun r_3 =>
    ((r_3 = 0 →
      wp_flaw 1 S (fun S_6 =>
      post S_6)) ∧
     (¬ (r_3 = 0) →
      wp_readPoly  S (fun S_8 =>
      post S_8))))) ∧
   (¬ (r_1 = 0) →
    wp_readRing  S (fun S_11 =>
    post S_11))))
set_option maxHeartbeats 4000000 in
theorem met_readLine (l : Launch) (D : va_G) (cI cB : ClassId) (b : Nat)  (ad : SAD) (z : Nat) (hz : z ≤ b)  (S : St) (post : St → Prop) (h : wp_readLine  S post) : Met l yX7_readLine (ws_ yX7_readLine cX7_readLine 1 none) ({ frames := 9, cells := 0, slots := 0, locals := 233 } : Room) (mPcS D cI cB b ad z [.ref b] S) (mQv D cI cB b post) 0 0 (mA b) := by
  refine Met.ofW (cc := cX7_readLine) (maxL := 1) (ret := none) (by decide) rfl ?_
  intro p e s m args below meth c s₁ B hml hv
  obtain ⟨rfl, ⟨hP, hK⟩, hV⟩ := hv
  have hb0 : b < s.heap.size := (hP 0 (by decide)).lt
  have hx := B.exec
  have hb := B.bytes
  have hr := B.returns
  have hts := atoms_spec (ws := ws_ yX7_readLine cX7_readLine 1 none) B.pre
  have hts : ∀ w ∈ lw_all, w.before _ s = true := fun w h => hts w (List.mem_cons_of_mem _ h)
  have hown : s.vm.findClass RX7 = some m.cls := findClass_of_methodNamed B.named
  have hlocks := B.notSynchronized
  have hS : va_S (mA b) s.heap s.heap [] := va_S.rf
  have hl := lv_entry ([.ref b]) (n := 1) (Nat.le_of_ble_eq_true rfl)
  rw [lg_entry_eq]
  generalize (lg_sl ([.ref b]) ++ List.replicate (1 - (lg_sl ([.ref b])).length) Slot.unset).toArray = ls at hl ⊢
  have hl : lv_has ls 1 [(0, .ref b)] := hl
  unfold wp_readLine at h
  refine lv_aload_n hx hb dX7_readLine_0 rfl (lv_at hl 0 rfl) ?_
  refine va_ldcS hx hb hown (hV.2.1 3 (by decide)) dX7_readLine_1 ?_
  refine m_cVpS (As := [.ref (ad.1 3)]) (rest := []) ⟨hx, hb, hml, hown, hts⟩ (met_isWord l D cI cB b 3 ad z hz (by decide) S _ h) (cwV 1 hts (lw_V q1414 q1416 qs65 q128 q1417) rfl rfl rfl cwd_isWord ⟨Nat.le_of_ble_eq_true rfl, Nat.le_of_ble_eq_true rfl⟩) hV hz (Nat.le_of_lt hb0) hK hP hS rfl hl.1 rfl (Nat.le_of_ble_eq_true rfl) dX7_readLine_3 ⟨Nat.zero_le _, Nat.zero_le _⟩ (fun r_1 H locs h hP hS => ?_)
  refine lv_if_eq (tgt := 16) hx hb dX7_readLine_6 (by decide) (fun c_12 => ?_) (fun c_12 => ?_)
  · have h := h.1 c_12
    refine lv_aload_n hx hb dX7_readLine_16 rfl (lv_at hl 0 rfl) ?_
    refine va_ldcS hx hb hown (hV.2.1 4 (by decide)) dX7_readLine_17 ?_
    refine m_cVpS (As := [.ref (ad.1 4)]) (rest := []) ⟨hx, hb, hml, hown, hts⟩ (met_isWord l D cI cB b 4 ad z hz (by decide) S _ h) (cwV 1 hts (lw_V q1414 q1416 qs65 q128 q1417) rfl rfl rfl cwd_isWord ⟨Nat.le_of_ble_eq_true rfl, Nat.le_of_ble_eq_true rfl⟩) hV hz (Nat.le_of_lt hb0) hK hP hS rfl hl.1 rfl (Nat.le_of_ble_eq_true rfl) dX7_readLine_19 ⟨Nat.zero_le _, Nat.zero_le _⟩ (fun r_3 H locs h hP hS => ?_)
    refine lv_if_eq (tgt := 32) hx hb dX7_readLine_22 (by decide) (fun c_9 => ?_) (fun c_9 => ?_)
    · have h := h.1 c_9
      refine lv_aload_n hx hb dX7_readLine_32 rfl (lv_at hl 0 rfl) ?_
      refine lv_iconst (v := 1) hx hb dX7_readLine_33 (by decide) ?_
      refine m_cVv (As := [.int 1]) (rest := []) ⟨hx, hb, hml, hown, hts⟩ (met_flaw l D cI cB b 1  S _ h) (cwV 1 hts (lw_V q1450 q1452 qs67 q128 q1453) rfl rfl rfl cwd_flaw ⟨Nat.le_of_ble_eq_true rfl, Nat.le_of_ble_eq_true rfl⟩) hK hP hS rfl hl.1 rfl (Nat.le_of_ble_eq_true rfl) dX7_readLine_34 ⟨Nat.zero_le _, Nat.zero_le _⟩ (fun S_6 H locs h hP hS => ?_)
      exact W.vret hx hb hr (fun t ht hW => ⟨⟨S_6, rfl, h, by rw [ht]; exact hP, va_K.moved hW.alike hK⟩, hS.F ht⟩) hS.2.2 dX7_readLine_37
    · have h := h.2 c_9
      refine lv_aload_n hx hb dX7_readLine_25 rfl (lv_at hl 0 rfl) ?_
      refine m_cVvS (As := []) (rest := []) ⟨hx, hb, hml, hown, hts⟩ (met_readPoly l D cI cB b  ad z hz S _ h) (cwV 0 hts (lw_V q1478 q1480 qs71 q128 q1481) rfl rfl rfl cwd_readPoly ⟨Nat.le_of_ble_eq_true rfl, Nat.le_of_ble_eq_true rfl⟩) hV hz (Nat.le_of_lt hb0) hK hP hS rfl hl.1 rfl (Nat.le_of_ble_eq_true rfl) dX7_readLine_26 ⟨Nat.zero_le _, Nat.zero_le _⟩ (fun S_8 H locs h hP hS => ?_)
      refine lv_goto (tgt := 37) hx hb dX7_readLine_29 (by decide) ?_
      exact W.vret hx hb hr (fun t ht hW => ⟨⟨S_8, rfl, h, by rw [ht]; exact hP, va_K.moved hW.alike hK⟩, hS.F ht⟩) hS.2.2 dX7_readLine_37
  · have h := h.2 c_12
    refine lv_aload_n hx hb dX7_readLine_9 rfl (lv_at hl 0 rfl) ?_
    refine m_cVvS (As := []) (rest := []) ⟨hx, hb, hml, hown, hts⟩ (met_readRing l D cI cB b  ad z hz S _ h) (cwV 0 hts (lw_V q1446 q1448 qs66 q128 q1449) rfl rfl rfl cwd_readRing ⟨Nat.le_of_ble_eq_true rfl, Nat.le_of_ble_eq_true rfl⟩) hV hz (Nat.le_of_lt hb0) hK hP hS rfl hl.1 rfl (Nat.le_of_ble_eq_true rfl) dX7_readLine_10 ⟨Nat.zero_le _, Nat.zero_le _⟩ (fun S_11 H locs h hP hS => ?_)
    refine lv_goto (tgt := 37) hx hb dX7_readLine_13 (by decide) ?_
    exact W.vret hx hb hr (fun t ht hW => ⟨⟨S_11, rfl, h, by rw [ht]; exact hP, va_K.moved hW.alike hK⟩, hS.F ht⟩) hS.2.2 dX7_readLine_37
def wp_readAll_j72  (post : St → Prop)  (S : St) : Prop :=
    ((¬ (S 0 22) = 0 →
      post S) ∧
     ((S 0 22) = 0 →
      ((¬ (S 0 9) = 0 →
        post S) ∧
       ((S 0 9) = 0 →
        wp_flaw 6 S (fun S_2 =>
        post S_2)))))
def wp_readAll_b40  (post : St → Prop) (R40 : St → Prop)   (S : St) : Prop :=
      ((¬ (S 0 19) = 4 →
        (((S 0 19) = 1 →
          wp_readAll_j72  post  S) ∧
         (¬ ((S 0 19) = 1) →
          wp_flaw 1 S (fun S_6 =>
          wp_readAll_j72  post  S_6)))) ∧
       ((S 0 19) = 4 →
        wp_next  S (fun S_9 =>
        wp_readLine  S_9 (fun S_11 =>
        R40 S_11))))
def wp_readAll_l40  (post : St → Prop)   (S : St) : Prop := wLoop (fun (R : St → Prop) (v : St) => wp_readAll_b40  post (fun S => R S)   v) S
def wp_readAll_b12  (post : St → Prop) (R12 : Int32 → St → Prop)  (x1 : Int32) (S : St) : Prop :=
      ((24576 ≤ x1 →
        wp_next  S (fun S_14 =>
        wp_readLine  S_14 (fun S_16 =>
        wp_readAll_l40  post  S_16))) ∧
       (¬ (24576 ≤ x1) →
        ∃ j_17 : Nat, j_17 < 24576 ∧ x1 = nI j_17 ∧ ∀ S_18 : St, S_18 = bw S 2 j_17 0 →
        ∀ x1_19 : Int32, x1_19 = x1 + 1 →
        R12 x1_19 S_18))
def wp_readAll_l12  (post : St → Prop)  (x1 : Int32) (S : St) : Prop := wLoop (fun (R : (Int32 × St) → Prop) (v : Int32 × St) => wp_readAll_b12  post (fun x1 S => R (x1, S))  v.1 v.2) (x1, S)
def wp_readAll  (S : St) (post : St → Prop) : Prop :=
  ∀ S_21 : St, S_21 = bw S 0 9 0 →
  ∀ S_22 : St, S_22 = bw S_21 0 13 0 →
  wp_readAll_l12  post 0 S_22
set_option maxHeartbeats 4000000 in
theorem met_readAll (l : Launch) (D : va_G) (cI cB : ClassId) (b : Nat)  (ad : SAD) (z : Nat) (hz : z ≤ b)  (S : St) (post : St → Prop) (h : wp_readAll  S post) : Met l yX7_readAll (ws_ yX7_readAll cX7_readAll 2 none) ({ frames := 10, cells := 0, slots := 0, locals := 253 } : Room) (mPcS D cI cB b ad z [.ref b] S) (mQv D cI cB b post) 0 0 (mA b) := by
  refine Met.ofW (cc := cX7_readAll) (maxL := 2) (ret := none) (by decide) rfl ?_
  intro p e s m args below meth c s₁ B hml hv
  obtain ⟨rfl, ⟨hP, hK⟩, hV⟩ := hv
  have hb0 : b < s.heap.size := (hP 0 (by decide)).lt
  have hx := B.exec
  have hb := B.bytes
  have hr := B.returns
  have hts := atoms_spec (ws := ws_ yX7_readAll cX7_readAll 2 none) B.pre
  have hts : ∀ w ∈ lw_all, w.before _ s = true := fun w h => hts w (List.mem_cons_of_mem _ h)
  have hown : s.vm.findClass RX7 = some m.cls := findClass_of_methodNamed B.named
  have hlocks := B.notSynchronized
  have hS : va_S (mA b) s.heap s.heap [] := va_S.rf
  have hl := lv_entry ([.ref b]) (n := 2) (Nat.le_of_ble_eq_true rfl)
  rw [lg_entry_eq]
  generalize (lg_sl ([.ref b]) ++ List.replicate (2 - (lg_sl ([.ref b])).length) Slot.unset).toArray = ls at hl ⊢
  have hl : lv_has ls 2 [(0, .ref b)] := hl
  have J72 : ∀  (S : St) (H : Heap) (locs : List Loc) (ls : Array Slot), wp_readAll_j72  post  S → mW D cI cB b S H → va_S (mA b) s.heap H locs → lv_has ls 2 [(0, .ref b)] → W p l e (headSpec (ws_ yX7_readAll cX7_readAll 2 none) ({ frames := 10, cells := 0, slots := 0, locals := 253 } : Room)).room s m ([.ref b] : List Value).toArray below meth c H locs 0 0 (MQ below (mQv D cI cB b post) ([.ref b] : List Value).toArray s 0 0 (mA b)) (F0 m 72 ls []) := by
    intro  S H locs ls h hP hS hl
    unfold wp_readAll_j72 at h
    refine lv_aload_n hx hb dX7_readAll_72 rfl (lv_at hl 0 rfl) ?_
    refine m_get (v := .int (S 0 22)) hx hb hts hown hK hP 22 (by decide) q1232 rfl rfl dX7_readAll_73 ?_
    refine lv_if_ne (tgt := 92) hx hb dX7_readAll_76 (by decide) (fun c_4 => ?_) (fun c_4 => ?_)
    · have h := h.1 c_4
      exact W.vret hx hb hr (fun t ht hW => ⟨⟨S, rfl, h, by rw [ht]; exact hP, va_K.moved hW.alike hK⟩, hS.F ht⟩) hS.2.2 dX7_readAll_92
    · have h := h.2 c_4
      refine lv_aload_n hx hb dX7_readAll_79 rfl (lv_at hl 0 rfl) ?_
      refine m_get (v := .int (S 0 9)) hx hb hts hown hK hP 9 (by decide) q1219 rfl rfl dX7_readAll_80 ?_
      refine lv_if_ne (tgt := 92) hx hb dX7_readAll_83 (by decide) (fun c_3 => ?_) (fun c_3 => ?_)
      · have h := h.1 c_3
        exact W.vret hx hb hr (fun t ht hW => ⟨⟨S, rfl, h, by rw [ht]; exact hP, va_K.moved hW.alike hK⟩, hS.F ht⟩) hS.2.2 dX7_readAll_92
      · have h := h.2 c_3
        refine lv_aload_n hx hb dX7_readAll_86 rfl (lv_at hl 0 rfl) ?_
        refine lv_bipush (v := 6) hx hb dX7_readAll_87 (by decide) ?_
        refine m_cVv (As := [.int 6]) (rest := []) ⟨hx, hb, hml, hown, hts⟩ (met_flaw l D cI cB b 6  S _ h) (cwV 1 hts (lw_V q1450 q1452 qs67 q128 q1453) rfl rfl rfl cwd_flaw ⟨Nat.le_of_ble_eq_true rfl, Nat.le_of_ble_eq_true rfl⟩) hK hP hS rfl hl.1 rfl (Nat.le_of_ble_eq_true rfl) dX7_readAll_89 ⟨Nat.zero_le _, Nat.zero_le _⟩ (fun S_2 H locs h hP hS => ?_)
        exact W.vret hx hb hr (fun t ht hW => ⟨⟨S_2, rfl, h, by rw [ht]; exact hP, va_K.moved hW.alike hK⟩, hS.F ht⟩) hS.2.2 dX7_readAll_92
  have L40 : ∀   (S : St) (H : Heap) (locs : List Loc) (ls : Array Slot), wp_readAll_l40  post   S → mW D cI cB b S H → va_S (mA b) s.heap H locs → lv_has ls 2 [(0, .ref b)] → W p l e (headSpec (ws_ yX7_readAll cX7_readAll 2 none) ({ frames := 10, cells := 0, slots := 0, locals := 253 } : Room)).room s m ([.ref b] : List Value).toArray below meth c H locs 0 0 (MQ below (mQv D cI cB b post) ([.ref b] : List Value).toArray s 0 0 (mA b)) (F0 m 40 ls []) := by
    intro   S H locs ls h hP hS hl
    obtain ⟨I40, n40, hI, hstep40⟩ := h
    induction n40 using Nat.strongRecOn generalizing S H locs ls with
    | ind n40 ih40 =>
      have h : wp_readAll_b40  post (fun S => ∃ mm, mm < n40 ∧ I40 mm S)   S := hstep40 n40 _ hI
      clear hI
      unfold wp_readAll_b40 at h
      refine lv_aload_n hx hb dX7_readAll_40 rfl (lv_at hl 0 rfl) ?_
      refine m_get (v := .int (S 0 19)) hx hb hts hown hK hP 19 (by decide) q1229 rfl rfl dX7_readAll_41 ?_
      refine lv_iconst (v := 4) hx hb dX7_readAll_44 (by decide) ?_
      refine lv_icmp_ne (tgt := 59) hx hb dX7_readAll_45 (by decide) (fun c_12 => ?_) (fun c_12 => ?_)
      · have h := h.1 c_12
        refine lv_aload_n hx hb dX7_readAll_59 rfl (lv_at hl 0 rfl) ?_
        refine m_get (v := .int (S 0 19)) hx hb hts hown hK hP 19 (by decide) q1229 rfl rfl dX7_readAll_60 ?_
        refine lv_iconst (v := 1) hx hb dX7_readAll_63 (by decide) ?_
        refine lv_icmp_eq (tgt := 72) hx hb dX7_readAll_64 (by decide) (fun c_7 => ?_) (fun c_7 => ?_)
        · have h := h.1 c_7
          exact J72  _ _ _ _ h hP hS (lv_sub hl [0] rfl)
        · have h := h.2 c_7
          refine lv_aload_n hx hb dX7_readAll_67 rfl (lv_at hl 0 rfl) ?_
          refine lv_iconst (v := 1) hx hb dX7_readAll_68 (by decide) ?_
          refine m_cVv (As := [.int 1]) (rest := []) ⟨hx, hb, hml, hown, hts⟩ (met_flaw l D cI cB b 1  S _ h) (cwV 1 hts (lw_V q1450 q1452 qs67 q128 q1453) rfl rfl rfl cwd_flaw ⟨Nat.le_of_ble_eq_true rfl, Nat.le_of_ble_eq_true rfl⟩) hK hP hS rfl hl.1 rfl (Nat.le_of_ble_eq_true rfl) dX7_readAll_69 ⟨Nat.zero_le _, Nat.zero_le _⟩ (fun S_6 H locs h hP hS => ?_)
          exact J72  _ _ _ _ h hP hS (lv_sub hl [0] rfl)
      · have h := h.2 c_12
        refine lv_aload_n hx hb dX7_readAll_48 rfl (lv_at hl 0 rfl) ?_
        refine m_cVv (As := []) (rest := []) ⟨hx, hb, hml, hown, hts⟩ (met_next l D cI cB b   S _ h) (cwV 0 hts (lw_V q1390 q1392 qs60 q128 q1393) rfl rfl rfl cwd_next ⟨Nat.le_of_ble_eq_true rfl, Nat.le_of_ble_eq_true rfl⟩) hK hP hS rfl hl.1 rfl (Nat.le_of_ble_eq_true rfl) dX7_readAll_49 ⟨Nat.zero_le _, Nat.zero_le _⟩ (fun S_9 H locs h hP hS => ?_)
        refine lv_aload_n hx hb dX7_readAll_52 rfl (lv_at hl 0 rfl) ?_
        refine m_cVvS (As := []) (rest := []) ⟨hx, hb, hml, hown, hts⟩ (met_readLine l D cI cB b  ad z hz S_9 _ h) (cwV 0 hts (lw_V q1409 q1411 qs64 q128 q1412) rfl rfl rfl cwd_readLine ⟨Nat.le_of_ble_eq_true rfl, Nat.le_of_ble_eq_true rfl⟩) hV hz (Nat.le_of_lt hb0) hK hP hS rfl hl.1 rfl (Nat.le_of_ble_eq_true rfl) dX7_readAll_53 ⟨Nat.zero_le _, Nat.zero_le _⟩ (fun S_11 H locs h hP hS => ?_)
        refine lv_goto (tgt := 40) hx hb dX7_readAll_56 (by decide) ?_
        obtain ⟨mm, hmm, h⟩ := h
        exact ih40 mm hmm _ _ _ _ hP hS (lv_sub hl [0] rfl) h
  have L12 : ∀  (x1 : Int32) (S : St) (H : Heap) (locs : List Loc) (ls : Array Slot), wp_readAll_l12  post  x1 S → mW D cI cB b S H → va_S (mA b) s.heap H locs → lv_has ls 2 [(0, .ref b), (1, .int x1)] → W p l e (headSpec (ws_ yX7_readAll cX7_readAll 2 none) ({ frames := 10, cells := 0, slots := 0, locals := 253 } : Room)).room s m ([.ref b] : List Value).toArray below meth c H locs 0 0 (MQ below (mQv D cI cB b post) ([.ref b] : List Value).toArray s 0 0 (mA b)) (F0 m 12 ls []) := by
    intro  x1 S H locs ls h hP hS hl
    obtain ⟨I12, n12, hI, hstep12⟩ := h
    induction n12 using Nat.strongRecOn generalizing x1 S H locs ls with
    | ind n12 ih12 =>
      have h : wp_readAll_b12  post (fun x1 S => ∃ mm, mm < n12 ∧ I12 mm (x1, S))  x1 S := hstep12 n12 _ hI
      clear hI
      unfold wp_readAll_b12 at h
      refine lv_iload_n hx hb dX7_readAll_12 rfl (lv_at hl 1 rfl) ?_
      refine lv_sipush (v := 24576) hx hb dX7_readAll_13 (by decide) ?_
      refine lv_icmp_ge (tgt := 32) hx hb dX7_readAll_16 (by decide) (fun c_20 => ?_) (fun c_20 => ?_)
      · have h := h.1 c_20
        refine lv_aload_n hx hb dX7_readAll_32 rfl (lv_at hl 0 rfl) ?_
        refine m_cVv (As := []) (rest := []) ⟨hx, hb, hml, hown, hts⟩ (met_next l D cI cB b   S _ h) (cwV 0 hts (lw_V q1390 q1392 qs60 q128 q1393) rfl rfl rfl cwd_next ⟨Nat.le_of_ble_eq_true rfl, Nat.le_of_ble_eq_true rfl⟩) hK hP hS rfl hl.1 rfl (Nat.le_of_ble_eq_true rfl) dX7_readAll_33 ⟨Nat.zero_le _, Nat.zero_le _⟩ (fun S_14 H locs h hP hS => ?_)
        refine lv_aload_n hx hb dX7_readAll_36 rfl (lv_at hl 0 rfl) ?_
        refine m_cVvS (As := []) (rest := []) ⟨hx, hb, hml, hown, hts⟩ (met_readLine l D cI cB b  ad z hz S_14 _ h) (cwV 0 hts (lw_V q1409 q1411 qs64 q128 q1412) rfl rfl rfl cwd_readLine ⟨Nat.le_of_ble_eq_true rfl, Nat.le_of_ble_eq_true rfl⟩) hV hz (Nat.le_of_lt hb0) hK hP hS rfl hl.1 rfl (Nat.le_of_ble_eq_true rfl) dX7_readAll_37 ⟨Nat.zero_le _, Nat.zero_le _⟩ (fun S_16 H locs h hP hS => ?_)
        exact L40  _ _ _ _ h hP hS (lv_sub hl [0] rfl)
      · have h := h.2 c_20
        refine lv_aload_n hx hb dX7_readAll_19 rfl (lv_at hl 0 rfl) ?_
        refine m_get (v := .ref (b + 2)) hx hb hts hown hK hP 4 (by decide) q1214 rfl rfl dX7_readAll_20 ?_
        refine lv_iload_n hx hb dX7_readAll_23 rfl (lv_at hl 1 rfl) ?_
        refine lv_iconst (v := 0) hx hb dX7_readAll_24 (by decide) ?_
        obtain ⟨j_17, hj_17, ej_17, h⟩ := h
        obtain ⟨S_18, eS_18⟩ : ∃ z : St, z = bw S 2 j_17 0 := ⟨_, rfl⟩
        have h := h S_18 eS_18
        refine m_iast hx hb hK hP hS (k := 2) mok_2 ej_17 hj_17 dX7_readAll_25 (fun H locs hP hS => ?_)
        rw [← eS_18] at hP
        obtain ⟨x1_19, ex1_19⟩ : ∃ y : Int32, y = x1 + 1 := ⟨_, rfl⟩
        have h := h x1_19 ex1_19
        refine lv_iinc (v := x1_19) (lv' := [(1, .int x1_19), (0, .ref b)]) hx hb dX7_readAll_26 hl (k := 1) rfl (by rw [ex1_19]; rfl) (by decide) rfl (fun ls hl => ?_)
        refine lv_goto (tgt := 12) hx hb dX7_readAll_29 (by decide) ?_
        obtain ⟨mm, hmm, h⟩ := h
        exact ih12 mm hmm _ _ _ _ _ hP hS (lv_sub hl [1, 0] rfl) h
  unfold wp_readAll at h
  refine lv_aload_n hx hb dX7_readAll_0 rfl (lv_at hl 0 rfl) ?_
  refine lv_iconst (v := 0) hx hb dX7_readAll_1 (by decide) ?_
  obtain ⟨S_21, eS_21⟩ : ∃ z : St, z = bw S 0 9 0 := ⟨_, rfl⟩
  have h := h S_21 eS_21
  refine m_put (S1 := S_21) (v := .int 0) (ty := .int) hx hb hts hown hK hP hS 9 (by decide) q1219 rfl rfl (tyX7_ok 9 (by decide)) rfl rfl (by rw [eS_21]; exact mset_9 b S 0) (by rw [eS_21]; exact bw_0) dX7_readAll_2 (fun H locs hP hS => ?_)
  refine lv_aload_n hx hb dX7_readAll_5 rfl (lv_at hl 0 rfl) ?_
  refine lv_iconst (v := 0) hx hb dX7_readAll_6 (by decide) ?_
  obtain ⟨S_22, eS_22⟩ : ∃ z : St, z = bw S_21 0 13 0 := ⟨_, rfl⟩
  have h := h S_22 eS_22
  refine m_put (S1 := S_22) (v := .int 0) (ty := .int) hx hb hts hown hK hP hS 13 (by decide) q1223 rfl rfl (tyX7_ok 13 (by decide)) rfl rfl (by rw [eS_22]; exact mset_13 b S_21 0) (by rw [eS_22]; exact bw_0) dX7_readAll_7 (fun H locs hP hS => ?_)
  refine lv_iconst (v := 0) hx hb dX7_readAll_10 (by decide) ?_
  refine lv_istore_n (lv' := [(1, .int 0), (0, .ref b)]) hx hb dX7_readAll_11 rfl hl (by decide) rfl (fun ls hl => ?_)
  exact L12 _ _ _ _ _ h hP hS (lv_sub hl [1, 0] rfl)
def wp_desk_j17 (p1 : Int32) (post : Int32 → St → Prop)  (S : St) : Prop :=
    wp_refused 2 S (fun r_1 S_2 =>
    post r_1 S_2)
def wp_desk_j137 (p1 : Int32) (post : Int32 → St → Prop) (R108 : Int32 → St → Prop) (x2 : Int32) (S : St) : Prop :=
        ∀ x2_3 : Int32, x2_3 = x2 + 1 →
        R108 x2_3 S
def wp_desk_b108 (p1 : Int32) (post : Int32 → St → Prop) (R108 : Int32 → St → Prop)  (x2 : Int32) (S : St) : Prop :=
      ((32768 ≤ x2 →
        ∀ S_4 : St, S_4 = bw S 0 45 0 →
        wp_laysOrder  S_4 (fun S_6 =>
        wp_good (S_6 0 13) S_6 (fun r_7 S_8 =>
        post r_7 S_8))) ∧
       (¬ (32768 ≤ x2) →
        ((24576 ≤ x2 →
          ∃ j_9 : Nat, j_9 < 32768 ∧ x2 = nI j_9 ∧ ∀ S_10 : St, S_10 = bw S 1 j_9 0 →
          wp_desk_j137 p1 post R108 x2 S_10) ∧
         (¬ (24576 ≤ x2) →
          ∃ j_11 : Nat, j_11 < 24576 ∧ x2 = nI j_11 ∧
          ∃ j_12 : Nat, j_12 < 32768 ∧ x2 = nI j_12 ∧ ∀ S_13 : St, S_13 = bw S 1 j_12 (S 2 j_11) →
          wp_desk_j137 p1 post R108 x2 S_13))))
def wp_desk_l108 (p1 : Int32) (post : Int32 → St → Prop)  (x2 : Int32) (S : St) : Prop := wLoop (fun (R : (Int32 × St) → Prop) (v : Int32 × St) => wp_desk_b108 p1 post (fun x2 S => R (x2, S))  v.1 v.2) (x2, S)
def wp_desk (p1 : Int32) (S : St) (post : Int32 → St → Prop) : Prop :=
  ∀ S_16 : St, S_16 = bw S 0 0 0 →
  ((p1 < 0 →
    wp_desk_j17 p1 post  S_16) ∧
   (¬ (p1 < 0) →
    ((p1 ≤ (S_16 0 16) →
      ∀ S_17 : St, S_17 = bw S_16 0 17 p1 →
      ∀ S_18 : St, S_18 = bw S_17 0 16 0 →
      ∀ S_19 : St, S_19 = bw S_18 0 18 0 →
      ∀ S_20 : St, S_20 = bw S_19 0 22 0 →
      wp_readAll  S_20 (fun S_22 =>
      (((S_22 0 22) ≤ 0 →
        ∀ S_23 : St, S_23 = bw S_22 0 14 1 →
        ∀ S_24 : St, S_24 = bw S_23 0 5 (S_23 0 9) →
        ∀ S_25 : St, S_25 = bw S_24 0 6 (S_24 0 10) →
        ∀ S_26 : St, S_26 = bw S_25 0 7 (S_25 0 11) →
        ∀ S_27 : St, S_27 = bw S_26 0 8 (S_26 0 12) →
        wp_desk_l108 p1 post 0 S_27) ∧
       (¬ ((S_22 0 22) ≤ 0) →
        ∀ S_28 : St, S_28 = bw S_22 0 1 4 →
        ∀ S_29 : St, S_29 = bw S_28 0 2 (S_28 0 20) →
        post (-1) S_29)))) ∧
     (¬ (p1 ≤ (S_16 0 16)) →
      wp_desk_j17 p1 post  S_16))))
set_option maxHeartbeats 4000000 in
theorem met_desk (l : Launch) (D : va_G) (cI cB : ClassId) (b : Nat) (p1 : Int32) (ad : SAD) (z : Nat) (hz : z ≤ b)  (S : St) (post : Int32 → St → Prop) (h : wp_desk p1 S post) : Met l yX7_desk (ws_ yX7_desk cX7_desk 3 (some .int)) ({ frames := 11, cells := 0, slots := 0, locals := 274 } : Room) (mPcS D cI cB b ad z [.ref b, .int p1] S) (mQi D cI cB b post) 0 0 (mA b) := by
  refine Met.ofW (cc := cX7_desk) (maxL := 3) (ret := (some .int)) (by decide) rfl ?_
  intro p e s m args below meth c s₁ B hml hv
  obtain ⟨rfl, ⟨hP, hK⟩, hV⟩ := hv
  have hb0 : b < s.heap.size := (hP 0 (by decide)).lt
  have hx := B.exec
  have hb := B.bytes
  have hr := B.returns
  have hts := atoms_spec (ws := ws_ yX7_desk cX7_desk 3 (some .int)) B.pre
  have hts : ∀ w ∈ lw_all, w.before _ s = true := fun w h => hts w (List.mem_cons_of_mem _ h)
  have hown : s.vm.findClass RX7 = some m.cls := findClass_of_methodNamed B.named
  have hlocks := B.notSynchronized
  have hS : va_S (mA b) s.heap s.heap [] := va_S.rf
  have hl := lv_entry ([.ref b, .int p1]) (n := 3) (Nat.le_of_ble_eq_true rfl)
  rw [lg_entry_eq]
  generalize (lg_sl ([.ref b, .int p1]) ++ List.replicate (3 - (lg_sl ([.ref b, .int p1])).length) Slot.unset).toArray = ls at hl ⊢
  have hl : lv_has ls 3 [(0, .ref b), (1, .int p1)] := hl
  have J17 : ∀  (S : St) (H : Heap) (locs : List Loc) (ls : Array Slot), wp_desk_j17 p1 post  S → mW D cI cB b S H → va_S (mA b) s.heap H locs → lv_has ls 3 [(0, .ref b)] → W p l e (headSpec (ws_ yX7_desk cX7_desk 3 (some .int)) ({ frames := 11, cells := 0, slots := 0, locals := 274 } : Room)).room s m ([.ref b, .int p1] : List Value).toArray below meth c H locs 0 0 (MQ below (mQi D cI cB b post) ([.ref b, .int p1] : List Value).toArray s 0 0 (mA b)) (F0 m 17 ls []) := by
    intro  S H locs ls h hP hS hl
    unfold wp_desk_j17 at h
    refine lv_aload_n hx hb dX7_desk_17 rfl (lv_at hl 0 rfl) ?_
    refine lv_iconst (v := 2) hx hb dX7_desk_18 (by decide) ?_
    refine m_cVi (As := [.int 2]) (rest := []) ⟨hx, hb, hml, hown, hts⟩ (met_refused l D cI cB b 2  S _ h) (cwV 1 hts (lw_V q1382 q1384 qs58 q128 q1385) rfl rfl rfl cwd_refused ⟨Nat.le_of_ble_eq_true rfl, Nat.le_of_ble_eq_true rfl⟩) hK hP hS rfl hl.1 rfl (Nat.le_of_ble_eq_true rfl) dX7_desk_19 ⟨Nat.zero_le _, Nat.zero_le _⟩ (fun r_1 S_2 H locs h hP hS => ?_)
    exact W.iret (v := r_1) hx hb hr (fun t ht hW => ⟨⟨r_1, S_2, rfl, h, by rw [ht]; exact hP, va_K.moved hW.alike hK⟩, hS.F ht⟩) hS.2.2 dX7_desk_22
  have L108 : ∀  (x2 : Int32) (S : St) (H : Heap) (locs : List Loc) (ls : Array Slot), wp_desk_l108 p1 post  x2 S → mW D cI cB b S H → va_S (mA b) s.heap H locs → lv_has ls 3 [(0, .ref b), (2, .int x2)] → W p l e (headSpec (ws_ yX7_desk cX7_desk 3 (some .int)) ({ frames := 11, cells := 0, slots := 0, locals := 274 } : Room)).room s m ([.ref b, .int p1] : List Value).toArray below meth c H locs 0 0 (MQ below (mQi D cI cB b post) ([.ref b, .int p1] : List Value).toArray s 0 0 (mA b)) (F0 m 108 ls []) := by
    intro  x2 S H locs ls h hP hS hl
    obtain ⟨I108, n108, hI, hstep108⟩ := h
    induction n108 using Nat.strongRecOn generalizing x2 S H locs ls with
    | ind n108 ih108 =>
      have h : wp_desk_b108 p1 post (fun x2 S => ∃ mm, mm < n108 ∧ I108 mm (x2, S))  x2 S := hstep108 n108 _ hI
      clear hI
      have J137 : ∀ (x2 : Int32) (S : St) (H : Heap) (locs : List Loc) (ls : Array Slot), wp_desk_j137 p1 post (fun x2 S => ∃ mm, mm < n108 ∧ I108 mm (x2, S)) x2 S → mW D cI cB b S H → va_S (mA b) s.heap H locs → lv_has ls 3 [(0, .ref b), (2, .int x2)] → W p l e (headSpec (ws_ yX7_desk cX7_desk 3 (some .int)) ({ frames := 11, cells := 0, slots := 0, locals := 274 } : Room)).room s m ([.ref b, .int p1] : List Value).toArray below meth c H locs 0 0 (MQ below (mQi D cI cB b post) ([.ref b, .int p1] : List Value).toArray s 0 0 (mA b)) (F0 m 137 ls []) := by
        intro x2 S H locs ls h hP hS hl
        unfold wp_desk_j137 at h
        obtain ⟨x2_3, ex2_3⟩ : ∃ y : Int32, y = x2 + 1 := ⟨_, rfl⟩
        have h := h x2_3 ex2_3
        refine lv_iinc (v := x2_3) (lv' := [(2, .int x2_3), (0, .ref b)]) hx hb dX7_desk_137 hl (k := 1) rfl (by rw [ex2_3]; rfl) (by decide) rfl (fun ls hl => ?_)
        refine lv_goto (tgt := 108) hx hb dX7_desk_140 (by decide) ?_
        obtain ⟨mm, hmm, h⟩ := h
        exact ih108 mm hmm _ _ _ _ _ hP hS (lv_sub hl [1, 0] rfl) h
      unfold wp_desk_b108 at h
      refine lv_iload_n hx hb dX7_desk_108 rfl (lv_at hl 1 rfl) ?_
      refine lv_ldc (v := 32768) hx hb hown (hts _ q1208) dX7_desk_109 ?_
      refine lv_icmp_ge (tgt := 143) hx hb dX7_desk_111 (by decide) (fun c_15 => ?_) (fun c_15 => ?_)
      · have h := h.1 c_15
        refine lv_aload_n hx hb dX7_desk_143 rfl (lv_at hl 0 rfl) ?_
        refine lv_iconst (v := 0) hx hb dX7_desk_144 (by decide) ?_
        obtain ⟨S_4, eS_4⟩ : ∃ z : St, z = bw S 0 45 0 := ⟨_, rfl⟩
        have h := h S_4 eS_4
        refine m_put (S1 := S_4) (v := .int 0) (ty := .int) hx hb hts hown hK hP hS 45 (by decide) q1255 rfl rfl (tyX7_ok 45 (by decide)) rfl rfl (by rw [eS_4]; exact mset_45 b S 0) (by rw [eS_4]; exact bw_0) dX7_desk_145 (fun H locs hP hS => ?_)
        refine lv_aload_n hx hb dX7_desk_148 rfl (lv_at hl 0 rfl) ?_
        refine m_cVv (As := []) (rest := []) ⟨hx, hb, hml, hown, hts⟩ (met_laysOrder l D cI cB b   S_4 _ h) (cwV 0 hts (lw_V q1486 q1488 qs73 q128 q1489) rfl rfl rfl cwd_laysOrder ⟨Nat.le_of_ble_eq_true rfl, Nat.le_of_ble_eq_true rfl⟩) hK hP hS rfl hl.1 rfl (Nat.le_of_ble_eq_true rfl) dX7_desk_149 ⟨Nat.zero_le _, Nat.zero_le _⟩ (fun S_6 H locs h hP hS => ?_)
        refine lv_aload_n hx hb dX7_desk_152 rfl (lv_at hl 0 rfl) ?_
        refine lv_aload_n hx hb dX7_desk_153 rfl (lv_at hl 0 rfl) ?_
        refine m_get (v := .int (S_6 0 13)) hx hb hts hown hK hP 13 (by decide) q1223 rfl rfl dX7_desk_154 ?_
        refine m_cVi (As := [.int (S_6 0 13)]) (rest := []) ⟨hx, hb, hml, hown, hts⟩ (met_good l D cI cB b (S_6 0 13)  S_6 _ h) (cwV 1 hts (lw_V q1498 q1500 qs76 q128 q1501) rfl rfl rfl cwd_good ⟨Nat.le_of_ble_eq_true rfl, Nat.le_of_ble_eq_true rfl⟩) hK hP hS rfl hl.1 rfl (Nat.le_of_ble_eq_true rfl) dX7_desk_157 ⟨Nat.zero_le _, Nat.zero_le _⟩ (fun r_7 S_8 H locs h hP hS => ?_)
        exact W.iret (v := r_7) hx hb hr (fun t ht hW => ⟨⟨r_7, S_8, rfl, h, by rw [ht]; exact hP, va_K.moved hW.alike hK⟩, hS.F ht⟩) hS.2.2 dX7_desk_160
      · have h := h.2 c_15
        refine lv_aload_n hx hb dX7_desk_114 rfl (lv_at hl 0 rfl) ?_
        refine m_get (v := .ref (b + 1)) hx hb hts hown hK hP 3 (by decide) q1213 rfl rfl dX7_desk_115 ?_
        refine lv_iload_n hx hb dX7_desk_118 rfl (lv_at hl 1 rfl) ?_
        refine lv_iload_n hx hb dX7_desk_119 rfl (lv_at hl 1 rfl) ?_
        refine lv_sipush (v := 24576) hx hb dX7_desk_120 (by decide) ?_
        refine lv_icmp_ge (tgt := 135) hx hb dX7_desk_123 (by decide) (fun c_14 => ?_) (fun c_14 => ?_)
        · have h := h.1 c_14
          refine lv_iconst (v := 0) hx hb dX7_desk_135 (by decide) ?_
          obtain ⟨j_9, hj_9, ej_9, h⟩ := h
          obtain ⟨S_10, eS_10⟩ : ∃ z : St, z = bw S 1 j_9 0 := ⟨_, rfl⟩
          have h := h S_10 eS_10
          refine m_iast hx hb hK hP hS (k := 1) mok_1 ej_9 hj_9 dX7_desk_136 (fun H locs hP hS => ?_)
          rw [← eS_10] at hP
          exact J137 _ _ _ _ _ h hP hS (lv_sub hl [0, 1] rfl)
        · have h := h.2 c_14
          refine lv_aload_n hx hb dX7_desk_126 rfl (lv_at hl 0 rfl) ?_
          refine m_get (v := .ref (b + 2)) hx hb hts hown hK hP 4 (by decide) q1214 rfl rfl dX7_desk_127 ?_
          refine lv_iload_n hx hb dX7_desk_130 rfl (lv_at hl 1 rfl) ?_
          obtain ⟨j_11, hj_11, ej_11, h⟩ := h
          refine m_iald hx hb hK hP (k := 2) mok_2 ej_11 hj_11 dX7_desk_131 ?_
          refine lv_goto (tgt := 136) hx hb dX7_desk_132 (by decide) ?_
          obtain ⟨j_12, hj_12, ej_12, h⟩ := h
          obtain ⟨S_13, eS_13⟩ : ∃ z : St, z = bw S 1 j_12 (S 2 j_11) := ⟨_, rfl⟩
          have h := h S_13 eS_13
          refine m_iast hx hb hK hP hS (k := 1) mok_1 ej_12 hj_12 dX7_desk_136 (fun H locs hP hS => ?_)
          rw [← eS_13] at hP
          exact J137 _ _ _ _ _ h hP hS (lv_sub hl [0, 1] rfl)
  unfold wp_desk at h
  refine lv_aload_n hx hb dX7_desk_0 rfl (lv_at hl 0 rfl) ?_
  refine lv_iconst (v := 0) hx hb dX7_desk_1 (by decide) ?_
  obtain ⟨S_16, eS_16⟩ : ∃ z : St, z = bw S 0 0 0 := ⟨_, rfl⟩
  have h := h S_16 eS_16
  refine m_put (S1 := S_16) (v := .int 0) (ty := .int) hx hb hts hown hK hP hS 0 (by decide) q1210 rfl rfl (tyX7_ok 0 (by decide)) rfl rfl (by rw [eS_16]; exact mset_0 b S 0) (by rw [eS_16]; exact bw_0) dX7_desk_2 (fun H locs hP hS => ?_)
  refine lv_iload_n hx hb dX7_desk_5 rfl (lv_at hl 1 rfl) ?_
  refine lv_if_lt (tgt := 17) hx hb dX7_desk_6 (by decide) (fun c_32 => ?_) (fun c_32 => ?_)
  · have h := h.1 c_32
    exact J17  _ _ _ _ h hP hS (lv_sub hl [0] rfl)
  · have h := h.2 c_32
    refine lv_iload_n hx hb dX7_desk_9 rfl (lv_at hl 1 rfl) ?_
    refine lv_aload_n hx hb dX7_desk_10 rfl (lv_at hl 0 rfl) ?_
    refine m_get (v := .int (S_16 0 16)) hx hb hts hown hK hP 16 (by decide) q1226 rfl rfl dX7_desk_11 ?_
    refine lv_icmp_le (tgt := 23) hx hb dX7_desk_14 (by decide) (fun c_31 => ?_) (fun c_31 => ?_)
    · have h := h.1 c_31
      refine lv_aload_n hx hb dX7_desk_23 rfl (lv_at hl 0 rfl) ?_
      refine lv_iload_n hx hb dX7_desk_24 rfl (lv_at hl 1 rfl) ?_
      obtain ⟨S_17, eS_17⟩ : ∃ z : St, z = bw S_16 0 17 p1 := ⟨_, rfl⟩
      have h := h S_17 eS_17
      refine m_put (S1 := S_17) (v := .int p1) (ty := .int) hx hb hts hown hK hP hS 17 (by decide) q1227 rfl rfl (tyX7_ok 17 (by decide)) rfl rfl (by rw [eS_17]; exact mset_17 b S_16 p1) (by rw [eS_17]; exact bw_0) dX7_desk_25 (fun H locs hP hS => ?_)
      refine lv_aload_n hx hb dX7_desk_28 rfl (lv_at hl 0 rfl) ?_
      refine lv_iconst (v := 0) hx hb dX7_desk_29 (by decide) ?_
      obtain ⟨S_18, eS_18⟩ : ∃ z : St, z = bw S_17 0 16 0 := ⟨_, rfl⟩
      have h := h S_18 eS_18
      refine m_put (S1 := S_18) (v := .int 0) (ty := .int) hx hb hts hown hK hP hS 16 (by decide) q1226 rfl rfl (tyX7_ok 16 (by decide)) rfl rfl (by rw [eS_18]; exact mset_16 b S_17 0) (by rw [eS_18]; exact bw_0) dX7_desk_30 (fun H locs hP hS => ?_)
      refine lv_aload_n hx hb dX7_desk_33 rfl (lv_at hl 0 rfl) ?_
      refine lv_iconst (v := 0) hx hb dX7_desk_34 (by decide) ?_
      obtain ⟨S_19, eS_19⟩ : ∃ z : St, z = bw S_18 0 18 0 := ⟨_, rfl⟩
      have h := h S_19 eS_19
      refine m_put (S1 := S_19) (v := .int 0) (ty := .int) hx hb hts hown hK hP hS 18 (by decide) q1228 rfl rfl (tyX7_ok 18 (by decide)) rfl rfl (by rw [eS_19]; exact mset_18 b S_18 0) (by rw [eS_19]; exact bw_0) dX7_desk_35 (fun H locs hP hS => ?_)
      refine lv_aload_n hx hb dX7_desk_38 rfl (lv_at hl 0 rfl) ?_
      refine lv_iconst (v := 0) hx hb dX7_desk_39 (by decide) ?_
      obtain ⟨S_20, eS_20⟩ : ∃ z : St, z = bw S_19 0 22 0 := ⟨_, rfl⟩
      have h := h S_20 eS_20
      refine m_put (S1 := S_20) (v := .int 0) (ty := .int) hx hb hts hown hK hP hS 22 (by decide) q1232 rfl rfl (tyX7_ok 22 (by decide)) rfl rfl (by rw [eS_20]; exact mset_22 b S_19 0) (by rw [eS_20]; exact bw_0) dX7_desk_40 (fun H locs hP hS => ?_)
      refine lv_aload_n hx hb dX7_desk_43 rfl (lv_at hl 0 rfl) ?_
      refine m_cVvS (As := []) (rest := []) ⟨hx, hb, hml, hown, hts⟩ (met_readAll l D cI cB b  ad z hz S_20 _ h) (cwV 0 hts (lw_V q1386 q1388 qs59 q128 q1389) rfl rfl rfl cwd_readAll ⟨Nat.le_of_ble_eq_true rfl, Nat.le_of_ble_eq_true rfl⟩) hV hz (Nat.le_of_lt hb0) hK hP hS rfl hl.1 rfl (Nat.le_of_ble_eq_true rfl) dX7_desk_44 ⟨Nat.zero_le _, Nat.zero_le _⟩ (fun S_22 H locs h hP hS => ?_)
      refine lv_aload_n hx hb dX7_desk_47 rfl (lv_at hl 0 rfl) ?_
      refine m_get (v := .int (S_22 0 22)) hx hb hts hown hK hP 22 (by decide) q1232 rfl rfl dX7_desk_48 ?_
      refine lv_if_le (tgt := 69) hx hb dX7_desk_51 (by decide) (fun c_30 => ?_) (fun c_30 => ?_)
      · have h := h.1 c_30
        refine lv_aload_n hx hb dX7_desk_69 rfl (lv_at hl 0 rfl) ?_
        refine lv_iconst (v := 1) hx hb dX7_desk_70 (by decide) ?_
        obtain ⟨S_23, eS_23⟩ : ∃ z : St, z = bw S_22 0 14 1 := ⟨_, rfl⟩
        have h := h S_23 eS_23
        refine m_put (S1 := S_23) (v := .int 1) (ty := .boolean) hx hb hts hown hK hP hS 14 (by decide) q1224 rfl rfl (tyX7_ok 14 (by decide)) rfl rfl (by rw [eS_23]; exact mset_14 b S_22 1) (by rw [eS_23]; exact bw_0) dX7_desk_71 (fun H locs hP hS => ?_)
        refine lv_aload_n hx hb dX7_desk_74 rfl (lv_at hl 0 rfl) ?_
        refine lv_aload_n hx hb dX7_desk_75 rfl (lv_at hl 0 rfl) ?_
        refine m_get (v := .int (S_23 0 9)) hx hb hts hown hK hP 9 (by decide) q1219 rfl rfl dX7_desk_76 ?_
        obtain ⟨S_24, eS_24⟩ : ∃ z : St, z = bw S_23 0 5 (S_23 0 9) := ⟨_, rfl⟩
        have h := h S_24 eS_24
        refine m_put (S1 := S_24) (v := .int (S_23 0 9)) (ty := .int) hx hb hts hown hK hP hS 5 (by decide) q1215 rfl rfl (tyX7_ok 5 (by decide)) rfl rfl (by rw [eS_24]; exact mset_5 b S_23 (S_23 0 9)) (by rw [eS_24]; exact bw_0) dX7_desk_79 (fun H locs hP hS => ?_)
        refine lv_aload_n hx hb dX7_desk_82 rfl (lv_at hl 0 rfl) ?_
        refine lv_aload_n hx hb dX7_desk_83 rfl (lv_at hl 0 rfl) ?_
        refine m_get (v := .int (S_24 0 10)) hx hb hts hown hK hP 10 (by decide) q1220 rfl rfl dX7_desk_84 ?_
        obtain ⟨S_25, eS_25⟩ : ∃ z : St, z = bw S_24 0 6 (S_24 0 10) := ⟨_, rfl⟩
        have h := h S_25 eS_25
        refine m_put (S1 := S_25) (v := .int (S_24 0 10)) (ty := .int) hx hb hts hown hK hP hS 6 (by decide) q1216 rfl rfl (tyX7_ok 6 (by decide)) rfl rfl (by rw [eS_25]; exact mset_6 b S_24 (S_24 0 10)) (by rw [eS_25]; exact bw_0) dX7_desk_87 (fun H locs hP hS => ?_)
        refine lv_aload_n hx hb dX7_desk_90 rfl (lv_at hl 0 rfl) ?_
        refine lv_aload_n hx hb dX7_desk_91 rfl (lv_at hl 0 rfl) ?_
        refine m_get (v := .int (S_25 0 11)) hx hb hts hown hK hP 11 (by decide) q1221 rfl rfl dX7_desk_92 ?_
        obtain ⟨S_26, eS_26⟩ : ∃ z : St, z = bw S_25 0 7 (S_25 0 11) := ⟨_, rfl⟩
        have h := h S_26 eS_26
        refine m_put (S1 := S_26) (v := .int (S_25 0 11)) (ty := .int) hx hb hts hown hK hP hS 7 (by decide) q1217 rfl rfl (tyX7_ok 7 (by decide)) rfl rfl (by rw [eS_26]; exact mset_7 b S_25 (S_25 0 11)) (by rw [eS_26]; exact bw_0) dX7_desk_95 (fun H locs hP hS => ?_)
        refine lv_aload_n hx hb dX7_desk_98 rfl (lv_at hl 0 rfl) ?_
        refine lv_aload_n hx hb dX7_desk_99 rfl (lv_at hl 0 rfl) ?_
        refine m_get (v := .int (S_26 0 12)) hx hb hts hown hK hP 12 (by decide) q1222 rfl rfl dX7_desk_100 ?_
        obtain ⟨S_27, eS_27⟩ : ∃ z : St, z = bw S_26 0 8 (S_26 0 12) := ⟨_, rfl⟩
        have h := h S_27 eS_27
        refine m_put (S1 := S_27) (v := .int (S_26 0 12)) (ty := .int) hx hb hts hown hK hP hS 8 (by decide) q1218 rfl rfl (tyX7_ok 8 (by decide)) rfl rfl (by rw [eS_27]; exact mset_8 b S_26 (S_26 0 12)) (by rw [eS_27]; exact bw_0) dX7_desk_103 (fun H locs hP hS => ?_)
        refine lv_iconst (v := 0) hx hb dX7_desk_106 (by decide) ?_
        refine lv_istore_n (lv' := [(2, .int 0), (0, .ref b), (1, .int p1)]) hx hb dX7_desk_107 rfl hl (by decide) rfl (fun ls hl => ?_)
        exact L108 _ _ _ _ _ h hP hS (lv_sub hl [1, 0] rfl)
      · have h := h.2 c_30
        refine lv_aload_n hx hb dX7_desk_54 rfl (lv_at hl 0 rfl) ?_
        refine lv_iconst (v := 4) hx hb dX7_desk_55 (by decide) ?_
        obtain ⟨S_28, eS_28⟩ : ∃ z : St, z = bw S_22 0 1 4 := ⟨_, rfl⟩
        have h := h S_28 eS_28
        refine m_put (S1 := S_28) (v := .int 4) (ty := .int) hx hb hts hown hK hP hS 1 (by decide) q1211 rfl rfl (tyX7_ok 1 (by decide)) rfl rfl (by rw [eS_28]; exact mset_1 b S_22 4) (by rw [eS_28]; exact bw_0) dX7_desk_56 (fun H locs hP hS => ?_)
        refine lv_aload_n hx hb dX7_desk_59 rfl (lv_at hl 0 rfl) ?_
        refine lv_aload_n hx hb dX7_desk_60 rfl (lv_at hl 0 rfl) ?_
        refine m_get (v := .int (S_28 0 20)) hx hb hts hown hK hP 20 (by decide) q1230 rfl rfl dX7_desk_61 ?_
        obtain ⟨S_29, eS_29⟩ : ∃ z : St, z = bw S_28 0 2 (S_28 0 20) := ⟨_, rfl⟩
        have h := h S_29 eS_29
        refine m_put (S1 := S_29) (v := .int (S_28 0 20)) (ty := .int) hx hb hts hown hK hP hS 2 (by decide) q1212 rfl rfl (tyX7_ok 2 (by decide)) rfl rfl (by rw [eS_29]; exact mset_2 b S_28 (S_28 0 20)) (by rw [eS_29]; exact bw_0) dX7_desk_64 (fun H locs hP hS => ?_)
        refine lv_iconst (v := (-1)) hx hb dX7_desk_67 (by decide) ?_
        exact W.iret (v := (-1)) hx hb hr (fun t ht hW => ⟨⟨(-1), S_29, rfl, h, by rw [ht]; exact hP, va_K.moved hW.alike hK⟩, hS.F ht⟩) hS.2.2 dX7_desk_68
    · have h := h.2 c_31
      exact J17  _ _ _ _ h hP hS (lv_sub hl [0] rfl)
