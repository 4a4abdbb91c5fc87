set_option maxRecDepth 100000
def wp_sum_b4 (p1 : Int32) (p2 : Int32) (post : Int32 → Prop) (R4 : Int32 → Int32 → Prop)  (x2 : Int32) (x3 : Int32) (S : St) : Prop :=
      ((3 ≤ x3 →
        post x2) ∧
       (¬ (3 ≤ x3) →
        wp_exponent p1 x3 S (fun r_1 =>
        wp_exponent p2 x3 S (fun r_3 =>
        ∀ x4_5 : Int32, x4_5 = (r_1 + r_3) →
        ((x4_5 ≤ 15 →
          ∀ x2_6 : Int32, x2_6 = (x2 ||| (jshl x4_5 (4 * x3))) →
          ∀ x3_7 : Int32, x3_7 = x3 + 1 →
          R4 x2_6 x3_7) ∧
         (¬ (x4_5 ≤ 15) →
          post (-1)))))))
def wp_sum_l4 (p1 : Int32) (p2 : Int32) (post : Int32 → Prop)  (x2 : Int32) (x3 : Int32) (S : St) : Prop := wLoop (fun (R : (Int32 × Int32) → Prop) (v : Int32 × Int32) => wp_sum_b4 p1 p2 post (fun x2 x3 => R (x2, x3))  v.1 v.2 S) (x2, x3)
def wp_sum (p1 : Int32) (p2 : Int32) (S : St) (post : Int32 → Prop) : Prop :=
  wp_sum_l4 p1 p2 post 0 0 S
set_option maxHeartbeats 4000000 in
theorem met_sum (l : Launch) (D : va_G) (cI cB : ClassId) (b : Nat) (p1 : Int32) (p2 : Int32)  (S : St) (post : Int32 → Prop) (h : wp_sum p1 p2 S post) : Met l yX7_sum (ws_ yX7_sum cX7_sum 5 (some .int)) ({ frames := 1, cells := 0, slots := 0, locals := 21 } : Room) (mPc D cI cB b [.int p1, .int p2] S) (mQp D cI cB b S post) 0 0 (mA b) := by
  refine Met.ofW (cc := cX7_sum) (maxL := 5) (ret := (some .int)) (by decide) rfl ?_
  intro p e s m args below meth c s₁ B hml hv
  obtain ⟨rfl, hP, hK⟩ := hv
  have hx := B.exec
  have hb := B.bytes
  have hr := B.returns
  have hts := atoms_spec (ws := ws_ yX7_sum cX7_sum 5 (some .int)) B.pre
  have hts : ∀ w ∈ lw_all, w.before _ s = true := fun w h => hts w (List.mem_cons_of_mem _ h)
  have hown : s.vm.findClass RX7 = some m.cls := findClass_of_methodNamed B.named
  have hlocks := B.notSynchronized
  have hS : va_S (mA b) s.heap s.heap [] := va_S.rf
  have hl := lv_entry ([.int p1, .int p2]) (n := 5) (Nat.le_of_ble_eq_true rfl)
  rw [lg_entry_eq]
  generalize (lg_sl ([.int p1, .int p2]) ++ List.replicate (5 - (lg_sl ([.int p1, .int p2])).length) Slot.unset).toArray = ls at hl ⊢
  have hl : lv_has ls 5 [(0, .int p1), (1, .int p2)] := hl
  have L4 : ∀  (x2 : Int32) (x3 : Int32) (H : Heap) (locs : List Loc) (ls : Array Slot), wp_sum_l4 p1 p2 post  x2 x3 S → mW D cI cB b S H → va_S (mA b) s.heap H locs → lv_has ls 5 [(0, .int p1), (1, .int p2), (2, .int x2), (3, .int x3)] → W p l e (headSpec (ws_ yX7_sum cX7_sum 5 (some .int)) ({ frames := 1, cells := 0, slots := 0, locals := 21 } : Room)).room s m ([.int p1, .int p2] : List Value).toArray below meth c H locs 0 0 (MQ below (mQp D cI cB b S post) ([.int p1, .int p2] : List Value).toArray s 0 0 (mA b)) (F0 m 4 ls []) := by
    intro  x2 x3  H locs ls h hP hS hl
    obtain ⟨I4, n4, hI, hstep4⟩ := h
    induction n4 using Nat.strongRecOn generalizing x2 x3 H locs ls with
    | ind n4 ih4 =>
      have h : wp_sum_b4 p1 p2 post (fun x2 x3 => ∃ mm, mm < n4 ∧ I4 mm (x2, x3))  x2 x3 S := hstep4 n4 _ hI
      clear hI
      unfold wp_sum_b4 at h
      refine lv_iload_n hx hb dX7_sum_4 rfl (lv_at hl 3 rfl) ?_
      refine lv_iconst (v := 3) hx hb dX7_sum_5 (by decide) ?_
      refine lv_icmp_ge (tgt := 46) hx hb dX7_sum_6 (by decide) (fun c_9 => ?_) (fun c_9 => ?_)
      · have h := h.1 c_9
        refine lv_iload_n hx hb dX7_sum_46 rfl (lv_at hl 2 rfl) ?_
        exact W.iret (v := x2) hx hb hr (fun t ht hW => ⟨⟨x2, (), rfl, h, by rw [ht]; exact hP, va_K.moved hW.alike hK⟩, hS.F ht⟩) hS.2.2 dX7_sum_47
      · have h := h.2 c_9
        refine lv_iload_n hx hb dX7_sum_9 rfl (lv_at hl 0 rfl) ?_
        refine lv_iload_n hx hb dX7_sum_10 rfl (lv_at hl 3 rfl) ?_
        refine m_cSp (As := [.int p1, .int x3]) (rest := []) ⟨hx, hb, hml, hown, hts⟩ (met_exponent l D cI cB b p1 x3  S _ h) (va_cwS 2 hts (lw_S q1545 q1546 q128 q1547) rfl rfl rfl cwd_exponent ⟨Nat.le_of_ble_eq_true rfl, Nat.le_of_ble_eq_true rfl⟩) hK hP hS rfl hl.1 rfl (Nat.le_of_ble_eq_true rfl) dX7_sum_11 ⟨Nat.zero_le _, Nat.zero_le _⟩ (fun r_1 H locs h hP hS => ?_)
        refine lv_iload_n hx hb dX7_sum_14 rfl (lv_at hl 1 rfl) ?_
        refine lv_iload_n hx hb dX7_sum_15 rfl (lv_at hl 3 rfl) ?_
        refine m_cSp (As := [.int p2, .int x3]) (rest := [.int r_1]) ⟨hx, hb, hml, hown, hts⟩ (met_exponent l D cI cB b p2 x3  S _ h) (va_cwS 2 hts (lw_S q1545 q1546 q128 q1547) rfl rfl rfl cwd_exponent ⟨Nat.le_of_ble_eq_true rfl, Nat.le_of_ble_eq_true rfl⟩) hK hP hS rfl hl.1 rfl (Nat.le_of_ble_eq_true rfl) dX7_sum_16 ⟨Nat.zero_le _, Nat.zero_le _⟩ (fun r_3 H locs h hP hS => ?_)
        refine lv_iadd hx hb dX7_sum_19 ?_
        refine lv_topi (fun x4_5 ex4_5 => ?_)
        have h := h x4_5 ex4_5
        refine lv_istore (lv' := [(4, .int x4_5), (0, .int p1), (1, .int p2), (2, .int x2), (3, .int x3)]) hx hb dX7_sum_20 hl (by decide) rfl (fun ls hl => ?_)
        refine lv_iload hx hb dX7_sum_22 (lv_at hl 0 rfl) ?_
        refine lv_bipush (v := 15) hx hb dX7_sum_24 (by decide) ?_
        refine lv_icmp_le (tgt := 31) hx hb dX7_sum_26 (by decide) (fun c_8 => ?_) (fun c_8 => ?_)
        · have h := h.1 c_8
          refine lv_iload_n hx hb dX7_sum_31 rfl (lv_at hl 3 rfl) ?_
          refine lv_iload hx hb dX7_sum_32 (lv_at hl 0 rfl) ?_
          refine lv_iconst (v := 4) hx hb dX7_sum_34 (by decide) ?_
          refine lv_iload_n hx hb dX7_sum_35 rfl (lv_at hl 4 rfl) ?_
          refine lv_imul hx hb dX7_sum_36 ?_
          refine m_ishl hx hb dX7_sum_37 ?_
          refine lv_ior hx hb dX7_sum_38 ?_
          refine lv_topi (fun x2_6 ex2_6 => ?_)
          have h := h x2_6 ex2_6
          refine lv_istore_n (lv' := [(2, .int x2_6), (4, .int x4_5), (0, .int p1), (1, .int p2), (3, .int x3)]) hx hb dX7_sum_39 rfl hl (by decide) rfl (fun ls hl => ?_)
          obtain ⟨x3_7, ex3_7⟩ : ∃ y : Int32, y = x3 + 1 := ⟨_, rfl⟩
          have h := h x3_7 ex3_7
          refine lv_iinc (v := x3_7) (lv' := [(3, .int x3_7), (2, .int x2_6), (4, .int x4_5), (0, .int p1), (1, .int p2)]) hx hb dX7_sum_40 hl (k := 4) rfl (by rw [ex3_7]; rfl) (by decide) rfl (fun ls hl => ?_)
          refine lv_goto (tgt := 4) hx hb dX7_sum_43 (by decide) ?_
          obtain ⟨mm, hmm, h⟩ := h
          exact ih4 mm hmm _ _ _ _ _ hP hS (lv_sub hl [3, 4, 1, 0] rfl) h
        · have h := h.2 c_8
          refine lv_iconst (v := (-1)) hx hb dX7_sum_29 (by decide) ?_
          exact W.iret (v := (-1)) hx hb hr (fun t ht hW => ⟨⟨(-1), (), rfl, h, by rw [ht]; exact hP, va_K.moved hW.alike hK⟩, hS.F ht⟩) hS.2.2 dX7_sum_30
  unfold wp_sum at h
  refine lv_iconst (v := 0) hx hb dX7_sum_0 (by decide) ?_
  refine lv_istore_n (lv' := [(2, .int 0), (0, .int p1), (1, .int p2)]) hx hb dX7_sum_1 rfl hl (by decide) rfl (fun ls hl => ?_)
  refine lv_iconst (v := 0) hx hb dX7_sum_2 (by decide) ?_
  refine lv_istore_n (lv' := [(3, .int 0), (2, .int 0), (0, .int p1), (1, .int p2)]) hx hb dX7_sum_3 rfl hl (by decide) rfl (fun ls hl => ?_)
  exact L4 _ _  _ _ _ h hP hS (lv_sub hl [2, 3, 1, 0] rfl)
def wp_goesOn_j270 (p1 : Int32) (p2 : Int32) (post : Int32 → St → Prop)  (S : St) : Prop :=
    ((60 < (S 0 36) →
      post 0 S) ∧
     (¬ (60 < (S 0 36)) →
      ∃ j_1 : Nat, j_1 < 8 ∧ p2 = nI j_1 ∧
      ((60 < (S 10 j_1) →
        post 0 S) ∧
       (¬ (60 < (S 10 j_1)) →
        post 1 S))))
def wp_goesOn_j245 (p1 : Int32) (p2 : Int32) (post : Int32 → St → Prop) (R125 : Int32 → St → Prop) (x3 : Int32) (x4 : Int32) (x5 : Int32) (S : St) : Prop :=
        ∀ x5_4 : Int32, x5_4 = x5 + 1 →
        R125 x5_4 S
def wp_goesOn_j187 (p1 : Int32) (p2 : Int32) (post : Int32 → St → Prop) (R125 : Int32 → St → Prop) (x3 : Int32) (x4 : Int32) (x5 : Int32) (x6 : Int32) (S : St) : Prop :=
        ∃ j_5 : Nat, j_5 < 4096 ∧ x6 = nI j_5 ∧
        wp_coef p2 x5 S (fun r_6 =>
        ¬ (S 0 5) = 0 ∧
        ∃ j_8 : Nat, j_8 < 4096 ∧ x6 = nI j_8 ∧ ∀ S_9 : St, S_9 = bw S 7 j_8 (jrem ((S 7 j_5) + (((S 0 5) - x3) * r_6)) (S 0 5)) →
        ∃ j_10 : Nat, j_10 < 4096 ∧ x6 = nI j_10 ∧
        (((S_9 7 j_10) = 0 →
          ∀ S_11 : St, S_11 = bw S_9 0 36 ((S_9 0 36) + 0) →
          wp_goesOn_j245 p1 p2 post R125 x3 x4 x5 S_11) ∧
         (¬ ((S_9 7 j_10) = 0) →
          ∀ S_12 : St, S_12 = bw S_9 0 36 ((S_9 0 36) + 1) →
          wp_goesOn_j245 p1 p2 post R125 x3 x4 x5 S_12)))
def wp_goesOn_b125 (p1 : Int32) (p2 : Int32) (post : Int32 → St → Prop) (R125 : Int32 → St → Prop) (x3 : Int32) (x4 : Int32) (x5 : Int32) (S : St) : Prop :=
      ((4096 ≤ x5 →
        (((S 0 36) ≤ (S 0 39) →
          wp_goesOn_j270 p1 p2 post  S) ∧
         (¬ ((S 0 36) ≤ (S 0 39)) →
          ∀ S_14 : St, S_14 = bw S 0 39 (S 0 36) →
          wp_goesOn_j270 p1 p2 post  S_14))) ∧
       (¬ (4096 ≤ x5) →
        wp_coef p2 x5 S (fun r_16 =>
        ((¬ r_16 = 0 →
          wp_sum x5 x4 S (fun r_18 =>
          ((¬ r_18 = (-1) →
            ∃ j_20 : Nat, j_20 < 4096 ∧ r_18 = nI j_20 ∧
            (((S 7 j_20) = 0 →
              ∀ S_21 : St, S_21 = bw S 0 36 ((S 0 36) - 0) →
              wp_goesOn_j187 p1 p2 post R125 x3 x4 x5 r_18 S_21) ∧
             (¬ ((S 7 j_20) = 0) →
              ∀ S_22 : St, S_22 = bw S 0 36 ((S 0 36) - 1) →
              wp_goesOn_j187 p1 p2 post R125 x3 x4 x5 r_18 S_22))) ∧
           (r_18 = (-1) →
            post 0 S)))) ∧
         (r_16 = 0 →
          wp_goesOn_j245 p1 p2 post R125 x3 x4 x5 S)))))
def wp_goesOn_l125 (p1 : Int32) (p2 : Int32) (post : Int32 → St → Prop) (x3 : Int32) (x4 : Int32) (x5 : Int32) (S : St) : Prop := wLoop (fun (R : (Int32 × St) → Prop) (v : Int32 × St) => wp_goesOn_b125 p1 p2 post (fun x5 S => R (x5, S)) x3 x4 v.1 v.2) (x5, S)
def wp_goesOn (p1 : Int32) (p2 : Int32) (S : St) (post : Int32 → St → Prop) : Prop :=
  ∀ S_27 : St, S_27 = bw S 0 38 ((S 0 38) + 1) →
  ((¬ p2 = (-1) →
    ∃ j_28 : Nat, j_28 < 4096 ∧ p1 = nI j_28 ∧
    ∃ j_29 : Nat, j_29 < 8 ∧ p2 = nI j_29 ∧
    ¬ (S_27 0 5) = 0 ∧
    ∀ x3_30 : Int32, x3_30 = (jrem ((S_27 7 j_28) * (S_27 12 j_29)) (S_27 0 5)) →
    ∃ j_31 : Nat, j_31 < 8 ∧ p2 = nI j_31 ∧
    ∀ x4_32 : Int32, x4_32 = (p1 - (S_27 11 j_31)) →
    ∃ j_33 : Nat, j_33 < 32768 ∧ ((4096 * p2) + x4_32) = nI j_33 ∧ ∀ S_34 : St, S_34 = bw S_27 9 j_33 x3_30 →
    ∃ j_35 : Nat, j_35 < 8 ∧ p2 = nI j_35 ∧
    ∃ j_36 : Nat, j_36 < 8 ∧ p2 = nI j_36 ∧ ∀ S_37 : St, S_37 = bw S_34 10 j_36 ((S_34 10 j_35) + 1) →
    wp_goesOn_l125 p1 p2 post x3_30 x4_32 0 S_37) ∧
   (p2 = (-1) →
    ∃ j_38 : Nat, j_38 < 4096 ∧ p1 = nI j_38 ∧
    ∃ j_39 : Nat, j_39 < 4096 ∧ p1 = nI j_39 ∧ ∀ S_40 : St, S_40 = bw S_27 8 j_39 (S_27 7 j_38) →
    ∃ j_41 : Nat, j_41 < 4096 ∧ p1 = nI j_41 ∧ ∀ S_42 : St, S_42 = bw S_40 7 j_41 0 →
    ∀ S_43 : St, S_43 = bw S_42 0 36 ((S_42 0 36) - 1) →
    ∀ S_44 : St, S_44 = bw S_43 0 37 ((S_43 0 37) + 1) →
    ((60 < (S_44 0 37) →
      post 0 S_44) ∧
     (¬ (60 < (S_44 0 37)) →
      post 1 S_44))))
set_option maxHeartbeats 4000000 in
theorem met_goesOn (l : Launch) (D : va_G) (cI cB : ClassId) (b : Nat) (p1 : Int32) (p2 : Int32)  (S : St) (post : Int32 → St → Prop) (h : wp_goesOn p1 p2 S post) : Met l yX7_goesOn (ws_ yX7_goesOn cX7_goesOn 7 (some .boolean)) ({ frames := 2, cells := 0, slots := 0, locals := 45 } : Room) (mPc D cI cB b [.ref b, .int p1, .int p2] S) (mQi D cI cB b post) 0 0 (mA b) := by
  refine Met.ofW (cc := cX7_goesOn) (maxL := 7) (ret := (some .boolean)) (by decide) rfl ?_
  intro p e s m args below meth c s₁ B hml hv
  obtain ⟨rfl, hP, hK⟩ := hv
  have hx := B.exec
  have hb := B.bytes
  have hr := B.returns
  have hts := atoms_spec (ws := ws_ yX7_goesOn cX7_goesOn 7 (some .boolean)) B.pre
  have hts : ∀ w ∈ lw_all, w.before _ s = true := fun w h => hts w (List.mem_cons_of_mem _ h)
  have hown : s.vm.findClass RX7 = some m.cls := findClass_of_methodNamed B.named
  have hlocks := B.notSynchronized
  have hS : va_S (mA b) s.heap s.heap [] := va_S.rf
  have hl := lv_entry ([.ref b, .int p1, .int p2]) (n := 7) (Nat.le_of_ble_eq_true rfl)
  rw [lg_entry_eq]
  generalize (lg_sl ([.ref b, .int p1, .int p2]) ++ List.replicate (7 - (lg_sl ([.ref b, .int p1, .int p2])).length) Slot.unset).toArray = ls at hl ⊢
  have hl : lv_has ls 7 [(0, .ref b), (1, .int p1), (2, .int p2)] := hl
  have J270 : ∀  (S : St) (H : Heap) (locs : List Loc) (ls : Array Slot), wp_goesOn_j270 p1 p2 post  S → mW D cI cB b S H → va_S (mA b) s.heap H locs → lv_has ls 7 [(0, .ref b), (2, .int p2)] → W p l e (headSpec (ws_ yX7_goesOn cX7_goesOn 7 (some .boolean)) ({ frames := 2, cells := 0, slots := 0, locals := 45 } : Room)).room s m ([.ref b, .int p1, .int p2] : List Value).toArray below meth c H locs 0 0 (MQ below (mQi D cI cB b post) ([.ref b, .int p1, .int p2] : List Value).toArray s 0 0 (mA b)) (F0 m 270 ls []) := by
    intro  S H locs ls h hP hS hl
    unfold wp_goesOn_j270 at h
    refine lv_aload_n hx hb dX7_goesOn_270 rfl (lv_at hl 0 rfl) ?_
    refine m_get (v := .int (S 0 36)) hx hb hts hown hK hP 36 (by decide) q1246 rfl rfl dX7_goesOn_271 ?_
    refine lv_bipush (v := 60) hx hb dX7_goesOn_274 (by decide) ?_
    refine lv_icmp_gt (tgt := 294) hx hb dX7_goesOn_276 (by decide) (fun c_3 => ?_) (fun c_3 => ?_)
    · have h := h.1 c_3
      refine lv_iconst (v := 0) hx hb dX7_goesOn_294 (by decide) ?_
      exact W.zret (v := 0) hx hb hr rfl (fun t ht hW => ⟨⟨0, S, rfl, h, by rw [ht]; exact hP, va_K.moved hW.alike hK⟩, hS.F ht⟩) hS.2.2 dX7_goesOn_295
    · have h := h.2 c_3
      refine lv_aload_n hx hb dX7_goesOn_279 rfl (lv_at hl 0 rfl) ?_
      refine m_get (v := .ref (b + 10)) hx hb hts hown hK hP 33 (by decide) q1243 rfl rfl dX7_goesOn_280 ?_
      refine lv_iload_n hx hb dX7_goesOn_283 rfl (lv_at hl 1 rfl) ?_
      obtain ⟨j_1, hj_1, ej_1, h⟩ := h
      refine m_iald hx hb hK hP (k := 10) mok_10 ej_1 hj_1 dX7_goesOn_284 ?_
      refine lv_bipush (v := 60) hx hb dX7_goesOn_285 (by decide) ?_
      refine lv_icmp_gt (tgt := 294) hx hb dX7_goesOn_287 (by decide) (fun c_2 => ?_) (fun c_2 => ?_)
      · have h := h.1 c_2
        refine lv_iconst (v := 0) hx hb dX7_goesOn_294 (by decide) ?_
        exact W.zret (v := 0) hx hb hr rfl (fun t ht hW => ⟨⟨0, S, rfl, h, by rw [ht]; exact hP, va_K.moved hW.alike hK⟩, hS.F ht⟩) hS.2.2 dX7_goesOn_295
      · have h := h.2 c_2
        refine lv_iconst (v := 1) hx hb dX7_goesOn_290 (by decide) ?_
        refine lv_goto (tgt := 295) hx hb dX7_goesOn_291 (by decide) ?_
        exact W.zret (v := 1) hx hb hr rfl (fun t ht hW => ⟨⟨1, S, rfl, h, by rw [ht]; exact hP, va_K.moved hW.alike hK⟩, hS.F ht⟩) hS.2.2 dX7_goesOn_295
  have L125 : ∀ (x3 : Int32) (x4 : Int32) (x5 : Int32) (S : St) (H : Heap) (locs : List Loc) (ls : Array Slot), wp_goesOn_l125 p1 p2 post x3 x4 x5 S → mW D cI cB b S H → va_S (mA b) s.heap H locs → lv_has ls 7 [(0, .ref b), (2, .int p2), (3, .int x3), (4, .int x4), (5, .int x5)] → W p l e (headSpec (ws_ yX7_goesOn cX7_goesOn 7 (some .boolean)) ({ frames := 2, cells := 0, slots := 0, locals := 45 } : Room)).room s m ([.ref b, .int p1, .int p2] : List Value).toArray below meth c H locs 0 0 (MQ below (mQi D cI cB b post) ([.ref b, .int p1, .int p2] : List Value).toArray s 0 0 (mA b)) (F0 m 125 ls []) := by
    intro x3 x4 x5 S H locs ls h hP hS hl
    obtain ⟨I125, n125, hI, hstep125⟩ := h
    induction n125 using Nat.strongRecOn generalizing x5 S H locs ls with
    | ind n125 ih125 =>
      have h : wp_goesOn_b125 p1 p2 post (fun x5 S => ∃ mm, mm < n125 ∧ I125 mm (x5, S)) x3 x4 x5 S := hstep125 n125 _ hI
      clear hI
      have J245 : ∀ (x5 : Int32) (S : St) (H : Heap) (locs : List Loc) (ls : Array Slot), wp_goesOn_j245 p1 p2 post (fun x5 S => ∃ mm, mm < n125 ∧ I125 mm (x5, S)) x3 x4 x5 S → mW D cI cB b S H → va_S (mA b) s.heap H locs → lv_has ls 7 [(0, .ref b), (2, .int p2), (3, .int x3), (4, .int x4), (5, .int x5)] → W p l e (headSpec (ws_ yX7_goesOn cX7_goesOn 7 (some .boolean)) ({ frames := 2, cells := 0, slots := 0, locals := 45 } : Room)).room s m ([.ref b, .int p1, .int p2] : List Value).toArray below meth c H locs 0 0 (MQ below (mQi D cI cB b post) ([.ref b, .int p1, .int p2] : List Value).toArray s 0 0 (mA b)) (F0 m 245 ls []) := by
        intro x5 S H locs ls h hP hS hl
        unfold wp_goesOn_j245 at h
        obtain ⟨x5_4, ex5_4⟩ : ∃ y : Int32, y = x5 + 1 := ⟨_, rfl⟩
        have h := h x5_4 ex5_4
        refine lv_iinc (v := x5_4) (lv' := [(5, .int x5_4), (0, .ref b), (2, .int p2), (3, .int x3), (4, .int x4)]) hx hb dX7_goesOn_245 hl (k := 4) rfl (by rw [ex5_4]; rfl) (by decide) rfl (fun ls hl => ?_)
        refine lv_goto (tgt := 125) hx hb dX7_goesOn_248 (by decide) ?_
        obtain ⟨mm, hmm, h⟩ := h
        exact ih125 mm hmm _ _ _ _ _ hP hS (lv_sub hl [1, 2, 3, 4, 0] rfl) h
      have J187 : ∀ (x5 : Int32) (x6 : Int32) (S : St) (H : Heap) (locs : List Loc) (ls : Array Slot), wp_goesOn_j187 p1 p2 post (fun x5 S => ∃ mm, mm < n125 ∧ I125 mm (x5, S)) x3 x4 x5 x6 S → mW D cI cB b S H → va_S (mA b) s.heap H locs → lv_has ls 7 [(0, .ref b), (2, .int p2), (3, .int x3), (4, .int x4), (5, .int x5), (6, .int x6)] → W p l e (headSpec (ws_ yX7_goesOn cX7_goesOn 7 (some .boolean)) ({ frames := 2, cells := 0, slots := 0, locals := 45 } : Room)).room s m ([.ref b, .int p1, .int p2] : List Value).toArray below meth c H locs 0 0 (MQ below (mQi D cI cB b post) ([.ref b, .int p1, .int p2] : List Value).toArray s 0 0 (mA b)) (F0 m 187 ls []) := by
        intro x5 x6 S H locs ls h hP hS hl
        unfold wp_goesOn_j187 at h
        refine lv_aload_n hx hb dX7_goesOn_187 rfl (lv_at hl 0 rfl) ?_
        refine m_get (v := .ref (b + 7)) hx hb hts hown hK hP 30 (by decide) q1240 rfl rfl dX7_goesOn_188 ?_
        refine lv_iload hx hb dX7_goesOn_191 (lv_at hl 5 rfl) ?_
        refine lv_aload_n hx hb dX7_goesOn_193 rfl (lv_at hl 0 rfl) ?_
        refine m_get (v := .ref (b + 7)) hx hb hts hown hK hP 30 (by decide) q1240 rfl rfl dX7_goesOn_194 ?_
        refine lv_iload hx hb dX7_goesOn_197 (lv_at hl 5 rfl) ?_
        obtain ⟨j_5, hj_5, ej_5, h⟩ := h
        refine m_iald hx hb hK hP (k := 7) mok_7 ej_5 hj_5 dX7_goesOn_199 ?_
        refine lv_aload_n hx hb dX7_goesOn_200 rfl (lv_at hl 0 rfl) ?_
        refine m_get (v := .int (S 0 5)) hx hb hts hown hK hP 5 (by decide) q1215 rfl rfl dX7_goesOn_201 ?_
        refine lv_iload_n hx hb dX7_goesOn_204 rfl (lv_at hl 2 rfl) ?_
        refine lv_isub hx hb dX7_goesOn_205 ?_
        refine lv_aload_n hx hb dX7_goesOn_206 rfl (lv_at hl 0 rfl) ?_
        refine lv_iload_n hx hb dX7_goesOn_207 rfl (lv_at hl 1 rfl) ?_
        refine lv_iload hx hb dX7_goesOn_208 (lv_at hl 4 rfl) ?_
        refine m_cVp (As := [.int p2, .int x5]) (rest := [.int ((S 0 5) - x3), .int (S 7 j_5), .int x6, .ref (b + 7)]) ⟨hx, hb, hml, hown, hts⟩ (met_coef l D cI cB b p2 x5  S _ h) (cwV 2 hts (lw_V q1526 q1528 qs80 q128 q1529) rfl rfl rfl cwd_coef ⟨Nat.le_of_ble_eq_true rfl, Nat.le_of_ble_eq_true rfl⟩) hK hP hS rfl hl.1 rfl (Nat.le_of_ble_eq_true rfl) dX7_goesOn_210 ⟨Nat.zero_le _, Nat.zero_le _⟩ (fun r_6 H locs h hP hS => ?_)
        refine lv_imul hx hb dX7_goesOn_213 ?_
        refine lv_iadd hx hb dX7_goesOn_214 ?_
        refine lv_aload_n hx hb dX7_goesOn_215 rfl (lv_at hl 0 rfl) ?_
        refine m_get (v := .int (S 0 5)) hx hb hts hown hK hP 5 (by decide) q1215 rfl rfl dX7_goesOn_216 ?_
        obtain ⟨hne, h⟩ := h
        refine m_irem hx hb dX7_goesOn_219 hne ?_
        obtain ⟨j_8, hj_8, ej_8, h⟩ := h
        obtain ⟨S_9, eS_9⟩ : ∃ z : St, z = bw S 7 j_8 (jrem ((S 7 j_5) + (((S 0 5) - x3) * r_6)) (S 0 5)) := ⟨_, rfl⟩
        have h := h S_9 eS_9
        refine m_iast hx hb hK hP hS (k := 7) mok_7 ej_8 hj_8 dX7_goesOn_220 (fun H locs hP hS => ?_)
        rw [← eS_9] at hP
        refine lv_aload_n hx hb dX7_goesOn_221 rfl (lv_at hl 0 rfl) ?_
        refine lv_dup hx hb dX7_goesOn_222 rfl ?_
        refine m_get (v := .int (S_9 0 36)) hx hb hts hown hK hP 36 (by decide) q1246 rfl rfl dX7_goesOn_223 ?_
        refine lv_aload_n hx hb dX7_goesOn_226 rfl (lv_at hl 0 rfl) ?_
        refine m_get (v := .ref (b + 7)) hx hb hts hown hK hP 30 (by decide) q1240 rfl rfl dX7_goesOn_227 ?_
        refine lv_iload hx hb dX7_goesOn_230 (lv_at hl 5 rfl) ?_
        obtain ⟨j_10, hj_10, ej_10, h⟩ := h
        refine m_iald hx hb hK hP (k := 7) mok_7 ej_10 hj_10 dX7_goesOn_232 ?_
        refine lv_if_eq (tgt := 240) hx hb dX7_goesOn_233 (by decide) (fun c_13 => ?_) (fun c_13 => ?_)
        · have h := h.1 c_13
          refine lv_iconst (v := 0) hx hb dX7_goesOn_240 (by decide) ?_
          refine lv_iadd hx hb dX7_goesOn_241 ?_
          obtain ⟨S_11, eS_11⟩ : ∃ z : St, z = bw S_9 0 36 ((S_9 0 36) + 0) := ⟨_, rfl⟩
          have h := h S_11 eS_11
          refine m_put (S1 := S_11) (v := .int ((S_9 0 36) + 0)) (ty := .int) hx hb hts hown hK hP hS 36 (by decide) q1246 rfl rfl (tyX7_ok 36 (by decide)) rfl rfl (by rw [eS_11]; exact mset_36 b S_9 ((S_9 0 36) + 0)) (by rw [eS_11]; exact bw_0) dX7_goesOn_242 (fun H locs hP hS => ?_)
          exact J245 _ _ _ _ _ h hP hS (lv_sub hl [0, 1, 2, 3, 4] rfl)
        · have h := h.2 c_13
          refine lv_iconst (v := 1) hx hb dX7_goesOn_236 (by decide) ?_
          refine lv_goto (tgt := 241) hx hb dX7_goesOn_237 (by decide) ?_
          refine lv_iadd hx hb dX7_goesOn_241 ?_
          obtain ⟨S_12, eS_12⟩ : ∃ z : St, z = bw S_9 0 36 ((S_9 0 36) + 1) := ⟨_, rfl⟩
          have h := h S_12 eS_12
          refine m_put (S1 := S_12) (v := .int ((S_9 0 36) + 1)) (ty := .int) hx hb hts hown hK hP hS 36 (by decide) q1246 rfl rfl (tyX7_ok 36 (by decide)) rfl rfl (by rw [eS_12]; exact mset_36 b S_9 ((S_9 0 36) + 1)) (by rw [eS_12]; exact bw_0) dX7_goesOn_242 (fun H locs hP hS => ?_)
          exact J245 _ _ _ _ _ h hP hS (lv_sub hl [0, 1, 2, 3, 4] rfl)
      unfold wp_goesOn_b125 at h
      refine lv_iload hx hb dX7_goesOn_125 (lv_at hl 4 rfl) ?_
      refine lv_sipush (v := 4096) hx hb dX7_goesOn_127 (by decide) ?_
      refine lv_icmp_ge (tgt := 251) hx hb dX7_goesOn_130 (by decide) (fun c_26 => ?_) (fun c_26 => ?_)
      · have h := h.1 c_26
        refine lv_aload_n hx hb dX7_goesOn_251 rfl (lv_at hl 0 rfl) ?_
        refine m_get (v := .int (S 0 36)) hx hb hts hown hK hP 36 (by decide) q1246 rfl rfl dX7_goesOn_252 ?_
        refine lv_aload_n hx hb dX7_goesOn_255 rfl (lv_at hl 0 rfl) ?_
        refine m_get (v := .int (S 0 39)) hx hb hts hown hK hP 39 (by decide) q1249 rfl rfl dX7_goesOn_256 ?_
        refine lv_icmp_le (tgt := 270) hx hb dX7_goesOn_259 (by decide) (fun c_15 => ?_) (fun c_15 => ?_)
        · have h := h.1 c_15
          exact J270  _ _ _ _ h hP hS (lv_sub hl [0, 1] rfl)
        · have h := h.2 c_15
          refine lv_aload_n hx hb dX7_goesOn_262 rfl (lv_at hl 0 rfl) ?_
          refine lv_aload_n hx hb dX7_goesOn_263 rfl (lv_at hl 0 rfl) ?_
          refine m_get (v := .int (S 0 36)) hx hb hts hown hK hP 36 (by decide) q1246 rfl rfl dX7_goesOn_264 ?_
          obtain ⟨S_14, eS_14⟩ : ∃ z : St, z = bw S 0 39 (S 0 36) := ⟨_, rfl⟩
          have h := h S_14 eS_14
          refine m_put (S1 := S_14) (v := .int (S 0 36)) (ty := .int) hx hb hts hown hK hP hS 39 (by decide) q1249 rfl rfl (tyX7_ok 39 (by decide)) rfl rfl (by rw [eS_14]; exact mset_39 b S (S 0 36)) (by rw [eS_14]; exact bw_0) dX7_goesOn_267 (fun H locs hP hS => ?_)
          exact J270  _ _ _ _ h hP hS (lv_sub hl [0, 1] rfl)
      · have h := h.2 c_26
        refine lv_aload_n hx hb dX7_goesOn_133 rfl (lv_at hl 0 rfl) ?_
        refine lv_iload_n hx hb dX7_goesOn_134 rfl (lv_at hl 1 rfl) ?_
        refine lv_iload hx hb dX7_goesOn_135 (lv_at hl 4 rfl) ?_
        refine m_cVp (As := [.int p2, .int x5]) (rest := []) ⟨hx, hb, hml, hown, hts⟩ (met_coef l D cI cB b p2 x5  S _ h) (cwV 2 hts (lw_V q1526 q1528 qs80 q128 q1529) rfl rfl rfl cwd_coef ⟨Nat.le_of_ble_eq_true rfl, Nat.le_of_ble_eq_true rfl⟩) hK hP hS rfl hl.1 rfl (Nat.le_of_ble_eq_true rfl) dX7_goesOn_137 ⟨Nat.zero_le _, Nat.zero_le _⟩ (fun r_16 H locs h hP hS => ?_)
        refine lv_if_ne (tgt := 146) hx hb dX7_goesOn_140 (by decide) (fun c_25 => ?_) (fun c_25 => ?_)
        · have h := h.1 c_25
          refine lv_iload hx hb dX7_goesOn_146 (lv_at hl 4 rfl) ?_
          refine lv_iload hx hb dX7_goesOn_148 (lv_at hl 3 rfl) ?_
          refine m_cSp (As := [.int x5, .int x4]) (rest := []) ⟨hx, hb, hml, hown, hts⟩ (met_sum l D cI cB b x5 x4  S _ h) (va_cwS 2 hts (lw_S q1654 q1655 q128 q1656) rfl rfl rfl cwd_sum ⟨Nat.le_of_ble_eq_true rfl, Nat.le_of_ble_eq_true rfl⟩) hK hP hS rfl hl.1 rfl (Nat.le_of_ble_eq_true rfl) dX7_goesOn_150 ⟨Nat.zero_le _, Nat.zero_le _⟩ (fun r_18 H locs h hP hS => ?_)
          refine lv_istore (lv' := [(6, .int r_18), (0, .ref b), (2, .int p2), (3, .int x3), (4, .int x4), (5, .int x5)]) hx hb dX7_goesOn_153 hl (by decide) rfl (fun ls hl => ?_)
          refine lv_iload hx hb dX7_goesOn_155 (lv_at hl 0 rfl) ?_
          refine lv_iconst (v := (-1)) hx hb dX7_goesOn_157 (by decide) ?_
          refine lv_icmp_ne (tgt := 163) hx hb dX7_goesOn_158 (by decide) (fun c_24 => ?_) (fun c_24 => ?_)
          · have h := h.1 c_24
            refine lv_aload_n hx hb dX7_goesOn_163 rfl (lv_at hl 1 rfl) ?_
            refine lv_dup hx hb dX7_goesOn_164 rfl ?_
            refine m_get (v := .int (S 0 36)) hx hb hts hown hK hP 36 (by decide) q1246 rfl rfl dX7_goesOn_165 ?_
            refine lv_aload_n hx hb dX7_goesOn_168 rfl (lv_at hl 1 rfl) ?_
            refine m_get (v := .ref (b + 7)) hx hb hts hown hK hP 30 (by decide) q1240 rfl rfl dX7_goesOn_169 ?_
            refine lv_iload hx hb dX7_goesOn_172 (lv_at hl 0 rfl) ?_
            obtain ⟨j_20, hj_20, ej_20, h⟩ := h
            refine m_iald hx hb hK hP (k := 7) mok_7 ej_20 hj_20 dX7_goesOn_174 ?_
            refine lv_if_eq (tgt := 182) hx hb dX7_goesOn_175 (by decide) (fun c_23 => ?_) (fun c_23 => ?_)
            · have h := h.1 c_23
              refine lv_iconst (v := 0) hx hb dX7_goesOn_182 (by decide) ?_
              refine lv_isub hx hb dX7_goesOn_183 ?_
              obtain ⟨S_21, eS_21⟩ : ∃ z : St, z = bw S 0 36 ((S 0 36) - 0) := ⟨_, rfl⟩
              have h := h S_21 eS_21
              refine m_put (S1 := S_21) (v := .int ((S 0 36) - 0)) (ty := .int) hx hb hts hown hK hP hS 36 (by decide) q1246 rfl rfl (tyX7_ok 36 (by decide)) rfl rfl (by rw [eS_21]; exact mset_36 b S ((S 0 36) - 0)) (by rw [eS_21]; exact bw_0) dX7_goesOn_184 (fun H locs hP hS => ?_)
              exact J187 _ _ _ _ _ _ h hP hS (lv_sub hl [1, 2, 3, 4, 5, 0] rfl)
            · have h := h.2 c_23
              refine lv_iconst (v := 1) hx hb dX7_goesOn_178 (by decide) ?_
              refine lv_goto (tgt := 183) hx hb dX7_goesOn_179 (by decide) ?_
              refine lv_isub hx hb dX7_goesOn_183 ?_
              obtain ⟨S_22, eS_22⟩ : ∃ z : St, z = bw S 0 36 ((S 0 36) - 1) := ⟨_, rfl⟩
              have h := h S_22 eS_22
              refine m_put (S1 := S_22) (v := .int ((S 0 36) - 1)) (ty := .int) hx hb hts hown hK hP hS 36 (by decide) q1246 rfl rfl (tyX7_ok 36 (by decide)) rfl rfl (by rw [eS_22]; exact mset_36 b S ((S 0 36) - 1)) (by rw [eS_22]; exact bw_0) dX7_goesOn_184 (fun H locs hP hS => ?_)
              exact J187 _ _ _ _ _ _ h hP hS (lv_sub hl [1, 2, 3, 4, 5, 0] rfl)
          · have h := h.2 c_24
            refine lv_iconst (v := 0) hx hb dX7_goesOn_161 (by decide) ?_
            exact W.zret (v := 0) hx hb hr rfl (fun t ht hW => ⟨⟨0, S, rfl, h, by rw [ht]; exact hP, va_K.moved hW.alike hK⟩, hS.F ht⟩) hS.2.2 dX7_goesOn_162
        · have h := h.2 c_25
          refine lv_goto (tgt := 245) hx hb dX7_goesOn_143 (by decide) ?_
          exact J245 _ _ _ _ _ h hP hS (lv_sub hl [0, 1, 2, 3, 4] rfl)
  unfold wp_goesOn at h
  refine lv_aload_n hx hb dX7_goesOn_0 rfl (lv_at hl 0 rfl) ?_
  refine lv_dup hx hb dX7_goesOn_1 rfl ?_
  refine m_get (v := .int (S 0 38)) hx hb hts hown hK hP 38 (by decide) q1248 rfl rfl dX7_goesOn_2 ?_
  refine lv_iconst (v := 1) hx hb dX7_goesOn_5 (by decide) ?_
  refine lv_iadd hx hb dX7_goesOn_6 ?_
  obtain ⟨S_27, eS_27⟩ : ∃ z : St, z = bw S 0 38 ((S 0 38) + 1) := ⟨_, rfl⟩
  have h := h S_27 eS_27
  refine m_put (S1 := S_27) (v := .int ((S 0 38) + 1)) (ty := .int) hx hb hts hown hK hP hS 38 (by decide) q1248 rfl rfl (tyX7_ok 38 (by decide)) rfl rfl (by rw [eS_27]; exact mset_38 b S ((S 0 38) + 1)) (by rw [eS_27]; exact bw_0) dX7_goesOn_7 (fun H locs hP hS => ?_)
  refine lv_iload_n hx hb dX7_goesOn_10 rfl (lv_at hl 2 rfl) ?_
  refine lv_iconst (v := (-1)) hx hb dX7_goesOn_11 (by decide) ?_
  refine lv_icmp_ne (tgt := 69) hx hb dX7_goesOn_12 (by decide) (fun c_46 => ?_) (fun c_46 => ?_)
  · have h := h.1 c_46
    refine lv_aload_n hx hb dX7_goesOn_69 rfl (lv_at hl 0 rfl) ?_
    refine m_get (v := .ref (b + 7)) hx hb hts hown hK hP 30 (by decide) q1240 rfl rfl dX7_goesOn_70 ?_
    refine lv_iload_n hx hb dX7_goesOn_73 rfl (lv_at hl 1 rfl) ?_
    obtain ⟨j_28, hj_28, ej_28, h⟩ := h
    refine m_iald hx hb hK hP (k := 7) mok_7 ej_28 hj_28 dX7_goesOn_74 ?_
    refine lv_aload_n hx hb dX7_goesOn_75 rfl (lv_at hl 0 rfl) ?_
    refine m_get (v := .ref (b + 12)) hx hb hts hown hK hP 35 (by decide) q1245 rfl rfl dX7_goesOn_76 ?_
    refine lv_iload_n hx hb dX7_goesOn_79 rfl (lv_at hl 2 rfl) ?_
    obtain ⟨j_29, hj_29, ej_29, h⟩ := h
    refine m_iald hx hb hK hP (k := 12) mok_12 ej_29 hj_29 dX7_goesOn_80 ?_
    refine lv_imul hx hb dX7_goesOn_81 ?_
    refine lv_aload_n hx hb dX7_goesOn_82 rfl (lv_at hl 0 rfl) ?_
    refine m_get (v := .int (S_27 0 5)) hx hb hts hown hK hP 5 (by decide) q1215 rfl rfl dX7_goesOn_83 ?_
    obtain ⟨hne, h⟩ := h
    refine m_irem hx hb dX7_goesOn_86 hne ?_
    refine lv_topi (fun x3_30 ex3_30 => ?_)
    have h := h x3_30 ex3_30
    refine lv_istore_n (lv' := [(3, .int x3_30), (0, .ref b), (1, .int p1), (2, .int p2)]) hx hb dX7_goesOn_87 rfl hl (by decide) rfl (fun ls hl => ?_)
    refine lv_iload_n hx hb dX7_goesOn_88 rfl (lv_at hl 2 rfl) ?_
    refine lv_aload_n hx hb dX7_goesOn_89 rfl (lv_at hl 1 rfl) ?_
    refine m_get (v := .ref (b + 11)) hx hb hts hown hK hP 34 (by decide) q1244 rfl rfl dX7_goesOn_90 ?_
    refine lv_iload_n hx hb dX7_goesOn_93 rfl (lv_at hl 3 rfl) ?_
    obtain ⟨j_31, hj_31, ej_31, h⟩ := h
    refine m_iald hx hb hK hP (k := 11) mok_11 ej_31 hj_31 dX7_goesOn_94 ?_
    refine lv_isub hx hb dX7_goesOn_95 ?_
    refine lv_topi (fun x4_32 ex4_32 => ?_)
    have h := h x4_32 ex4_32
    refine lv_istore (lv' := [(4, .int x4_32), (3, .int x3_30), (0, .ref b), (1, .int p1), (2, .int p2)]) hx hb dX7_goesOn_96 hl (by decide) rfl (fun ls hl => ?_)
    refine lv_aload_n hx hb dX7_goesOn_98 rfl (lv_at hl 2 rfl) ?_
    refine m_get (v := .ref (b + 9)) hx hb hts hown hK hP 32 (by decide) q1242 rfl rfl dX7_goesOn_99 ?_
    refine lv_sipush (v := 4096) hx hb dX7_goesOn_102 (by decide) ?_
    refine lv_iload_n hx hb dX7_goesOn_105 rfl (lv_at hl 4 rfl) ?_
    refine lv_imul hx hb dX7_goesOn_106 ?_
    refine lv_iload hx hb dX7_goesOn_107 (lv_at hl 0 rfl) ?_
    refine lv_iadd hx hb dX7_goesOn_109 ?_
    refine lv_iload_n hx hb dX7_goesOn_110 rfl (lv_at hl 1 rfl) ?_
    obtain ⟨j_33, hj_33, ej_33, h⟩ := h
    obtain ⟨S_34, eS_34⟩ : ∃ z : St, z = bw S_27 9 j_33 x3_30 := ⟨_, rfl⟩
    have h := h S_34 eS_34
    refine m_iast hx hb hK hP hS (k := 9) mok_9 ej_33 hj_33 dX7_goesOn_111 (fun H locs hP hS => ?_)
    rw [← eS_34] at hP
    refine lv_aload_n hx hb dX7_goesOn_112 rfl (lv_at hl 2 rfl) ?_
    refine m_get (v := .ref (b + 10)) hx hb hts hown hK hP 33 (by decide) q1243 rfl rfl dX7_goesOn_113 ?_
    refine lv_iload_n hx hb dX7_goesOn_116 rfl (lv_at hl 4 rfl) ?_
    refine lv_dup2_11 hx hb dX7_goesOn_117 rfl rfl ?_
    obtain ⟨j_35, hj_35, ej_35, h⟩ := h
    refine m_iald hx hb hK hP (k := 10) mok_10 ej_35 hj_35 dX7_goesOn_118 ?_
    refine lv_iconst (v := 1) hx hb dX7_goesOn_119 (by decide) ?_
    refine lv_iadd hx hb dX7_goesOn_120 ?_
    obtain ⟨j_36, hj_36, ej_36, h⟩ := h
    obtain ⟨S_37, eS_37⟩ : ∃ z : St, z = bw S_34 10 j_36 ((S_34 10 j_35) + 1) := ⟨_, rfl⟩
    have h := h S_37 eS_37
    refine m_iast hx hb hK hP hS (k := 10) mok_10 ej_36 hj_36 dX7_goesOn_121 (fun H locs hP hS => ?_)
    rw [← eS_37] at hP
    refine lv_iconst (v := 0) hx hb dX7_goesOn_122 (by decide) ?_
    refine lv_istore (lv' := [(5, .int 0), (4, .int x4_32), (3, .int x3_30), (0, .ref b), (1, .int p1), (2, .int p2)]) hx hb dX7_goesOn_123 hl (by decide) rfl (fun ls hl => ?_)
    exact L125 _ _ _ _ _ _ _ h hP hS (lv_sub hl [3, 5, 2, 1, 0] rfl)
  · have h := h.2 c_46
    refine lv_aload_n hx hb dX7_goesOn_15 rfl (lv_at hl 0 rfl) ?_
    refine m_get (v := .ref (b + 8)) hx hb hts hown hK hP 31 (by decide) q1241 rfl rfl dX7_goesOn_16 ?_
    refine lv_iload_n hx hb dX7_goesOn_19 rfl (lv_at hl 1 rfl) ?_
    refine lv_aload_n hx hb dX7_goesOn_20 rfl (lv_at hl 0 rfl) ?_
    refine m_get (v := .ref (b + 7)) hx hb hts hown hK hP 30 (by decide) q1240 rfl rfl dX7_goesOn_21 ?_
    refine lv_iload_n hx hb dX7_goesOn_24 rfl (lv_at hl 1 rfl) ?_
    obtain ⟨j_38, hj_38, ej_38, h⟩ := h
    refine m_iald hx hb hK hP (k := 7) mok_7 ej_38 hj_38 dX7_goesOn_25 ?_
    obtain ⟨j_39, hj_39, ej_39, h⟩ := h
    obtain ⟨S_40, eS_40⟩ : ∃ z : St, z = bw S_27 8 j_39 (S_27 7 j_38) := ⟨_, rfl⟩
    have h := h S_40 eS_40
    refine m_iast hx hb hK hP hS (k := 8) mok_8 ej_39 hj_39 dX7_goesOn_26 (fun H locs hP hS => ?_)
    rw [← eS_40] at hP
    refine lv_aload_n hx hb dX7_goesOn_27 rfl (lv_at hl 0 rfl) ?_
    refine m_get (v := .ref (b + 7)) hx hb hts hown hK hP 30 (by decide) q1240 rfl rfl dX7_goesOn_28 ?_
    refine lv_iload_n hx hb dX7_goesOn_31 rfl (lv_at hl 1 rfl) ?_
    refine lv_iconst (v := 0) hx hb dX7_goesOn_32 (by decide) ?_
    obtain ⟨j_41, hj_41, ej_41, h⟩ := h
    obtain ⟨S_42, eS_42⟩ : ∃ z : St, z = bw S_40 7 j_41 0 := ⟨_, rfl⟩
    have h := h S_42 eS_42
    refine m_iast hx hb hK hP hS (k := 7) mok_7 ej_41 hj_41 dX7_goesOn_33 (fun H locs hP hS => ?_)
    rw [← eS_42] at hP
    refine lv_aload_n hx hb dX7_goesOn_34 rfl (lv_at hl 0 rfl) ?_
    refine lv_dup hx hb dX7_goesOn_35 rfl ?_
    refine m_get (v := .int (S_42 0 36)) hx hb hts hown hK hP 36 (by decide) q1246 rfl rfl dX7_goesOn_36 ?_
    refine lv_iconst (v := 1) hx hb dX7_goesOn_39 (by decide) ?_
    refine lv_isub hx hb dX7_goesOn_40 ?_
    obtain ⟨S_43, eS_43⟩ : ∃ z : St, z = bw S_42 0 36 ((S_42 0 36) - 1) := ⟨_, rfl⟩
    have h := h S_43 eS_43
    refine m_put (S1 := S_43) (v := .int ((S_42 0 36) - 1)) (ty := .int) hx hb hts hown hK hP hS 36 (by decide) q1246 rfl rfl (tyX7_ok 36 (by decide)) rfl rfl (by rw [eS_43]; exact mset_36 b S_42 ((S_42 0 36) - 1)) (by rw [eS_43]; exact bw_0) dX7_goesOn_41 (fun H locs hP hS => ?_)
    refine lv_aload_n hx hb dX7_goesOn_44 rfl (lv_at hl 0 rfl) ?_
    refine lv_dup hx hb dX7_goesOn_45 rfl ?_
    refine m_get (v := .int (S_43 0 37)) hx hb hts hown hK hP 37 (by decide) q1247 rfl rfl dX7_goesOn_46 ?_
    refine lv_iconst (v := 1) hx hb dX7_goesOn_49 (by decide) ?_
    refine lv_iadd hx hb dX7_goesOn_50 ?_
    obtain ⟨S_44, eS_44⟩ : ∃ z : St, z = bw S_43 0 37 ((S_43 0 37) + 1) := ⟨_, rfl⟩
    have h := h S_44 eS_44
    refine m_put (S1 := S_44) (v := .int ((S_43 0 37) + 1)) (ty := .int) hx hb hts hown hK hP hS 37 (by decide) q1247 rfl rfl (tyX7_ok 37 (by decide)) rfl rfl (by rw [eS_44]; exact mset_37 b S_43 ((S_43 0 37) + 1)) (by rw [eS_44]; exact bw_0) dX7_goesOn_51 (fun H locs hP hS => ?_)
    refine lv_aload_n hx hb dX7_goesOn_54 rfl (lv_at hl 0 rfl) ?_
    refine m_get (v := .int (S_44 0 37)) hx hb hts hown hK hP 37 (by decide) q1247 rfl rfl dX7_goesOn_55 ?_
    refine lv_bipush (v := 60) hx hb dX7_goesOn_58 (by decide) ?_
    refine lv_icmp_gt (tgt := 67) hx hb dX7_goesOn_60 (by decide) (fun c_45 => ?_) (fun c_45 => ?_)
    · have h := h.1 c_45
      refine lv_iconst (v := 0) hx hb dX7_goesOn_67 (by decide) ?_
      exact W.zret (v := 0) hx hb hr rfl (fun t ht hW => ⟨⟨0, S_44, rfl, h, by rw [ht]; exact hP, va_K.moved hW.alike hK⟩, hS.F ht⟩) hS.2.2 dX7_goesOn_68
    · have h := h.2 c_45
      refine lv_iconst (v := 1) hx hb dX7_goesOn_63 (by decide) ?_
      refine lv_goto (tgt := 68) hx hb dX7_goesOn_64 (by decide) ?_
      exact W.zret (v := 1) hx hb hr rfl (fun t ht hW => ⟨⟨1, S_44, rfl, h, by rw [ht]; exact hP, va_K.moved hW.alike hK⟩, hS.F ht⟩) hS.2.2 dX7_goesOn_68
def wp_dividesBy_b190 (p1 : Int32) (post : Int32 → St → Prop) (R183 : Int32 → St → Prop) (R190 : Int32 → Prop)  (x2 : Int32) (S : St) : Prop :=
          ∃ j_1 : Nat, j_1 < 4096 ∧ x2 = nI j_1 ∧
          ∃ j_2 : Nat, j_2 < 4096 ∧ (S 4 j_1) = nI j_2 ∧
          ((¬ (S 7 j_2) = 0 →
            (((S 0 38) = 500 →
              post 0 S) ∧
             (¬ ((S 0 38) = 500) →
              ∃ j_3 : Nat, j_3 < 4096 ∧ x2 = nI j_3 ∧
              ∃ j_4 : Nat, j_4 < 4096 ∧ x2 = nI j_4 ∧
              wp_divisorOf p1 (S 4 j_4) S (fun r_5 =>
              wp_goesOn (S 4 j_3) r_5 S (fun r_7 S_8 =>
              ((¬ r_7 = 0 →
                R183 x2 S_8) ∧
               (r_7 = 0 →
                post 0 S_8))))))) ∧
           ((S 7 j_2) = 0 →
            ∀ x2_11 : Int32, x2_11 = x2 + 1 →
            R190 x2_11))
def wp_dividesBy_l190 (p1 : Int32) (post : Int32 → St → Prop) (R183 : Int32 → St → Prop)  (x2 : Int32) (S : St) : Prop := wLoop (fun (R : Int32 → Prop) (v : Int32) => wp_dividesBy_b190 p1 post R183 (fun x2 => R x2)  v S) x2
def wp_dividesBy_b183 (p1 : Int32) (post : Int32 → St → Prop) (R183 : Int32 → St → Prop)  (x2 : Int32) (S : St) : Prop :=
      (((S 0 36) ≤ 0 →
        post 1 S) ∧
       (¬ ((S 0 36) ≤ 0) →
        wp_dividesBy_l190 p1 post R183 x2 S))
def wp_dividesBy_l183 (p1 : Int32) (post : Int32 → St → Prop)  (x2 : Int32) (S : St) : Prop := wLoop (fun (R : (Int32 × St) → Prop) (v : Int32 × St) => wp_dividesBy_b183 p1 post (fun x2 S => R (x2, S))  v.1 v.2) (x2, S)
def wp_dividesBy_j167 (p1 : Int32) (post : Int32 → St → Prop) (R95 : Int32 → St → Prop) (x2 : Int32) (S : St) : Prop :=
        ∀ x2_14 : Int32, x2_14 = x2 + 1 →
        R95 x2_14 S
def wp_dividesBy_j132 (p1 : Int32) (post : Int32 → St → Prop) (R95 : Int32 → St → Prop) (x2 : Int32) (S : St) : Prop :=
        ∃ j_15 : Nat, j_15 < 8 ∧ x2 = nI j_15 ∧
        ((¬ (S 11 j_15) = (-1) →
          ∃ j_16 : Nat, j_16 < 8 ∧ x2 = nI j_16 ∧
          wp_coef x2 (S 11 j_16) S (fun r_17 =>
          wp_inverse r_17 S (fun r_19 =>
          ∃ j_21 : Nat, j_21 < 8 ∧ x2 = nI j_21 ∧ ∀ S_22 : St, S_22 = bw S 12 j_21 r_19 →
          wp_dividesBy_j167 p1 post R95 x2 S_22))) ∧
         ((S 11 j_15) = (-1) →
          ∃ j_23 : Nat, j_23 < 8 ∧ x2 = nI j_23 ∧ ∀ S_24 : St, S_24 = bw S 12 j_23 0 →
          wp_dividesBy_j167 p1 post R95 x2 S_24))
def wp_dividesBy_b95 (p1 : Int32) (post : Int32 → St → Prop) (R95 : Int32 → St → Prop)  (x2 : Int32) (S : St) : Prop :=
      ((8 ≤ x2 →
        ∀ S_26 : St, S_26 = bw S 0 39 (S 0 36) →
        wp_dividesBy_l183 p1 post 0 S_26) ∧
       (¬ (8 ≤ x2) →
        ∃ j_27 : Nat, j_27 < 8 ∧ x2 = nI j_27 ∧ ∀ S_28 : St, S_28 = bw S 10 j_27 0 →
        ((¬ ((jshr p1 x2) &&& 1) = 1 →
          ∃ j_29 : Nat, j_29 < 8 ∧ x2 = nI j_29 ∧ ∀ S_30 : St, S_30 = bw S_28 11 j_29 (-1) →
          wp_dividesBy_j132 p1 post R95 x2 S_30) ∧
         (((jshr p1 x2) &&& 1) = 1 →
          wp_leadOf x2 S_28 (fun r_31 =>
          ∃ j_33 : Nat, j_33 < 8 ∧ x2 = nI j_33 ∧ ∀ S_34 : St, S_34 = bw S_28 11 j_33 r_31 →
          wp_dividesBy_j132 p1 post R95 x2 S_34)))))
def wp_dividesBy_l95 (p1 : Int32) (post : Int32 → St → Prop)  (x2 : Int32) (S : St) : Prop := wLoop (fun (R : (Int32 × St) → Prop) (v : Int32 × St) => wp_dividesBy_b95 p1 post (fun x2 S => R (x2, S))  v.1 v.2) (x2, S)
def wp_dividesBy_b74 (p1 : Int32) (post : Int32 → St → Prop) (R74 : Int32 → St → Prop)  (x2 : Int32) (S : St) : Prop :=
      ((32768 ≤ x2 →
        wp_dividesBy_l95 p1 post 0 S) ∧
       (¬ (32768 ≤ x2) →
        ∃ j_37 : Nat, j_37 < 32768 ∧ x2 = nI j_37 ∧ ∀ S_38 : St, S_38 = bw S 9 j_37 0 →
        ∀ x2_39 : Int32, x2_39 = x2 + 1 →
        R74 x2_39 S_38))
def wp_dividesBy_l74 (p1 : Int32) (post : Int32 → St → Prop)  (x2 : Int32) (S : St) : Prop := wLoop (fun (R : (Int32 × St) → Prop) (v : Int32 × St) => wp_dividesBy_b74 p1 post (fun x2 S => R (x2, S))  v.1 v.2) (x2, S)
def wp_dividesBy_j59 (p1 : Int32) (post : Int32 → St → Prop) (R17 : Int32 → St → Prop) (x2 : Int32) (S : St) : Prop :=
        ∃ j_41 : Nat, j_41 < 4096 ∧ x2 = nI j_41 ∧ ∀ S_42 : St, S_42 = bw S 8 j_41 0 →
        ∀ x2_43 : Int32, x2_43 = x2 + 1 →
        R17 x2_43 S_42
def wp_dividesBy_b17 (p1 : Int32) (post : Int32 → St → Prop) (R17 : Int32 → St → Prop)  (x2 : Int32) (S : St) : Prop :=
      ((4096 ≤ x2 →
        wp_dividesBy_l74 p1 post 0 S) ∧
       (¬ (4096 ≤ x2) →
        ∃ j_44 : Nat, j_44 < 4096 ∧ x2 = nI j_44 ∧
        ∃ j_45 : Nat, j_45 < 4096 ∧ x2 = nI j_45 ∧ ∀ S_46 : St, S_46 = bw S 7 j_45 (S 6 j_44) →
        ∃ j_47 : Nat, j_47 < 4096 ∧ x2 = nI j_47 ∧
        (((S_46 7 j_47) = 0 →
          ∀ S_48 : St, S_48 = bw S_46 0 36 ((S_46 0 36) + 0) →
          wp_dividesBy_j59 p1 post R17 x2 S_48) ∧
         (¬ ((S_46 7 j_47) = 0) →
          ∀ S_49 : St, S_49 = bw S_46 0 36 ((S_46 0 36) + 1) →
          wp_dividesBy_j59 p1 post R17 x2 S_49))))
def wp_dividesBy_l17 (p1 : Int32) (post : Int32 → St → Prop)  (x2 : Int32) (S : St) : Prop := wLoop (fun (R : (Int32 × St) → Prop) (v : Int32 × St) => wp_dividesBy_b17 p1 post (fun x2 S => R (x2, S))  v.1 v.2) (x2, S)
def wp_dividesBy (p1 : Int32) (S : St) (post : Int32 → St → Prop) : Prop :=
  ∀ S_52 : St, S_52 = bw S 0 36 0 →
  ∀ S_53 : St, S_53 = bw S_52 0 37 0 →
  ∀ S_54 : St, S_54 = bw S_53 0 38 0 →
  wp_dividesBy_l17 p1 post 0 S_54
set_option maxHeartbeats 4000000 in
theorem met_dividesBy (l : Launch) (D : va_G) (cI cB : ClassId) (b : Nat) (p1 : Int32)  (S : St) (post : Int32 → St → Prop) (h : wp_dividesBy p1 S post) : Met l yX7_dividesBy (ws_ yX7_dividesBy cX7_dividesBy 3 (some .boolean)) ({ frames := 3, cells := 0, slots := 0, locals := 71 } : Room) (mPc D cI cB b [.ref b, .int p1] S) (mQi D cI cB b post) 0 0 (mA b) := by
  refine Met.ofW (cc := cX7_dividesBy) (maxL := 3) (ret := (some .boolean)) (by decide) rfl ?_
  intro p e s m args below meth c s₁ B hml hv
  obtain ⟨rfl, hP, hK⟩ := hv
  have hx := B.exec
  have hb := B.bytes
  have hr := B.returns
  have hts := atoms_spec (ws := ws_ yX7_dividesBy cX7_dividesBy 3 (some .boolean)) B.pre
  have hts : ∀ w ∈ lw_all, w.before _ s = true := fun w h => hts w (List.mem_cons_of_mem _ h)
  have hown : s.vm.findClass RX7 = some m.cls := findClass_of_methodNamed B.named
  have hlocks := B.notSynchronized
  have hS : va_S (mA b) s.heap s.heap [] := va_S.rf
  have hl := lv_entry ([.ref b, .int p1]) (n := 3) (Nat.le_of_ble_eq_true rfl)
  rw [lg_entry_eq]
  generalize (lg_sl ([.ref b, .int p1]) ++ List.replicate (3 - (lg_sl ([.ref b, .int p1])).length) Slot.unset).toArray = ls at hl ⊢
  have hl : lv_has ls 3 [(0, .ref b), (1, .int p1)] := hl
  have L183 : ∀  (x2 : Int32) (S : St) (H : Heap) (locs : List Loc) (ls : Array Slot), wp_dividesBy_l183 p1 post  x2 S → mW D cI cB b S H → va_S (mA b) s.heap H locs → lv_has ls 3 [(0, .ref b), (1, .int p1), (2, .int x2)] → W p l e (headSpec (ws_ yX7_dividesBy cX7_dividesBy 3 (some .boolean)) ({ frames := 3, cells := 0, slots := 0, locals := 71 } : Room)).room s m ([.ref b, .int p1] : List Value).toArray below meth c H locs 0 0 (MQ below (mQi D cI cB b post) ([.ref b, .int p1] : List Value).toArray s 0 0 (mA b)) (F0 m 183 ls []) := by
    intro  x2 S H locs ls h hP hS hl
    obtain ⟨I183, n183, hI, hstep183⟩ := h
    induction n183 using Nat.strongRecOn generalizing x2 S H locs ls with
    | ind n183 ih183 =>
      have h : wp_dividesBy_b183 p1 post (fun x2 S => ∃ mm, mm < n183 ∧ I183 mm (x2, S))  x2 S := hstep183 n183 _ hI
      clear hI
      have L190 : ∀  (x2 : Int32) (S : St) (H : Heap) (locs : List Loc) (ls : Array Slot), wp_dividesBy_l190 p1 post (fun x2 S => ∃ mm, mm < n183 ∧ I183 mm (x2, S))  x2 S → mW D cI cB b S H → va_S (mA b) s.heap H locs → lv_has ls 3 [(0, .ref b), (1, .int p1), (2, .int x2)] → W p l e (headSpec (ws_ yX7_dividesBy cX7_dividesBy 3 (some .boolean)) ({ frames := 3, cells := 0, slots := 0, locals := 71 } : Room)).room s m ([.ref b, .int p1] : List Value).toArray below meth c H locs 0 0 (MQ below (mQi D cI cB b post) ([.ref b, .int p1] : List Value).toArray s 0 0 (mA b)) (F0 m 190 ls []) := by
        intro  x2 S H locs ls h hP hS hl
        obtain ⟨I190, n190, hI, hstep190⟩ := h
        induction n190 using Nat.strongRecOn generalizing x2 H locs ls with
        | ind n190 ih190 =>
          have h : wp_dividesBy_b190 p1 post (fun x2 S => ∃ mm, mm < n183 ∧ I183 mm (x2, S)) (fun x2 => ∃ mm, mm < n190 ∧ I190 mm x2)  x2 S := hstep190 n190 _ hI
          clear hI
          unfold wp_dividesBy_b190 at h
          refine lv_aload_n hx hb dX7_dividesBy_190 rfl (lv_at hl 0 rfl) ?_
          refine m_get (v := .ref (b + 7)) hx hb hts hown hK hP 30 (by decide) q1240 rfl rfl dX7_dividesBy_191 ?_
          refine lv_aload_n hx hb dX7_dividesBy_194 rfl (lv_at hl 0 rfl) ?_
          refine m_get (v := .ref (b + 4)) hx hb hts hown hK hP 24 (by decide) q1234 rfl rfl dX7_dividesBy_195 ?_
          refine lv_iload_n hx hb dX7_dividesBy_198 rfl (lv_at hl 2 rfl) ?_
          obtain ⟨j_1, hj_1, ej_1, h⟩ := h
          refine m_iald hx hb hK hP (k := 4) mok_4 ej_1 hj_1 dX7_dividesBy_199 ?_
          obtain ⟨j_2, hj_2, ej_2, h⟩ := h
          refine m_iald hx hb hK hP (k := 7) mok_7 ej_2 hj_2 dX7_dividesBy_200 ?_
          refine lv_if_ne (tgt := 210) hx hb dX7_dividesBy_201 (by decide) (fun c_12 => ?_) (fun c_12 => ?_)
          · have h := h.1 c_12
            refine lv_aload_n hx hb dX7_dividesBy_210 rfl (lv_at hl 0 rfl) ?_
            refine m_get (v := .int (S 0 38)) hx hb hts hown hK hP 38 (by decide) q1248 rfl rfl dX7_dividesBy_211 ?_
            refine lv_sipush (v := 500) hx hb dX7_dividesBy_214 (by decide) ?_
            refine lv_icmp_eq (tgt := 244) hx hb dX7_dividesBy_217 (by decide) (fun c_10 => ?_) (fun c_10 => ?_)
            · have h := h.1 c_10
              refine lv_iconst (v := 0) hx hb dX7_dividesBy_244 (by decide) ?_
              exact W.zret (v := 0) hx hb hr rfl (fun t ht hW => ⟨⟨0, S, rfl, h, by rw [ht]; exact hP, va_K.moved hW.alike hK⟩, hS.F ht⟩) hS.2.2 dX7_dividesBy_245
            · have h := h.2 c_10
              refine lv_aload_n hx hb dX7_dividesBy_220 rfl (lv_at hl 0 rfl) ?_
              refine lv_aload_n hx hb dX7_dividesBy_221 rfl (lv_at hl 0 rfl) ?_
              refine m_get (v := .ref (b + 4)) hx hb hts hown hK hP 24 (by decide) q1234 rfl rfl dX7_dividesBy_222 ?_
              refine lv_iload_n hx hb dX7_dividesBy_225 rfl (lv_at hl 2 rfl) ?_
              obtain ⟨j_3, hj_3, ej_3, h⟩ := h
              refine m_iald hx hb hK hP (k := 4) mok_4 ej_3 hj_3 dX7_dividesBy_226 ?_
              refine lv_aload_n hx hb dX7_dividesBy_227 rfl (lv_at hl 0 rfl) ?_
              refine lv_iload_n hx hb dX7_dividesBy_228 rfl (lv_at hl 1 rfl) ?_
              refine lv_aload_n hx hb dX7_dividesBy_229 rfl (lv_at hl 0 rfl) ?_
              refine m_get (v := .ref (b + 4)) hx hb hts hown hK hP 24 (by decide) q1234 rfl rfl dX7_dividesBy_230 ?_
              refine lv_iload_n hx hb dX7_dividesBy_233 rfl (lv_at hl 2 rfl) ?_
              obtain ⟨j_4, hj_4, ej_4, h⟩ := h
              refine m_iald hx hb hK hP (k := 4) mok_4 ej_4 hj_4 dX7_dividesBy_234 ?_
              refine m_cVp (As := [.int p1, .int (S 4 j_4)]) (rest := [.int (S 4 j_3), .ref b]) ⟨hx, hb, hml, hown, hts⟩ (met_divisorOf l D cI cB b p1 (S 4 j_4)  S _ h) (cwV 2 hts (lw_V q1643 q1645 qs93 q128 q1646) rfl rfl rfl cwd_divisorOf ⟨Nat.le_of_ble_eq_true rfl, Nat.le_of_ble_eq_true rfl⟩) hK hP hS rfl hl.1 rfl (Nat.le_of_ble_eq_true rfl) dX7_dividesBy_235 ⟨Nat.zero_le _, Nat.zero_le _⟩ (fun r_5 H locs h hP hS => ?_)
              refine m_cVi (As := [.int (S 4 j_3), .int r_5]) (rest := []) ⟨hx, hb, hml, hown, hts⟩ (met_goesOn l D cI cB b (S 4 j_3) r_5  S _ h) (cwV 2 hts (lw_V q1650 q1652 qs94 q128 q1653) rfl rfl rfl cwd_goesOn ⟨Nat.le_of_ble_eq_true rfl, Nat.le_of_ble_eq_true rfl⟩) hK hP hS rfl hl.1 rfl (Nat.le_of_ble_eq_true rfl) dX7_dividesBy_238 ⟨Nat.zero_le _, Nat.zero_le _⟩ (fun r_7 S_8 H locs h hP hS => ?_)
              refine lv_if_ne (tgt := 183) hx hb dX7_dividesBy_241 (by decide) (fun c_9 => ?_) (fun c_9 => ?_)
              · have h := h.1 c_9
                obtain ⟨mm, hmm, h⟩ := h
                exact ih183 mm hmm _ _ _ _ _ hP hS (lv_sub hl [0, 1, 2] rfl) h
              · have h := h.2 c_9
                refine lv_iconst (v := 0) hx hb dX7_dividesBy_244 (by decide) ?_
                exact W.zret (v := 0) hx hb hr rfl (fun t ht hW => ⟨⟨0, S_8, rfl, h, by rw [ht]; exact hP, va_K.moved hW.alike hK⟩, hS.F ht⟩) hS.2.2 dX7_dividesBy_245
          · have h := h.2 c_12
            obtain ⟨x2_11, ex2_11⟩ : ∃ y : Int32, y = x2 + 1 := ⟨_, rfl⟩
            have h := h x2_11 ex2_11
            refine lv_iinc (v := x2_11) (lv' := [(2, .int x2_11), (0, .ref b), (1, .int p1)]) hx hb dX7_dividesBy_204 hl (k := 2) rfl (by rw [ex2_11]; rfl) (by decide) rfl (fun ls hl => ?_)
            refine lv_goto (tgt := 190) hx hb dX7_dividesBy_207 (by decide) ?_
            obtain ⟨mm, hmm, h⟩ := h
            exact ih190 mm hmm _ _ _ _ hP hS (lv_sub hl [1, 2, 0] rfl) h
      unfold wp_dividesBy_b183 at h
      refine lv_aload_n hx hb dX7_dividesBy_183 rfl (lv_at hl 0 rfl) ?_
      refine m_get (v := .int (S 0 36)) hx hb hts hown hK hP 36 (by decide) q1246 rfl rfl dX7_dividesBy_184 ?_
      refine lv_if_le (tgt := 246) hx hb dX7_dividesBy_187 (by decide) (fun c_13 => ?_) (fun c_13 => ?_)
      · have h := h.1 c_13
        refine lv_iconst (v := 1) hx hb dX7_dividesBy_246 (by decide) ?_
        exact W.zret (v := 1) hx hb hr rfl (fun t ht hW => ⟨⟨1, S, rfl, h, by rw [ht]; exact hP, va_K.moved hW.alike hK⟩, hS.F ht⟩) hS.2.2 dX7_dividesBy_247
      · have h := h.2 c_13
        exact L190 _ _ _ _ _ h hP hS (lv_sub hl [0, 1, 2] rfl)
  have L95 : ∀  (x2 : Int32) (S : St) (H : Heap) (locs : List Loc) (ls : Array Slot), wp_dividesBy_l95 p1 post  x2 S → mW D cI cB b S H → va_S (mA b) s.heap H locs → lv_has ls 3 [(0, .ref b), (1, .int p1), (2, .int x2)] → W p l e (headSpec (ws_ yX7_dividesBy cX7_dividesBy 3 (some .boolean)) ({ frames := 3, cells := 0, slots := 0, locals := 71 } : Room)).room s m ([.ref b, .int p1] : List Value).toArray below meth c H locs 0 0 (MQ below (mQi D cI cB b post) ([.ref b, .int p1] : List Value).toArray s 0 0 (mA b)) (F0 m 95 ls []) := by
    intro  x2 S H locs ls h hP hS hl
    obtain ⟨I95, n95, hI, hstep95⟩ := h
    induction n95 using Nat.strongRecOn generalizing x2 S H locs ls with
    | ind n95 ih95 =>
      have h : wp_dividesBy_b95 p1 post (fun x2 S => ∃ mm, mm < n95 ∧ I95 mm (x2, S))  x2 S := hstep95 n95 _ hI
      clear hI
      have J167 : ∀ (x2 : Int32) (S : St) (H : Heap) (locs : List Loc) (ls : Array Slot), wp_dividesBy_j167 p1 post (fun x2 S => ∃ mm, mm < n95 ∧ I95 mm (x2, S)) x2 S → mW D cI cB b S H → va_S (mA b) s.heap H locs → lv_has ls 3 [(0, .ref b), (1, .int p1), (2, .int x2)] → W p l e (headSpec (ws_ yX7_dividesBy cX7_dividesBy 3 (some .boolean)) ({ frames := 3, cells := 0, slots := 0, locals := 71 } : Room)).room s m ([.ref b, .int p1] : List Value).toArray below meth c H locs 0 0 (MQ below (mQi D cI cB b post) ([.ref b, .int p1] : List Value).toArray s 0 0 (mA b)) (F0 m 167 ls []) := by
        intro x2 S H locs ls h hP hS hl
        unfold wp_dividesBy_j167 at h
        obtain ⟨x2_14, ex2_14⟩ : ∃ y : Int32, y = x2 + 1 := ⟨_, rfl⟩
        have h := h x2_14 ex2_14
        refine lv_iinc (v := x2_14) (lv' := [(2, .int x2_14), (0, .ref b), (1, .int p1)]) hx hb dX7_dividesBy_167 hl (k := 2) rfl (by rw [ex2_14]; rfl) (by decide) rfl (fun ls hl => ?_)
        refine lv_goto (tgt := 95) hx hb dX7_dividesBy_170 (by decide) ?_
        obtain ⟨mm, hmm, h⟩ := h
        exact ih95 mm hmm _ _ _ _ _ hP hS (lv_sub hl [1, 2, 0] rfl) h
      have J132 : ∀ (x2 : Int32) (S : St) (H : Heap) (locs : List Loc) (ls : Array Slot), wp_dividesBy_j132 p1 post (fun x2 S => ∃ mm, mm < n95 ∧ I95 mm (x2, S)) x2 S → mW D cI cB b S H → va_S (mA b) s.heap H locs → lv_has ls 3 [(0, .ref b), (1, .int p1), (2, .int x2)] → W p l e (headSpec (ws_ yX7_dividesBy cX7_dividesBy 3 (some .boolean)) ({ frames := 3, cells := 0, slots := 0, locals := 71 } : Room)).room s m ([.ref b, .int p1] : List Value).toArray below meth c H locs 0 0 (MQ below (mQi D cI cB b post) ([.ref b, .int p1] : List Value).toArray s 0 0 (mA b)) (F0 m 132 ls []) := by
        intro x2 S H locs ls h hP hS hl
        unfold wp_dividesBy_j132 at h
        refine lv_aload_n hx hb dX7_dividesBy_132 rfl (lv_at hl 0 rfl) ?_
        refine m_get (v := .ref (b + 12)) hx hb hts hown hK hP 35 (by decide) q1245 rfl rfl dX7_dividesBy_133 ?_
        refine lv_iload_n hx hb dX7_dividesBy_136 rfl (lv_at hl 2 rfl) ?_
        refine lv_aload_n hx hb dX7_dividesBy_137 rfl (lv_at hl 0 rfl) ?_
        refine m_get (v := .ref (b + 11)) hx hb hts hown hK hP 34 (by decide) q1244 rfl rfl dX7_dividesBy_138 ?_
        refine lv_iload_n hx hb dX7_dividesBy_141 rfl (lv_at hl 2 rfl) ?_
        obtain ⟨j_15, hj_15, ej_15, h⟩ := h
        refine m_iald hx hb hK hP (k := 11) mok_11 ej_15 hj_15 dX7_dividesBy_142 ?_
        refine lv_iconst (v := (-1)) hx hb dX7_dividesBy_143 (by decide) ?_
        refine lv_icmp_ne (tgt := 151) hx hb dX7_dividesBy_144 (by decide) (fun c_25 => ?_) (fun c_25 => ?_)
        · have h := h.1 c_25
          refine lv_aload_n hx hb dX7_dividesBy_151 rfl (lv_at hl 0 rfl) ?_
          refine lv_aload_n hx hb dX7_dividesBy_152 rfl (lv_at hl 0 rfl) ?_
          refine lv_iload_n hx hb dX7_dividesBy_153 rfl (lv_at hl 2 rfl) ?_
          refine lv_aload_n hx hb dX7_dividesBy_154 rfl (lv_at hl 0 rfl) ?_
          refine m_get (v := .ref (b + 11)) hx hb hts hown hK hP 34 (by decide) q1244 rfl rfl dX7_dividesBy_155 ?_
          refine lv_iload_n hx hb dX7_dividesBy_158 rfl (lv_at hl 2 rfl) ?_
          obtain ⟨j_16, hj_16, ej_16, h⟩ := h
          refine m_iald hx hb hK hP (k := 11) mok_11 ej_16 hj_16 dX7_dividesBy_159 ?_
          refine m_cVp (As := [.int x2, .int (S 11 j_16)]) (rest := [.ref b, .int x2, .ref (b + 12)]) ⟨hx, hb, hml, hown, hts⟩ (met_coef l D cI cB b x2 (S 11 j_16)  S _ h) (cwV 2 hts (lw_V q1526 q1528 qs80 q128 q1529) rfl rfl rfl cwd_coef ⟨Nat.le_of_ble_eq_true rfl, Nat.le_of_ble_eq_true rfl⟩) hK hP hS rfl hl.1 rfl (Nat.le_of_ble_eq_true rfl) dX7_dividesBy_160 ⟨Nat.zero_le _, Nat.zero_le _⟩ (fun r_17 H locs h hP hS => ?_)
          refine m_cVp (As := [.int r_17]) (rest := [.int x2, .ref (b + 12)]) ⟨hx, hb, hml, hown, hts⟩ (met_inverse l D cI cB b r_17  S _ h) (cwV 1 hts (lw_V q1639 q1641 qs92 q128 q1642) rfl rfl rfl cwd_inverse ⟨Nat.le_of_ble_eq_true rfl, Nat.le_of_ble_eq_true rfl⟩) hK hP hS rfl hl.1 rfl (Nat.le_of_ble_eq_true rfl) dX7_dividesBy_163 ⟨Nat.zero_le _, Nat.zero_le _⟩ (fun r_19 H locs h hP hS => ?_)
          obtain ⟨j_21, hj_21, ej_21, h⟩ := h
          obtain ⟨S_22, eS_22⟩ : ∃ z : St, z = bw S 12 j_21 r_19 := ⟨_, rfl⟩
          have h := h S_22 eS_22
          refine m_iast hx hb hK hP hS (k := 12) mok_12 ej_21 hj_21 dX7_dividesBy_166 (fun H locs hP hS => ?_)
          rw [← eS_22] at hP
          exact J167 _ _ _ _ _ h hP hS (lv_sub hl [0, 1, 2] rfl)
        · have h := h.2 c_25
          refine lv_iconst (v := 0) hx hb dX7_dividesBy_147 (by decide) ?_
          refine lv_goto (tgt := 166) hx hb dX7_dividesBy_148 (by decide) ?_
          obtain ⟨j_23, hj_23, ej_23, h⟩ := h
          obtain ⟨S_24, eS_24⟩ : ∃ z : St, z = bw S 12 j_23 0 := ⟨_, rfl⟩
          have h := h S_24 eS_24
          refine m_iast hx hb hK hP hS (k := 12) mok_12 ej_23 hj_23 dX7_dividesBy_166 (fun H locs hP hS => ?_)
          rw [← eS_24] at hP
          exact J167 _ _ _ _ _ h hP hS (lv_sub hl [0, 1, 2] rfl)
      unfold wp_dividesBy_b95 at h
      refine lv_iload_n hx hb dX7_dividesBy_95 rfl (lv_at hl 2 rfl) ?_
      refine lv_bipush (v := 8) hx hb dX7_dividesBy_96 (by decide) ?_
      refine lv_icmp_ge (tgt := 173) hx hb dX7_dividesBy_98 (by decide) (fun c_36 => ?_) (fun c_36 => ?_)
      · have h := h.1 c_36
        refine lv_aload_n hx hb dX7_dividesBy_173 rfl (lv_at hl 0 rfl) ?_
        refine lv_aload_n hx hb dX7_dividesBy_174 rfl (lv_at hl 0 rfl) ?_
        refine m_get (v := .int (S 0 36)) hx hb hts hown hK hP 36 (by decide) q1246 rfl rfl dX7_dividesBy_175 ?_
        obtain ⟨S_26, eS_26⟩ : ∃ z : St, z = bw S 0 39 (S 0 36) := ⟨_, rfl⟩
        have h := h S_26 eS_26
        refine m_put (S1 := S_26) (v := .int (S 0 36)) (ty := .int) hx hb hts hown hK hP hS 39 (by decide) q1249 rfl rfl (tyX7_ok 39 (by decide)) rfl rfl (by rw [eS_26]; exact mset_39 b S (S 0 36)) (by rw [eS_26]; exact bw_0) dX7_dividesBy_178 (fun H locs hP hS => ?_)
        refine lv_iconst (v := 0) hx hb dX7_dividesBy_181 (by decide) ?_
        refine lv_istore_n (lv' := [(2, .int 0), (0, .ref b), (1, .int p1)]) hx hb dX7_dividesBy_182 rfl hl (by decide) rfl (fun ls hl => ?_)
        exact L183 _ _ _ _ _ h hP hS (lv_sub hl [1, 2, 0] rfl)
      · have h := h.2 c_36
        refine lv_aload_n hx hb dX7_dividesBy_101 rfl (lv_at hl 0 rfl) ?_
        refine m_get (v := .ref (b + 10)) hx hb hts hown hK hP 33 (by decide) q1243 rfl rfl dX7_dividesBy_102 ?_
        refine lv_iload_n hx hb dX7_dividesBy_105 rfl (lv_at hl 2 rfl) ?_
        refine lv_iconst (v := 0) hx hb dX7_dividesBy_106 (by decide) ?_
        obtain ⟨j_27, hj_27, ej_27, h⟩ := h
        obtain ⟨S_28, eS_28⟩ : ∃ z : St, z = bw S 10 j_27 0 := ⟨_, rfl⟩
        have h := h S_28 eS_28
        refine m_iast hx hb hK hP hS (k := 10) mok_10 ej_27 hj_27 dX7_dividesBy_107 (fun H locs hP hS => ?_)
        rw [← eS_28] at hP
        refine lv_aload_n hx hb dX7_dividesBy_108 rfl (lv_at hl 0 rfl) ?_
        refine m_get (v := .ref (b + 11)) hx hb hts hown hK hP 34 (by decide) q1244 rfl rfl dX7_dividesBy_109 ?_
        refine lv_iload_n hx hb dX7_dividesBy_112 rfl (lv_at hl 2 rfl) ?_
        refine lv_iload_n hx hb dX7_dividesBy_113 rfl (lv_at hl 1 rfl) ?_
        refine lv_iload_n hx hb dX7_dividesBy_114 rfl (lv_at hl 2 rfl) ?_
        refine m_ishr hx hb dX7_dividesBy_115 ?_
        refine lv_iconst (v := 1) hx hb dX7_dividesBy_116 (by decide) ?_
        refine lv_iand hx hb dX7_dividesBy_117 ?_
        refine lv_iconst (v := 1) hx hb dX7_dividesBy_118 (by decide) ?_
        refine lv_icmp_ne (tgt := 130) hx hb dX7_dividesBy_119 (by decide) (fun c_35 => ?_) (fun c_35 => ?_)
        · have h := h.1 c_35
          refine lv_iconst (v := (-1)) hx hb dX7_dividesBy_130 (by decide) ?_
          obtain ⟨j_29, hj_29, ej_29, h⟩ := h
          obtain ⟨S_30, eS_30⟩ : ∃ z : St, z = bw S_28 11 j_29 (-1) := ⟨_, rfl⟩
          have h := h S_30 eS_30
          refine m_iast hx hb hK hP hS (k := 11) mok_11 ej_29 hj_29 dX7_dividesBy_131 (fun H locs hP hS => ?_)
          rw [← eS_30] at hP
          exact J132 _ _ _ _ _ h hP hS (lv_sub hl [0, 1, 2] rfl)
        · have h := h.2 c_35
          refine lv_aload_n hx hb dX7_dividesBy_122 rfl (lv_at hl 0 rfl) ?_
          refine lv_iload_n hx hb dX7_dividesBy_123 rfl (lv_at hl 2 rfl) ?_
          refine m_cVp (As := [.int x2]) (rest := [.int x2, .ref (b + 11)]) ⟨hx, hb, hml, hown, hts⟩ (met_leadOf l D cI cB b x2  S_28 _ h) (cwV 1 hts (lw_V q1635 q1637 qs91 q128 q1638) rfl rfl rfl cwd_leadOf ⟨Nat.le_of_ble_eq_true rfl, Nat.le_of_ble_eq_true rfl⟩) hK hP hS rfl hl.1 rfl (Nat.le_of_ble_eq_true rfl) dX7_dividesBy_124 ⟨Nat.zero_le _, Nat.zero_le _⟩ (fun r_31 H locs h hP hS => ?_)
          refine lv_goto (tgt := 131) hx hb dX7_dividesBy_127 (by decide) ?_
          obtain ⟨j_33, hj_33, ej_33, h⟩ := h
          obtain ⟨S_34, eS_34⟩ : ∃ z : St, z = bw S_28 11 j_33 r_31 := ⟨_, rfl⟩
          have h := h S_34 eS_34
          refine m_iast hx hb hK hP hS (k := 11) mok_11 ej_33 hj_33 dX7_dividesBy_131 (fun H locs hP hS => ?_)
          rw [← eS_34] at hP
          exact J132 _ _ _ _ _ h hP hS (lv_sub hl [0, 1, 2] rfl)
  have L74 : ∀  (x2 : Int32) (S : St) (H : Heap) (locs : List Loc) (ls : Array Slot), wp_dividesBy_l74 p1 post  x2 S → mW D cI cB b S H → va_S (mA b) s.heap H locs → lv_has ls 3 [(0, .ref b), (1, .int p1), (2, .int x2)] → W p l e (headSpec (ws_ yX7_dividesBy cX7_dividesBy 3 (some .boolean)) ({ frames := 3, cells := 0, slots := 0, locals := 71 } : Room)).room s m ([.ref b, .int p1] : List Value).toArray below meth c H locs 0 0 (MQ below (mQi D cI cB b post) ([.ref b, .int p1] : List Value).toArray s 0 0 (mA b)) (F0 m 74 ls []) := by
    intro  x2 S H locs ls h hP hS hl
    obtain ⟨I74, n74, hI, hstep74⟩ := h
    induction n74 using Nat.strongRecOn generalizing x2 S H locs ls with
    | ind n74 ih74 =>
      have h : wp_dividesBy_b74 p1 post (fun x2 S => ∃ mm, mm < n74 ∧ I74 mm (x2, S))  x2 S := hstep74 n74 _ hI
      clear hI
      unfold wp_dividesBy_b74 at h
      refine lv_iload_n hx hb dX7_dividesBy_74 rfl (lv_at hl 2 rfl) ?_
      refine lv_ldc (v := 32768) hx hb hown (hts _ q1208) dX7_dividesBy_75 ?_
      refine lv_icmp_ge (tgt := 93) hx hb dX7_dividesBy_77 (by decide) (fun c_40 => ?_) (fun c_40 => ?_)
      · have h := h.1 c_40
        refine lv_iconst (v := 0) hx hb dX7_dividesBy_93 (by decide) ?_
        refine lv_istore_n (lv' := [(2, .int 0), (0, .ref b), (1, .int p1)]) hx hb dX7_dividesBy_94 rfl hl (by decide) rfl (fun ls hl => ?_)
        exact L95 _ _ _ _ _ h hP hS (lv_sub hl [1, 2, 0] rfl)
      · have h := h.2 c_40
        refine lv_aload_n hx hb dX7_dividesBy_80 rfl (lv_at hl 0 rfl) ?_
        refine m_get (v := .ref (b + 9)) hx hb hts hown hK hP 32 (by decide) q1242 rfl rfl dX7_dividesBy_81 ?_
        refine lv_iload_n hx hb dX7_dividesBy_84 rfl (lv_at hl 2 rfl) ?_
        refine lv_iconst (v := 0) hx hb dX7_dividesBy_85 (by decide) ?_
        obtain ⟨j_37, hj_37, ej_37, h⟩ := h
        obtain ⟨S_38, eS_38⟩ : ∃ z : St, z = bw S 9 j_37 0 := ⟨_, rfl⟩
        have h := h S_38 eS_38
        refine m_iast hx hb hK hP hS (k := 9) mok_9 ej_37 hj_37 dX7_dividesBy_86 (fun H locs hP hS => ?_)
        rw [← eS_38] at hP
        obtain ⟨x2_39, ex2_39⟩ : ∃ y : Int32, y = x2 + 1 := ⟨_, rfl⟩
        have h := h x2_39 ex2_39
        refine lv_iinc (v := x2_39) (lv' := [(2, .int x2_39), (0, .ref b), (1, .int p1)]) hx hb dX7_dividesBy_87 hl (k := 2) rfl (by rw [ex2_39]; rfl) (by decide) rfl (fun ls hl => ?_)
        refine lv_goto (tgt := 74) hx hb dX7_dividesBy_90 (by decide) ?_
        obtain ⟨mm, hmm, h⟩ := h
        exact ih74 mm hmm _ _ _ _ _ hP hS (lv_sub hl [1, 2, 0] rfl) h
  have L17 : ∀  (x2 : Int32) (S : St) (H : Heap) (locs : List Loc) (ls : Array Slot), wp_dividesBy_l17 p1 post  x2 S → mW D cI cB b S H → va_S (mA b) s.heap H locs → lv_has ls 3 [(0, .ref b), (1, .int p1), (2, .int x2)] → W p l e (headSpec (ws_ yX7_dividesBy cX7_dividesBy 3 (some .boolean)) ({ frames := 3, cells := 0, slots := 0, locals := 71 } : Room)).room s m ([.ref b, .int p1] : List Value).toArray below meth c H locs 0 0 (MQ below (mQi D cI cB b post) ([.ref b, .int p1] : List Value).toArray s 0 0 (mA b)) (F0 m 17 ls []) := by
    intro  x2 S H locs ls h hP hS hl
    obtain ⟨I17, n17, hI, hstep17⟩ := h
    induction n17 using Nat.strongRecOn generalizing x2 S H locs ls with
    | ind n17 ih17 =>
      have h : wp_dividesBy_b17 p1 post (fun x2 S => ∃ mm, mm < n17 ∧ I17 mm (x2, S))  x2 S := hstep17 n17 _ hI
      clear hI
      have J59 : ∀ (x2 : Int32) (S : St) (H : Heap) (locs : List Loc) (ls : Array Slot), wp_dividesBy_j59 p1 post (fun x2 S => ∃ mm, mm < n17 ∧ I17 mm (x2, S)) x2 S → mW D cI cB b S H → va_S (mA b) s.heap H locs → lv_has ls 3 [(0, .ref b), (1, .int p1), (2, .int x2)] → W p l e (headSpec (ws_ yX7_dividesBy cX7_dividesBy 3 (some .boolean)) ({ frames := 3, cells := 0, slots := 0, locals := 71 } : Room)).room s m ([.ref b, .int p1] : List Value).toArray below meth c H locs 0 0 (MQ below (mQi D cI cB b post) ([.ref b, .int p1] : List Value).toArray s 0 0 (mA b)) (F0 m 59 ls []) := by
        intro x2 S H locs ls h hP hS hl
        unfold wp_dividesBy_j59 at h
        refine lv_aload_n hx hb dX7_dividesBy_59 rfl (lv_at hl 0 rfl) ?_
        refine m_get (v := .ref (b + 8)) hx hb hts hown hK hP 31 (by decide) q1241 rfl rfl dX7_dividesBy_60 ?_
        refine lv_iload_n hx hb dX7_dividesBy_63 rfl (lv_at hl 2 rfl) ?_
        refine lv_iconst (v := 0) hx hb dX7_dividesBy_64 (by decide) ?_
        obtain ⟨j_41, hj_41, ej_41, h⟩ := h
        obtain ⟨S_42, eS_42⟩ : ∃ z : St, z = bw S 8 j_41 0 := ⟨_, rfl⟩
        have h := h S_42 eS_42
        refine m_iast hx hb hK hP hS (k := 8) mok_8 ej_41 hj_41 dX7_dividesBy_65 (fun H locs hP hS => ?_)
        rw [← eS_42] at hP
        obtain ⟨x2_43, ex2_43⟩ : ∃ y : Int32, y = x2 + 1 := ⟨_, rfl⟩
        have h := h x2_43 ex2_43
        refine lv_iinc (v := x2_43) (lv' := [(2, .int x2_43), (0, .ref b), (1, .int p1)]) hx hb dX7_dividesBy_66 hl (k := 2) rfl (by rw [ex2_43]; rfl) (by decide) rfl (fun ls hl => ?_)
        refine lv_goto (tgt := 17) hx hb dX7_dividesBy_69 (by decide) ?_
        obtain ⟨mm, hmm, h⟩ := h
        exact ih17 mm hmm _ _ _ _ _ hP hS (lv_sub hl [1, 2, 0] rfl) h
      unfold wp_dividesBy_b17 at h
      refine lv_iload_n hx hb dX7_dividesBy_17 rfl (lv_at hl 2 rfl) ?_
      refine lv_sipush (v := 4096) hx hb dX7_dividesBy_18 (by decide) ?_
      refine lv_icmp_ge (tgt := 72) hx hb dX7_dividesBy_21 (by decide) (fun c_51 => ?_) (fun c_51 => ?_)
      · have h := h.1 c_51
        refine lv_iconst (v := 0) hx hb dX7_dividesBy_72 (by decide) ?_
        refine lv_istore_n (lv' := [(2, .int 0), (0, .ref b), (1, .int p1)]) hx hb dX7_dividesBy_73 rfl hl (by decide) rfl (fun ls hl => ?_)
        exact L74 _ _ _ _ _ h hP hS (lv_sub hl [1, 2, 0] rfl)
      · have h := h.2 c_51
        refine lv_aload_n hx hb dX7_dividesBy_24 rfl (lv_at hl 0 rfl) ?_
        refine m_get (v := .ref (b + 7)) hx hb hts hown hK hP 30 (by decide) q1240 rfl rfl dX7_dividesBy_25 ?_
        refine lv_iload_n hx hb dX7_dividesBy_28 rfl (lv_at hl 2 rfl) ?_
        refine lv_aload_n hx hb dX7_dividesBy_29 rfl (lv_at hl 0 rfl) ?_
        refine m_get (v := .ref (b + 6)) hx hb hts hown hK hP 28 (by decide) q1238 rfl rfl dX7_dividesBy_30 ?_
        refine lv_iload_n hx hb dX7_dividesBy_33 rfl (lv_at hl 2 rfl) ?_
        obtain ⟨j_44, hj_44, ej_44, h⟩ := h
        refine m_iald hx hb hK hP (k := 6) mok_6 ej_44 hj_44 dX7_dividesBy_34 ?_
        obtain ⟨j_45, hj_45, ej_45, h⟩ := h
        obtain ⟨S_46, eS_46⟩ : ∃ z : St, z = bw S 7 j_45 (S 6 j_44) := ⟨_, rfl⟩
        have h := h S_46 eS_46
        refine m_iast hx hb hK hP hS (k := 7) mok_7 ej_45 hj_45 dX7_dividesBy_35 (fun H locs hP hS => ?_)
        rw [← eS_46] at hP
        refine lv_aload_n hx hb dX7_dividesBy_36 rfl (lv_at hl 0 rfl) ?_
        refine lv_dup hx hb dX7_dividesBy_37 rfl ?_
        refine m_get (v := .int (S_46 0 36)) hx hb hts hown hK hP 36 (by decide) q1246 rfl rfl dX7_dividesBy_38 ?_
        refine lv_aload_n hx hb dX7_dividesBy_41 rfl (lv_at hl 0 rfl) ?_
        refine m_get (v := .ref (b + 7)) hx hb hts hown hK hP 30 (by decide) q1240 rfl rfl dX7_dividesBy_42 ?_
        refine lv_iload_n hx hb dX7_dividesBy_45 rfl (lv_at hl 2 rfl) ?_
        obtain ⟨j_47, hj_47, ej_47, h⟩ := h
        refine m_iald hx hb hK hP (k := 7) mok_7 ej_47 hj_47 dX7_dividesBy_46 ?_
        refine lv_if_eq (tgt := 54) hx hb dX7_dividesBy_47 (by decide) (fun c_50 => ?_) (fun c_50 => ?_)
        · have h := h.1 c_50
          refine lv_iconst (v := 0) hx hb dX7_dividesBy_54 (by decide) ?_
          refine lv_iadd hx hb dX7_dividesBy_55 ?_
          obtain ⟨S_48, eS_48⟩ : ∃ z : St, z = bw S_46 0 36 ((S_46 0 36) + 0) := ⟨_, rfl⟩
          have h := h S_48 eS_48
          refine m_put (S1 := S_48) (v := .int ((S_46 0 36) + 0)) (ty := .int) hx hb hts hown hK hP hS 36 (by decide) q1246 rfl rfl (tyX7_ok 36 (by decide)) rfl rfl (by rw [eS_48]; exact mset_36 b S_46 ((S_46 0 36) + 0)) (by rw [eS_48]; exact bw_0) dX7_dividesBy_56 (fun H locs hP hS => ?_)
          exact J59 _ _ _ _ _ h hP hS (lv_sub hl [0, 1, 2] rfl)
        · have h := h.2 c_50
          refine lv_iconst (v := 1) hx hb dX7_dividesBy_50 (by decide) ?_
          refine lv_goto (tgt := 55) hx hb dX7_dividesBy_51 (by decide) ?_
          refine lv_iadd hx hb dX7_dividesBy_55 ?_
          obtain ⟨S_49, eS_49⟩ : ∃ z : St, z = bw S_46 0 36 ((S_46 0 36) + 1) := ⟨_, rfl⟩
          have h := h S_49 eS_49
          refine m_put (S1 := S_49) (v := .int ((S_46 0 36) + 1)) (ty := .int) hx hb hts hown hK hP hS 36 (by decide) q1246 rfl rfl (tyX7_ok 36 (by decide)) rfl rfl (by rw [eS_49]; exact mset_36 b S_46 ((S_46 0 36) + 1)) (by rw [eS_49]; exact bw_0) dX7_dividesBy_56 (fun H locs hP hS => ?_)
          exact J59 _ _ _ _ _ h hP hS (lv_sub hl [0, 1, 2] rfl)
  unfold wp_dividesBy at h
  refine lv_aload_n hx hb dX7_dividesBy_0 rfl (lv_at hl 0 rfl) ?_
  refine lv_iconst (v := 0) hx hb dX7_dividesBy_1 (by decide) ?_
  obtain ⟨S_52, eS_52⟩ : ∃ z : St, z = bw S 0 36 0 := ⟨_, rfl⟩
  have h := h S_52 eS_52
  refine m_put (S1 := S_52) (v := .int 0) (ty := .int) hx hb hts hown hK hP hS 36 (by decide) q1246 rfl rfl (tyX7_ok 36 (by decide)) rfl rfl (by rw [eS_52]; exact mset_36 b S 0) (by rw [eS_52]; exact bw_0) dX7_dividesBy_2 (fun H locs hP hS => ?_)
  refine lv_aload_n hx hb dX7_dividesBy_5 rfl (lv_at hl 0 rfl) ?_
  refine lv_iconst (v := 0) hx hb dX7_dividesBy_6 (by decide) ?_
  obtain ⟨S_53, eS_53⟩ : ∃ z : St, z = bw S_52 0 37 0 := ⟨_, rfl⟩
  have h := h S_53 eS_53
  refine m_put (S1 := S_53) (v := .int 0) (ty := .int) hx hb hts hown hK hP hS 37 (by decide) q1247 rfl rfl (tyX7_ok 37 (by decide)) rfl rfl (by rw [eS_53]; exact mset_37 b S_52 0) (by rw [eS_53]; exact bw_0) dX7_dividesBy_7 (fun H locs hP hS => ?_)
  refine lv_aload_n hx hb dX7_dividesBy_10 rfl (lv_at hl 0 rfl) ?_
  refine lv_iconst (v := 0) hx hb dX7_dividesBy_11 (by decide) ?_
  obtain ⟨S_54, eS_54⟩ : ∃ z : St, z = bw S_53 0 38 0 := ⟨_, rfl⟩
  have h := h S_54 eS_54
  refine m_put (S1 := S_54) (v := .int 0) (ty := .int) hx hb hts hown hK hP hS 38 (by decide) q1248 rfl rfl (tyX7_ok 38 (by decide)) rfl rfl (by rw [eS_54]; exact mset_38 b S_53 0) (by rw [eS_54]; exact bw_0) dX7_dividesBy_12 (fun H locs hP hS => ?_)
  refine lv_iconst (v := 0) hx hb dX7_dividesBy_15 (by decide) ?_
  refine lv_istore_n (lv' := [(2, .int 0), (0, .ref b), (1, .int p1)]) hx hb dX7_dividesBy_16 rfl hl (by decide) rfl (fun ls hl => ?_)
  exact L17 _ _ _ _ _ h hP hS (lv_sub hl [1, 2, 0] rfl)
def wp_divided_b63 (p1 : Int32) (p2 : Int32) (p3 : Int32) (post : Int32 → St → Prop) (R63 : Int32 → Int32 → Prop)  (x5 : Int32) (x6 : Int32) (S : St) : Prop :=
      ((8 ≤ x6 →
        ((¬ p3 = 0 →
          ((¬ p3 = 1 →
            ((¬ p3 = 2 →
              wp_good (S 0 39) S (fun r_1 S_2 =>
              post r_1 S_2)) ∧
             (p3 = 2 →
              wp_good x5 S (fun r_3 S_4 =>
              post r_3 S_4)))) ∧
           (p3 = 1 →
            wp_good (S 0 37) S (fun r_6 S_7 =>
            post r_6 S_7)))) ∧
         (p3 = 0 →
          wp_good (S 0 38) S (fun r_9 S_10 =>
          post r_9 S_10)))) ∧
       (¬ (8 ≤ x6) →
        ∃ j_12 : Nat, j_12 < 8 ∧ x6 = nI j_12 ∧
        ∀ x5_13 : Int32, x5_13 = (x5 + (S 10 j_12)) →
        ∀ x6_14 : Int32, x6_14 = x6 + 1 →
        R63 x5_13 x6_14))
def wp_divided_l63 (p1 : Int32) (p2 : Int32) (p3 : Int32) (post : Int32 → St → Prop)  (x5 : Int32) (x6 : Int32) (S : St) : Prop := wLoop (fun (R : (Int32 × Int32) → Prop) (v : Int32 × Int32) => wp_divided_b63 p1 p2 p3 post (fun x5 x6 => R (x5, x6))  v.1 v.2 S) (x5, x6)
def wp_divided_j26 (p1 : Int32) (p2 : Int32) (p3 : Int32) (post : Int32 → St → Prop) (x4 : Int32) (S : St) : Prop :=
    ((x4 ≤ 0 →
      wp_laysRegister p1 S (fun S_17 =>
      wp_dividesBy p2 S_17 (fun r_18 S_19 =>
      ((¬ r_18 = 0 →
        wp_divided_l63 p1 p2 p3 post 0 0 S_19) ∧
       (r_18 = 0 →
        wp_refused 3 S_19 (fun r_20 S_21 =>
        post r_20 S_21)))))) ∧
     (¬ (x4 ≤ 0) →
      wp_refused x4 S (fun r_23 S_24 =>
      post r_23 S_24)))
def wp_divided (p1 : Int32) (p2 : Int32) (p3 : Int32) (S : St) (post : Int32 → St → Prop) : Prop :=
  ∀ S_26 : St, S_26 = bw S 0 0 0 →
  wp_in p3 0 3 S_26 (fun r_27 =>
  ((¬ r_27 = 0 →
    wp_refusesDivision p1 p2 S_26 (fun r_29 =>
    wp_divided_j26 p1 p2 p3 post r_29 S_26)) ∧
   (r_27 = 0 →
    wp_divided_j26 p1 p2 p3 post 1 S_26)))
set_option maxHeartbeats 4000000 in
theorem met_divided (l : Launch) (D : va_G) (cI cB : ClassId) (b : Nat) (p1 : Int32) (p2 : Int32) (p3 : Int32)  (S : St) (post : Int32 → St → Prop) (h : wp_divided p1 p2 p3 S post) : Met l yX7_divided (ws_ yX7_divided cX7_divided 7 (some .int)) ({ frames := 5, cells := 0, slots := 0, locals := 110 } : Room) (mPc D cI cB b [.ref b, .int p1, .int p2, .int p3] S) (mQi D cI cB b post) 0 0 (mA b) := by
  refine Met.ofW (cc := cX7_divided) (maxL := 7) (ret := (some .int)) (by decide) rfl ?_
  intro p e s m args below meth c s₁ B hml hv
  obtain ⟨rfl, hP, hK⟩ := hv
  have hx := B.exec
  have hb := B.bytes
  have hr := B.returns
  have hts := atoms_spec (ws := ws_ yX7_divided cX7_divided 7 (some .int)) B.pre
  have hts : ∀ w ∈ lw_all, w.before _ s = true := fun w h => hts w (List.mem_cons_of_mem _ h)
  have hown : s.vm.findClass RX7 = some m.cls := findClass_of_methodNamed B.named
  have hlocks := B.notSynchronized
  have hS : va_S (mA b) s.heap s.heap [] := va_S.rf
  have hl := lv_entry ([.ref b, .int p1, .int p2, .int p3]) (n := 7) (Nat.le_of_ble_eq_true rfl)
  rw [lg_entry_eq]
  generalize (lg_sl ([.ref b, .int p1, .int p2, .int p3]) ++ List.replicate (7 - (lg_sl ([.ref b, .int p1, .int p2, .int p3])).length) Slot.unset).toArray = ls at hl ⊢
  have hl : lv_has ls 7 [(0, .ref b), (1, .int p1), (2, .int p2), (3, .int p3)] := hl
  have L63 : ∀  (x5 : Int32) (x6 : Int32) (S : St) (H : Heap) (locs : List Loc) (ls : Array Slot), wp_divided_l63 p1 p2 p3 post  x5 x6 S → mW D cI cB b S H → va_S (mA b) s.heap H locs → lv_has ls 7 [(0, .ref b), (3, .int p3), (5, .int x5), (6, .int x6)] → W p l e (headSpec (ws_ yX7_divided cX7_divided 7 (some .int)) ({ frames := 5, cells := 0, slots := 0, locals := 110 } : Room)).room s m ([.ref b, .int p1, .int p2, .int p3] : List Value).toArray below meth c H locs 0 0 (MQ below (mQi D cI cB b post) ([.ref b, .int p1, .int p2, .int p3] : List Value).toArray s 0 0 (mA b)) (F0 m 63 ls []) := by
    intro  x5 x6 S H locs ls h hP hS hl
    obtain ⟨I63, n63, hI, hstep63⟩ := h
    induction n63 using Nat.strongRecOn generalizing x5 x6 H locs ls with
    | ind n63 ih63 =>
      have h : wp_divided_b63 p1 p2 p3 post (fun x5 x6 => ∃ mm, mm < n63 ∧ I63 mm (x5, x6))  x5 x6 S := hstep63 n63 _ hI
      clear hI
      unfold wp_divided_b63 at h
      refine lv_iload hx hb dX7_divided_63 (lv_at hl 3 rfl) ?_
      refine lv_bipush (v := 8) hx hb dX7_divided_65 (by decide) ?_
      refine lv_icmp_ge (tgt := 88) hx hb dX7_divided_67 (by decide) (fun c_15 => ?_) (fun c_15 => ?_)
      · have h := h.1 c_15
        refine lv_aload_n hx hb dX7_divided_88 rfl (lv_at hl 0 rfl) ?_
        refine lv_iload_n hx hb dX7_divided_89 rfl (lv_at hl 1 rfl) ?_
        refine lv_if_ne (tgt := 100) hx hb dX7_divided_90 (by decide) (fun c_11 => ?_) (fun c_11 => ?_)
        · have h := h.1 c_11
          refine lv_iload_n hx hb dX7_divided_100 rfl (lv_at hl 1 rfl) ?_
          refine lv_iconst (v := 1) hx hb dX7_divided_101 (by decide) ?_
          refine lv_icmp_ne (tgt := 112) hx hb dX7_divided_102 (by decide) (fun c_8 => ?_) (fun c_8 => ?_)
          · have h := h.1 c_8
            refine lv_iload_n hx hb dX7_divided_112 rfl (lv_at hl 1 rfl) ?_
            refine lv_iconst (v := 2) hx hb dX7_divided_113 (by decide) ?_
            refine lv_icmp_ne (tgt := 122) hx hb dX7_divided_114 (by decide) (fun c_5 => ?_) (fun c_5 => ?_)
            · have h := h.1 c_5
              refine lv_aload_n hx hb dX7_divided_122 rfl (lv_at hl 0 rfl) ?_
              refine m_get (v := .int (S 0 39)) hx hb hts hown hK hP 39 (by decide) q1249 rfl rfl dX7_divided_123 ?_
              refine m_cVi (As := [.int (S 0 39)]) (rest := []) ⟨hx, hb, hml, hown, hts⟩ (met_good l D cI cB b (S 0 39)  S _ h) (cwV 1 hts (lw_V q1498 q1500 qs76 q128 q1501) rfl rfl rfl cwd_good ⟨Nat.le_of_ble_eq_true rfl, Nat.le_of_ble_eq_true rfl⟩) hK hP hS rfl hl.1 rfl (Nat.le_of_ble_eq_true rfl) dX7_divided_126 ⟨Nat.zero_le _, Nat.zero_le _⟩ (fun r_1 S_2 H locs h hP hS => ?_)
              exact W.iret (v := r_1) hx hb hr (fun t ht hW => ⟨⟨r_1, S_2, rfl, h, by rw [ht]; exact hP, va_K.moved hW.alike hK⟩, hS.F ht⟩) hS.2.2 dX7_divided_129
            · have h := h.2 c_5
              refine lv_iload hx hb dX7_divided_117 (lv_at hl 2 rfl) ?_
              refine lv_goto (tgt := 126) hx hb dX7_divided_119 (by decide) ?_
              refine m_cVi (As := [.int x5]) (rest := []) ⟨hx, hb, hml, hown, hts⟩ (met_good l D cI cB b x5  S _ h) (cwV 1 hts (lw_V q1498 q1500 qs76 q128 q1501) rfl rfl rfl cwd_good ⟨Nat.le_of_ble_eq_true rfl, Nat.le_of_ble_eq_true rfl⟩) hK hP hS rfl hl.1 rfl (Nat.le_of_ble_eq_true rfl) dX7_divided_126 ⟨Nat.zero_le _, Nat.zero_le _⟩ (fun r_3 S_4 H locs h hP hS => ?_)
              exact W.iret (v := r_3) hx hb hr (fun t ht hW => ⟨⟨r_3, S_4, rfl, h, by rw [ht]; exact hP, va_K.moved hW.alike hK⟩, hS.F ht⟩) hS.2.2 dX7_divided_129
          · have h := h.2 c_8
            refine lv_aload_n hx hb dX7_divided_105 rfl (lv_at hl 0 rfl) ?_
            refine m_get (v := .int (S 0 37)) hx hb hts hown hK hP 37 (by decide) q1247 rfl rfl dX7_divided_106 ?_
            refine lv_goto (tgt := 126) hx hb dX7_divided_109 (by decide) ?_
            refine m_cVi (As := [.int (S 0 37)]) (rest := []) ⟨hx, hb, hml, hown, hts⟩ (met_good l D cI cB b (S 0 37)  S _ h) (cwV 1 hts (lw_V q1498 q1500 qs76 q128 q1501) rfl rfl rfl cwd_good ⟨Nat.le_of_ble_eq_true rfl, Nat.le_of_ble_eq_true rfl⟩) hK hP hS rfl hl.1 rfl (Nat.le_of_ble_eq_true rfl) dX7_divided_126 ⟨Nat.zero_le _, Nat.zero_le _⟩ (fun r_6 S_7 H locs h hP hS => ?_)
            exact W.iret (v := r_6) hx hb hr (fun t ht hW => ⟨⟨r_6, S_7, rfl, h, by rw [ht]; exact hP, va_K.moved hW.alike hK⟩, hS.F ht⟩) hS.2.2 dX7_divided_129
        · have h := h.2 c_11
          refine lv_aload_n hx hb dX7_divided_93 rfl (lv_at hl 0 rfl) ?_
          refine m_get (v := .int (S 0 38)) hx hb hts hown hK hP 38 (by decide) q1248 rfl rfl dX7_divided_94 ?_
          refine lv_goto (tgt := 126) hx hb dX7_divided_97 (by decide) ?_
          refine m_cVi (As := [.int (S 0 38)]) (rest := []) ⟨hx, hb, hml, hown, hts⟩ (met_good l D cI cB b (S 0 38)  S _ h) (cwV 1 hts (lw_V q1498 q1500 qs76 q128 q1501) rfl rfl rfl cwd_good ⟨Nat.le_of_ble_eq_true rfl, Nat.le_of_ble_eq_true rfl⟩) hK hP hS rfl hl.1 rfl (Nat.le_of_ble_eq_true rfl) dX7_divided_126 ⟨Nat.zero_le _, Nat.zero_le _⟩ (fun r_9 S_10 H locs h hP hS => ?_)
          exact W.iret (v := r_9) hx hb hr (fun t ht hW => ⟨⟨r_9, S_10, rfl, h, by rw [ht]; exact hP, va_K.moved hW.alike hK⟩, hS.F ht⟩) hS.2.2 dX7_divided_129
      · have h := h.2 c_15
        refine lv_iload hx hb dX7_divided_70 (lv_at hl 2 rfl) ?_
        refine lv_aload_n hx hb dX7_divided_72 rfl (lv_at hl 0 rfl) ?_
        refine m_get (v := .ref (b + 10)) hx hb hts hown hK hP 33 (by decide) q1243 rfl rfl dX7_divided_73 ?_
        refine lv_iload hx hb dX7_divided_76 (lv_at hl 3 rfl) ?_
        obtain ⟨j_12, hj_12, ej_12, h⟩ := h
        refine m_iald hx hb hK hP (k := 10) mok_10 ej_12 hj_12 dX7_divided_78 ?_
        refine lv_iadd hx hb dX7_divided_79 ?_
        refine lv_topi (fun x5_13 ex5_13 => ?_)
        have h := h x5_13 ex5_13
        refine lv_istore (lv' := [(5, .int x5_13), (0, .ref b), (3, .int p3), (6, .int x6)]) hx hb dX7_divided_80 hl (by decide) rfl (fun ls hl => ?_)
        obtain ⟨x6_14, ex6_14⟩ : ∃ y : Int32, y = x6 + 1 := ⟨_, rfl⟩
        have h := h x6_14 ex6_14
        refine lv_iinc (v := x6_14) (lv' := [(6, .int x6_14), (5, .int x5_13), (0, .ref b), (3, .int p3)]) hx hb dX7_divided_82 hl (k := 3) rfl (by rw [ex6_14]; rfl) (by decide) rfl (fun ls hl => ?_)
        refine lv_goto (tgt := 63) hx hb dX7_divided_85 (by decide) ?_
        obtain ⟨mm, hmm, h⟩ := h
        exact ih63 mm hmm _ _ _ _ _ hP hS (lv_sub hl [2, 3, 1, 0] rfl) h
  have J26 : ∀ (x4 : Int32) (S : St) (H : Heap) (locs : List Loc) (ls : Array Slot), wp_divided_j26 p1 p2 p3 post x4 S → mW D cI cB b S H → va_S (mA b) s.heap H locs → lv_has ls 7 [(0, .ref b), (1, .int p1), (2, .int p2), (3, .int p3), (4, .int x4)] → W p l e (headSpec (ws_ yX7_divided cX7_divided 7 (some .int)) ({ frames := 5, cells := 0, slots := 0, locals := 110 } : Room)).room s m ([.ref b, .int p1, .int p2, .int p3] : List Value).toArray below meth c H locs 0 0 (MQ below (mQi D cI cB b post) ([.ref b, .int p1, .int p2, .int p3] : List Value).toArray s 0 0 (mA b)) (F0 m 26 ls []) := by
    intro x4 S H locs ls h hP hS hl
    unfold wp_divided_j26 at h
    refine lv_iload hx hb dX7_divided_26 (lv_at hl 4 rfl) ?_
    refine lv_if_le (tgt := 38) hx hb dX7_divided_28 (by decide) (fun c_25 => ?_) (fun c_25 => ?_)
    · have h := h.1 c_25
      refine lv_aload_n hx hb dX7_divided_38 rfl (lv_at hl 0 rfl) ?_
      refine lv_iload_n hx hb dX7_divided_39 rfl (lv_at hl 1 rfl) ?_
      refine m_cVv (As := [.int p1]) (rest := []) ⟨hx, hb, hml, hown, hts⟩ (met_laysRegister l D cI cB b p1  S _ h) (cwV 1 hts (lw_V q1627 q1629 qs89 q128 q1630) rfl rfl rfl cwd_laysRegister ⟨Nat.le_of_ble_eq_true rfl, Nat.le_of_ble_eq_true rfl⟩) hK hP hS rfl hl.1 rfl (Nat.le_of_ble_eq_true rfl) dX7_divided_40 ⟨Nat.zero_le _, Nat.zero_le _⟩ (fun S_17 H locs h hP hS => ?_)
      refine lv_aload_n hx hb dX7_divided_43 rfl (lv_at hl 0 rfl) ?_
      refine lv_iload_n hx hb dX7_divided_44 rfl (lv_at hl 2 rfl) ?_
      refine m_cVi (As := [.int p2]) (rest := []) ⟨hx, hb, hml, hown, hts⟩ (met_dividesBy l D cI cB b p2  S_17 _ h) (cwV 1 hts (lw_V q1631 q1633 qs90 q128 q1634) rfl rfl rfl cwd_dividesBy ⟨Nat.le_of_ble_eq_true rfl, Nat.le_of_ble_eq_true rfl⟩) hK hP hS rfl hl.1 rfl (Nat.le_of_ble_eq_true rfl) dX7_divided_45 ⟨Nat.zero_le _, Nat.zero_le _⟩ (fun r_18 S_19 H locs h hP hS => ?_)
      refine lv_if_ne (tgt := 57) hx hb dX7_divided_48 (by decide) (fun c_22 => ?_) (fun c_22 => ?_)
      · have h := h.1 c_22
        refine lv_iconst (v := 0) hx hb dX7_divided_57 (by decide) ?_
        refine lv_istore (lv' := [(5, .int 0), (0, .ref b), (1, .int p1), (2, .int p2), (3, .int p3), (4, .int x4)]) hx hb dX7_divided_58 hl (by decide) rfl (fun ls hl => ?_)
        refine lv_iconst (v := 0) hx hb dX7_divided_60 (by decide) ?_
        refine lv_istore (lv' := [(6, .int 0), (5, .int 0), (0, .ref b), (1, .int p1), (2, .int p2), (3, .int p3), (4, .int x4)]) hx hb dX7_divided_61 hl (by decide) rfl (fun ls hl => ?_)
        exact L63 _ _ _ _ _ _ h hP hS (lv_sub hl [2, 5, 1, 0] rfl)
      · have h := h.2 c_22
        refine lv_aload_n hx hb dX7_divided_51 rfl (lv_at hl 0 rfl) ?_
        refine lv_iconst (v := 3) hx hb dX7_divided_52 (by decide) ?_
        refine m_cVi (As := [.int 3]) (rest := []) ⟨hx, hb, hml, hown, hts⟩ (met_refused l D cI cB b 3  S_19 _ h) (cwV 1 hts (lw_V q1382 q1384 qs58 q128 q1385) rfl rfl rfl cwd_refused ⟨Nat.le_of_ble_eq_true rfl, Nat.le_of_ble_eq_true rfl⟩) hK hP hS rfl hl.1 rfl (Nat.le_of_ble_eq_true rfl) dX7_divided_53 ⟨Nat.zero_le _, Nat.zero_le _⟩ (fun r_20 S_21 H locs h hP hS => ?_)
        exact W.iret (v := r_20) hx hb hr (fun t ht hW => ⟨⟨r_20, S_21, rfl, h, by rw [ht]; exact hP, va_K.moved hW.alike hK⟩, hS.F ht⟩) hS.2.2 dX7_divided_56
    · have h := h.2 c_25
      refine lv_aload_n hx hb dX7_divided_31 rfl (lv_at hl 0 rfl) ?_
      refine lv_iload hx hb dX7_divided_32 (lv_at hl 4 rfl) ?_
      refine m_cVi (As := [.int x4]) (rest := []) ⟨hx, hb, hml, hown, hts⟩ (met_refused l D cI cB b x4  S _ h) (cwV 1 hts (lw_V q1382 q1384 qs58 q128 q1385) rfl rfl rfl cwd_refused ⟨Nat.le_of_ble_eq_true rfl, Nat.le_of_ble_eq_true rfl⟩) hK hP hS rfl hl.1 rfl (Nat.le_of_ble_eq_true rfl) dX7_divided_34 ⟨Nat.zero_le _, Nat.zero_le _⟩ (fun r_23 S_24 H locs h hP hS => ?_)
      exact W.iret (v := r_23) hx hb hr (fun t ht hW => ⟨⟨r_23, S_24, rfl, h, by rw [ht]; exact hP, va_K.moved hW.alike hK⟩, hS.F ht⟩) hS.2.2 dX7_divided_37
  unfold wp_divided at h
  refine lv_aload_n hx hb dX7_divided_0 rfl (lv_at hl 0 rfl) ?_
  refine lv_iconst (v := 0) hx hb dX7_divided_1 (by decide) ?_
  obtain ⟨S_26, eS_26⟩ : ∃ z : St, z = bw S 0 0 0 := ⟨_, rfl⟩
  have h := h S_26 eS_26
  refine m_put (S1 := S_26) (v := .int 0) (ty := .int) hx hb hts hown hK hP hS 0 (by decide) q1210 rfl rfl (tyX7_ok 0 (by decide)) rfl rfl (by rw [eS_26]; exact mset_0 b S 0) (by rw [eS_26]; exact bw_0) dX7_divided_2 (fun H locs hP hS => ?_)
  refine lv_iload_n hx hb dX7_divided_5 rfl (lv_at hl 3 rfl) ?_
  refine lv_iconst (v := 0) hx hb dX7_divided_6 (by decide) ?_
  refine lv_iconst (v := 3) hx hb dX7_divided_7 (by decide) ?_
  refine m_cSp (As := [.int p3, .int 0, .int 3]) (rest := []) ⟨hx, hb, hml, hown, hts⟩ (met_in l D cI cB b p3 0 3  S_26 _ h) (va_cwS 3 hts (lw_S q1398 q1399 q128 q1400) rfl rfl rfl cwd_in ⟨Nat.le_of_ble_eq_true rfl, Nat.le_of_ble_eq_true rfl⟩) hK hP hS rfl hl.1 rfl (Nat.le_of_ble_eq_true rfl) dX7_divided_8 ⟨Nat.zero_le _, Nat.zero_le _⟩ (fun r_27 H locs h hP hS => ?_)
  refine lv_if_ne (tgt := 18) hx hb dX7_divided_11 (by decide) (fun c_31 => ?_) (fun c_31 => ?_)
  · have h := h.1 c_31
    refine lv_aload_n hx hb dX7_divided_18 rfl (lv_at hl 0 rfl) ?_
    refine lv_iload_n hx hb dX7_divided_19 rfl (lv_at hl 1 rfl) ?_
    refine lv_iload_n hx hb dX7_divided_20 rfl (lv_at hl 2 rfl) ?_
    refine m_cVp (As := [.int p1, .int p2]) (rest := []) ⟨hx, hb, hml, hown, hts⟩ (met_refusesDivision l D cI cB b p1 p2  S_26 _ h) (cwV 2 hts (lw_V q1619 q1621 qs87 q128 q1622) rfl rfl rfl cwd_refusesDivision ⟨Nat.le_of_ble_eq_true rfl, Nat.le_of_ble_eq_true rfl⟩) hK hP hS rfl hl.1 rfl (Nat.le_of_ble_eq_true rfl) dX7_divided_21 ⟨Nat.zero_le _, Nat.zero_le _⟩ (fun r_29 H locs h hP hS => ?_)
    refine lv_istore (lv' := [(4, .int r_29), (0, .ref b), (1, .int p1), (2, .int p2), (3, .int p3)]) hx hb dX7_divided_24 hl (by decide) rfl (fun ls hl => ?_)
    exact J26 _ _ _ _ _ h hP hS (lv_sub hl [1, 2, 3, 4, 0] rfl)
  · have h := h.2 c_31
    refine lv_iconst (v := 1) hx hb dX7_divided_14 (by decide) ?_
    refine lv_goto (tgt := 24) hx hb dX7_divided_15 (by decide) ?_
    refine lv_istore (lv' := [(4, .int 1), (0, .ref b), (1, .int p1), (2, .int p2), (3, .int p3)]) hx hb dX7_divided_24 hl (by decide) rfl (fun ls hl => ?_)
    exact J26 _ _ _ _ _ h hP hS (lv_sub hl [1, 2, 3, 4, 0] rfl)
def wp_divides_j21 (p1 : Int32) (p2 : Int32) (post : Int32 → St → Prop)  (S : St) : Prop :=
    wp_refused 1 S (fun r_1 S_2 =>
    post r_1 S_2)
def wp_divides (p1 : Int32) (p2 : Int32) (S : St) (post : Int32 → St → Prop) : Prop :=
  ∀ S_3 : St, S_3 = bw S 0 0 0 →
  wp_isReg p1 S_3 (fun r_4 =>
  ((r_4 = 0 →
    wp_divides_j21 p1 p2 post  S_3) ∧
   (¬ (r_4 = 0) →
    wp_isReg p2 S_3 (fun r_6 =>
    ((¬ r_6 = 0 →
      wp_isZero p1 S_3 (fun r_8 =>
      ((r_8 = 0 →
        wp_laysRegister p2 S_3 (fun S_11 =>
        wp_dividesBy (jshl 1 p1) S_11 (fun r_12 S_13 =>
        ((r_12 = 0 →
          wp_refused 3 S_13 (fun r_14 S_15 =>
          post r_14 S_15)) ∧
         (¬ (r_12 = 0) →
          ((¬ (S_13 0 37) = 0 →
            wp_good 0 S_13 (fun r_16 S_17 =>
            post r_16 S_17)) ∧
           ((S_13 0 37) = 0 →
            wp_good 1 S_13 (fun r_18 S_19 =>
            post r_18 S_19)))))))) ∧
       (¬ (r_8 = 0) →
        wp_refused 5 S_3 (fun r_22 S_23 =>
        post r_22 S_23))))) ∧
     (r_6 = 0 →
      wp_divides_j21 p1 p2 post  S_3))))))
set_option maxHeartbeats 4000000 in
theorem met_divides (l : Launch) (D : va_G) (cI cB : ClassId) (b : Nat) (p1 : Int32) (p2 : Int32)  (S : St) (post : Int32 → St → Prop) (h : wp_divides p1 p2 S post) : Met l yX7_divides (ws_ yX7_divides cX7_divides 3 (some .int)) ({ frames := 4, cells := 0, slots := 0, locals := 93 } : Room) (mPc D cI cB b [.ref b, .int p1, .int p2] S) (mQi D cI cB b post) 0 0 (mA b) := by
  refine Met.ofW (cc := cX7_divides) (maxL := 3) (ret := (some .int)) (by decide) rfl ?_
  intro p e s m args below meth c s₁ B hml hv
  obtain ⟨rfl, hP, hK⟩ := hv
  have hx := B.exec
  have hb := B.bytes
  have hr := B.returns
  have hts := atoms_spec (ws := ws_ yX7_divides cX7_divides 3 (some .int)) B.pre
  have hts : ∀ w ∈ lw_all, w.before _ s = true := fun w h => hts w (List.mem_cons_of_mem _ h)
  have hown : s.vm.findClass RX7 = some m.cls := findClass_of_methodNamed B.named
  have hlocks := B.notSynchronized
  have hS : va_S (mA b) s.heap s.heap [] := va_S.rf
  have hl := lv_entry ([.ref b, .int p1, .int p2]) (n := 3) (Nat.le_of_ble_eq_true rfl)
  rw [lg_entry_eq]
  generalize (lg_sl ([.ref b, .int p1, .int p2]) ++ List.replicate (3 - (lg_sl ([.ref b, .int p1, .int p2])).length) Slot.unset).toArray = ls at hl ⊢
  have hl : lv_has ls 3 [(0, .ref b), (1, .int p1), (2, .int p2)] := hl
  have J21 : ∀  (S : St) (H : Heap) (locs : List Loc) (ls : Array Slot), wp_divides_j21 p1 p2 post  S → mW D cI cB b S H → va_S (mA b) s.heap H locs → lv_has ls 3 [(0, .ref b)] → W p l e (headSpec (ws_ yX7_divides cX7_divides 3 (some .int)) ({ frames := 4, cells := 0, slots := 0, locals := 93 } : Room)).room s m ([.ref b, .int p1, .int p2] : List Value).toArray below meth c H locs 0 0 (MQ below (mQi D cI cB b post) ([.ref b, .int p1, .int p2] : List Value).toArray s 0 0 (mA b)) (F0 m 21 ls []) := by
    intro  S H locs ls h hP hS hl
    unfold wp_divides_j21 at h
    refine lv_aload_n hx hb dX7_divides_21 rfl (lv_at hl 0 rfl) ?_
    refine lv_iconst (v := 1) hx hb dX7_divides_22 (by decide) ?_
    refine m_cVi (As := [.int 1]) (rest := []) ⟨hx, hb, hml, hown, hts⟩ (met_refused l D cI cB b 1  S _ h) (cwV 1 hts (lw_V q1382 q1384 qs58 q128 q1385) rfl rfl rfl cwd_refused ⟨Nat.le_of_ble_eq_true rfl, Nat.le_of_ble_eq_true rfl⟩) hK hP hS rfl hl.1 rfl (Nat.le_of_ble_eq_true rfl) dX7_divides_23 ⟨Nat.zero_le _, Nat.zero_le _⟩ (fun r_1 S_2 H locs h hP hS => ?_)
    exact W.iret (v := r_1) hx hb hr (fun t ht hW => ⟨⟨r_1, S_2, rfl, h, by rw [ht]; exact hP, va_K.moved hW.alike hK⟩, hS.F ht⟩) hS.2.2 dX7_divides_26
  unfold wp_divides at h
  refine lv_aload_n hx hb dX7_divides_0 rfl (lv_at hl 0 rfl) ?_
  refine lv_iconst (v := 0) hx hb dX7_divides_1 (by decide) ?_
  obtain ⟨S_3, eS_3⟩ : ∃ z : St, z = bw S 0 0 0 := ⟨_, rfl⟩
  have h := h S_3 eS_3
  refine m_put (S1 := S_3) (v := .int 0) (ty := .int) hx hb hts hown hK hP hS 0 (by decide) q1210 rfl rfl (tyX7_ok 0 (by decide)) rfl rfl (by rw [eS_3]; exact mset_0 b S 0) (by rw [eS_3]; exact bw_0) dX7_divides_2 (fun H locs hP hS => ?_)
  refine lv_aload_n hx hb dX7_divides_5 rfl (lv_at hl 0 rfl) ?_
  refine lv_iload_n hx hb dX7_divides_6 rfl (lv_at hl 1 rfl) ?_
  refine m_cVp (As := [.int p1]) (rest := []) ⟨hx, hb, hml, hown, hts⟩ (met_isReg l D cI cB b p1  S_3 _ h) (cwV 1 hts (lw_V q1534 q1536 qs81 q128 q1537) rfl rfl rfl cwd_isReg ⟨Nat.le_of_ble_eq_true rfl, Nat.le_of_ble_eq_true rfl⟩) hK hP hS rfl hl.1 rfl (Nat.le_of_ble_eq_true rfl) dX7_divides_7 ⟨Nat.zero_le _, Nat.zero_le _⟩ (fun r_4 H locs h hP hS => ?_)
  refine lv_if_eq (tgt := 21) hx hb dX7_divides_10 (by decide) (fun c_26 => ?_) (fun c_26 => ?_)
  · have h := h.1 c_26
    exact J21  _ _ _ _ h hP hS (lv_sub hl [0] rfl)
  · have h := h.2 c_26
    refine lv_aload_n hx hb dX7_divides_13 rfl (lv_at hl 0 rfl) ?_
    refine lv_iload_n hx hb dX7_divides_14 rfl (lv_at hl 2 rfl) ?_
    refine m_cVp (As := [.int p2]) (rest := []) ⟨hx, hb, hml, hown, hts⟩ (met_isReg l D cI cB b p2  S_3 _ h) (cwV 1 hts (lw_V q1534 q1536 qs81 q128 q1537) rfl rfl rfl cwd_isReg ⟨Nat.le_of_ble_eq_true rfl, Nat.le_of_ble_eq_true rfl⟩) hK hP hS rfl hl.1 rfl (Nat.le_of_ble_eq_true rfl) dX7_divides_15 ⟨Nat.zero_le _, Nat.zero_le _⟩ (fun r_6 H locs h hP hS => ?_)
    refine lv_if_ne (tgt := 27) hx hb dX7_divides_18 (by decide) (fun c_25 => ?_) (fun c_25 => ?_)
    · have h := h.1 c_25
      refine lv_aload_n hx hb dX7_divides_27 rfl (lv_at hl 0 rfl) ?_
      refine lv_iload_n hx hb dX7_divides_28 rfl (lv_at hl 1 rfl) ?_
      refine m_cVp (As := [.int p1]) (rest := []) ⟨hx, hb, hml, hown, hts⟩ (met_isZero l D cI cB b p1  S_3 _ h) (cwV 1 hts (lw_V q1518 q1520 qs78 q128 q1521) rfl rfl rfl cwd_isZero ⟨Nat.le_of_ble_eq_true rfl, Nat.le_of_ble_eq_true rfl⟩) hK hP hS rfl hl.1 rfl (Nat.le_of_ble_eq_true rfl) dX7_divides_29 ⟨Nat.zero_le _, Nat.zero_le _⟩ (fun r_8 H locs h hP hS => ?_)
      refine lv_if_eq (tgt := 41) hx hb dX7_divides_32 (by decide) (fun c_24 => ?_) (fun c_24 => ?_)
      · have h := h.1 c_24
        refine lv_aload_n hx hb dX7_divides_41 rfl (lv_at hl 0 rfl) ?_
        refine lv_iload_n hx hb dX7_divides_42 rfl (lv_at hl 2 rfl) ?_
        refine m_cVv (As := [.int p2]) (rest := []) ⟨hx, hb, hml, hown, hts⟩ (met_laysRegister l D cI cB b p2  S_3 _ h) (cwV 1 hts (lw_V q1627 q1629 qs89 q128 q1630) rfl rfl rfl cwd_laysRegister ⟨Nat.le_of_ble_eq_true rfl, Nat.le_of_ble_eq_true rfl⟩) hK hP hS rfl hl.1 rfl (Nat.le_of_ble_eq_true rfl) dX7_divides_43 ⟨Nat.zero_le _, Nat.zero_le _⟩ (fun S_11 H locs h hP hS => ?_)
        refine lv_aload_n hx hb dX7_divides_46 rfl (lv_at hl 0 rfl) ?_
        refine lv_iconst (v := 1) hx hb dX7_divides_47 (by decide) ?_
        refine lv_iload_n hx hb dX7_divides_48 rfl (lv_at hl 1 rfl) ?_
        refine m_ishl hx hb dX7_divides_49 ?_
        refine m_cVi (As := [.int (jshl 1 p1)]) (rest := []) ⟨hx, hb, hml, hown, hts⟩ (met_dividesBy l D cI cB b (jshl 1 p1)  S_11 _ h) (cwV 1 hts (lw_V q1631 q1633 qs90 q128 q1634) rfl rfl rfl cwd_dividesBy ⟨Nat.le_of_ble_eq_true rfl, Nat.le_of_ble_eq_true rfl⟩) hK hP hS rfl hl.1 rfl (Nat.le_of_ble_eq_true rfl) dX7_divides_50 ⟨Nat.zero_le _, Nat.zero_le _⟩ (fun r_12 S_13 H locs h hP hS => ?_)
        refine lv_if_eq (tgt := 75) hx hb dX7_divides_53 (by decide) (fun c_21 => ?_) (fun c_21 => ?_)
        · have h := h.1 c_21
          refine lv_aload_n hx hb dX7_divides_75 rfl (lv_at hl 0 rfl) ?_
          refine lv_iconst (v := 3) hx hb dX7_divides_76 (by decide) ?_
          refine m_cVi (As := [.int 3]) (rest := []) ⟨hx, hb, hml, hown, hts⟩ (met_refused l D cI cB b 3  S_13 _ h) (cwV 1 hts (lw_V q1382 q1384 qs58 q128 q1385) rfl rfl rfl cwd_refused ⟨Nat.le_of_ble_eq_true rfl, Nat.le_of_ble_eq_true rfl⟩) hK hP hS rfl hl.1 rfl (Nat.le_of_ble_eq_true rfl) dX7_divides_77 ⟨Nat.zero_le _, Nat.zero_le _⟩ (fun r_14 S_15 H locs h hP hS => ?_)
          exact W.iret (v := r_14) hx hb hr (fun t ht hW => ⟨⟨r_14, S_15, rfl, h, by rw [ht]; exact hP, va_K.moved hW.alike hK⟩, hS.F ht⟩) hS.2.2 dX7_divides_80
        · have h := h.2 c_21
          refine lv_aload_n hx hb dX7_divides_56 rfl (lv_at hl 0 rfl) ?_
          refine lv_aload_n hx hb dX7_divides_57 rfl (lv_at hl 0 rfl) ?_
          refine m_get (v := .int (S_13 0 37)) hx hb hts hown hK hP 37 (by decide) q1247 rfl rfl dX7_divides_58 ?_
          refine lv_if_ne (tgt := 68) hx hb dX7_divides_61 (by decide) (fun c_20 => ?_) (fun c_20 => ?_)
          · have h := h.1 c_20
            refine lv_iconst (v := 0) hx hb dX7_divides_68 (by decide) ?_
            refine m_cVi (As := [.int 0]) (rest := []) ⟨hx, hb, hml, hown, hts⟩ (met_good l D cI cB b 0  S_13 _ h) (cwV 1 hts (lw_V q1498 q1500 qs76 q128 q1501) rfl rfl rfl cwd_good ⟨Nat.le_of_ble_eq_true rfl, Nat.le_of_ble_eq_true rfl⟩) hK hP hS rfl hl.1 rfl (Nat.le_of_ble_eq_true rfl) dX7_divides_69 ⟨Nat.zero_le _, Nat.zero_le _⟩ (fun r_16 S_17 H locs h hP hS => ?_)
            refine lv_goto (tgt := 80) hx hb dX7_divides_72 (by decide) ?_
            exact W.iret (v := r_16) hx hb hr (fun t ht hW => ⟨⟨r_16, S_17, rfl, h, by rw [ht]; exact hP, va_K.moved hW.alike hK⟩, hS.F ht⟩) hS.2.2 dX7_divides_80
          · have h := h.2 c_20
            refine lv_iconst (v := 1) hx hb dX7_divides_64 (by decide) ?_
            refine lv_goto (tgt := 69) hx hb dX7_divides_65 (by decide) ?_
            refine m_cVi (As := [.int 1]) (rest := []) ⟨hx, hb, hml, hown, hts⟩ (met_good l D cI cB b 1  S_13 _ h) (cwV 1 hts (lw_V q1498 q1500 qs76 q128 q1501) rfl rfl rfl cwd_good ⟨Nat.le_of_ble_eq_true rfl, Nat.le_of_ble_eq_true rfl⟩) hK hP hS rfl hl.1 rfl (Nat.le_of_ble_eq_true rfl) dX7_divides_69 ⟨Nat.zero_le _, Nat.zero_le _⟩ (fun r_18 S_19 H locs h hP hS => ?_)
            refine lv_goto (tgt := 80) hx hb dX7_divides_72 (by decide) ?_
            exact W.iret (v := r_18) hx hb hr (fun t ht hW => ⟨⟨r_18, S_19, rfl, h, by rw [ht]; exact hP, va_K.moved hW.alike hK⟩, hS.F ht⟩) hS.2.2 dX7_divides_80
      · have h := h.2 c_24
        refine lv_aload_n hx hb dX7_divides_35 rfl (lv_at hl 0 rfl) ?_
        refine lv_iconst (v := 5) hx hb dX7_divides_36 (by decide) ?_
        refine m_cVi (As := [.int 5]) (rest := []) ⟨hx, hb, hml, hown, hts⟩ (met_refused l D cI cB b 5  S_3 _ h) (cwV 1 hts (lw_V q1382 q1384 qs58 q128 q1385) rfl rfl rfl cwd_refused ⟨Nat.le_of_ble_eq_true rfl, Nat.le_of_ble_eq_true rfl⟩) hK hP hS rfl hl.1 rfl (Nat.le_of_ble_eq_true rfl) dX7_divides_37 ⟨Nat.zero_le _, Nat.zero_le _⟩ (fun r_22 S_23 H locs h hP hS => ?_)
        exact W.iret (v := r_22) hx hb hr (fun t ht hW => ⟨⟨r_22, S_23, rfl, h, by rw [ht]; exact hP, va_K.moved hW.alike hK⟩, hS.F ht⟩) hS.2.2 dX7_divides_40
    · have h := h.2 c_25
      exact J21  _ _ _ _ h hP hS (lv_sub hl [0] rfl)
def wp_clears_b2  (post : St → Prop) (R2 : Int32 → St → Prop)  (x1 : Int32) (S : St) : Prop :=
      ((4096 ≤ x1 →
        ∀ S_1 : St, S_1 = bw S 0 29 1 →
        post S_1) ∧
       (¬ (4096 ≤ x1) →
        ∃ j_2 : Nat, j_2 < 4096 ∧ x1 = nI j_2 ∧ ∀ S_3 : St, S_3 = bw S 6 j_2 0 →
        ∀ x1_4 : Int32, x1_4 = x1 + 1 →
        R2 x1_4 S_3))
def wp_clears_l2  (post : St → Prop)  (x1 : Int32) (S : St) : Prop := wLoop (fun (R : (Int32 × St) → Prop) (v : Int32 × St) => wp_clears_b2  post (fun x1 S => R (x1, S))  v.1 v.2) (x1, S)
def wp_clears  (S : St) (post : St → Prop) : Prop :=
  wp_clears_l2  post 0 S
set_option maxHeartbeats 4000000 in
theorem met_clears (l : Launch) (D : va_G) (cI cB : ClassId) (b : Nat)   (S : St) (post : St → Prop) (h : wp_clears  S post) : Met l yX7_clears (ws_ yX7_clears cX7_clears 2 none) ({ frames := 0, cells := 0, slots := 0, locals := 0 } : Room) (mPc D cI cB b [.ref b] S) (mQv D cI cB b post) 0 0 (mA b) := by
  refine Met.ofW (cc := cX7_clears) (maxL := 2) (ret := none) (by decide) rfl ?_
  intro p e s m args below meth c s₁ B hml hv
  obtain ⟨rfl, hP, hK⟩ := hv
  have hx := B.exec
  have hb := B.bytes
  have hr := B.returns
  have hts := atoms_spec (ws := ws_ yX7_clears cX7_clears 2 none) B.pre
  have hts : ∀ w ∈ lw_all, w.before _ s = true := fun w h => hts w (List.mem_cons_of_mem _ h)
  have hown : s.vm.findClass RX7 = some m.cls := findClass_of_methodNamed B.named
  have hlocks := B.notSynchronized
  have hS : va_S (mA b) s.heap s.heap [] := va_S.rf
  have hl := lv_entry ([.ref b]) (n := 2) (Nat.le_of_ble_eq_true rfl)
  rw [lg_entry_eq]
  generalize (lg_sl ([.ref b]) ++ List.replicate (2 - (lg_sl ([.ref b])).length) Slot.unset).toArray = ls at hl ⊢
  have hl : lv_has ls 2 [(0, .ref b)] := hl
  have L2 : ∀  (x1 : Int32) (S : St) (H : Heap) (locs : List Loc) (ls : Array Slot), wp_clears_l2  post  x1 S → mW D cI cB b S H → va_S (mA b) s.heap H locs → lv_has ls 2 [(0, .ref b), (1, .int x1)] → W p l e (headSpec (ws_ yX7_clears cX7_clears 2 none) ({ frames := 0, cells := 0, slots := 0, locals := 0 } : Room)).room s m ([.ref b] : List Value).toArray below meth c H locs 0 0 (MQ below (mQv D cI cB b post) ([.ref b] : List Value).toArray s 0 0 (mA b)) (F0 m 2 ls []) := by
    intro  x1 S H locs ls h hP hS hl
    obtain ⟨I2, n2, hI, hstep2⟩ := h
    induction n2 using Nat.strongRecOn generalizing x1 S H locs ls with
    | ind n2 ih2 =>
      have h : wp_clears_b2  post (fun x1 S => ∃ mm, mm < n2 ∧ I2 mm (x1, S))  x1 S := hstep2 n2 _ hI
      clear hI
      unfold wp_clears_b2 at h
      refine lv_iload_n hx hb dX7_clears_2 rfl (lv_at hl 1 rfl) ?_
      refine lv_sipush (v := 4096) hx hb dX7_clears_3 (by decide) ?_
      refine lv_icmp_ge (tgt := 22) hx hb dX7_clears_6 (by decide) (fun c_5 => ?_) (fun c_5 => ?_)
      · have h := h.1 c_5
        refine lv_aload_n hx hb dX7_clears_22 rfl (lv_at hl 0 rfl) ?_
        refine lv_iconst (v := 1) hx hb dX7_clears_23 (by decide) ?_
        obtain ⟨S_1, eS_1⟩ : ∃ z : St, z = bw S 0 29 1 := ⟨_, rfl⟩
        have h := h S_1 eS_1
        refine m_put (S1 := S_1) (v := .int 1) (ty := .boolean) hx hb hts hown hK hP hS 29 (by decide) q1239 rfl rfl (tyX7_ok 29 (by decide)) rfl rfl (by rw [eS_1]; exact mset_29 b S 1) (by rw [eS_1]; exact bw_0) dX7_clears_24 (fun H locs hP hS => ?_)
        exact W.vret hx hb hr (fun t ht hW => ⟨⟨S_1, rfl, h, by rw [ht]; exact hP, va_K.moved hW.alike hK⟩, hS.F ht⟩) hS.2.2 dX7_clears_27
      · have h := h.2 c_5
        refine lv_aload_n hx hb dX7_clears_9 rfl (lv_at hl 0 rfl) ?_
        refine m_get (v := .ref (b + 6)) hx hb hts hown hK hP 28 (by decide) q1238 rfl rfl dX7_clears_10 ?_
        refine lv_iload_n hx hb dX7_clears_13 rfl (lv_at hl 1 rfl) ?_
        refine lv_iconst (v := 0) hx hb dX7_clears_14 (by decide) ?_
        obtain ⟨j_2, hj_2, ej_2, h⟩ := h
        obtain ⟨S_3, eS_3⟩ : ∃ z : St, z = bw S 6 j_2 0 := ⟨_, rfl⟩
        have h := h S_3 eS_3
        refine m_iast hx hb hK hP hS (k := 6) mok_6 ej_2 hj_2 dX7_clears_15 (fun H locs hP hS => ?_)
        rw [← eS_3] at hP
        obtain ⟨x1_4, ex1_4⟩ : ∃ y : Int32, y = x1 + 1 := ⟨_, rfl⟩
        have h := h x1_4 ex1_4
        refine lv_iinc (v := x1_4) (lv' := [(1, .int x1_4), (0, .ref b)]) hx hb dX7_clears_16 hl (k := 1) rfl (by rw [ex1_4]; rfl) (by decide) rfl (fun ls hl => ?_)
        refine lv_goto (tgt := 2) hx hb dX7_clears_19 (by decide) ?_
        obtain ⟨mm, hmm, h⟩ := h
        exact ih2 mm hmm _ _ _ _ _ hP hS (lv_sub hl [1, 0] rfl) h
  unfold wp_clears at h
  refine lv_iconst (v := 0) hx hb dX7_clears_0 (by decide) ?_
  refine lv_istore_n (lv' := [(1, .int 0), (0, .ref b)]) hx hb dX7_clears_1 rfl hl (by decide) rfl (fun ls hl => ?_)
  exact L2 _ _ _ _ _ h hP hS (lv_sub hl [1, 0] rfl)
def wp_puts_j79 (p1 : Int32) (p2 : Int32) (p3 : Int32) (post : St → Prop) (R3 : Int32 → St → Prop) (x4 : Int32) (S : St) : Prop :=
        ∀ x4_1 : Int32, x4_1 = x4 + 1 →
        R3 x4_1 S
def wp_puts_b3 (p1 : Int32) (p2 : Int32) (p3 : Int32) (post : St → Prop) (R3 : Int32 → St → Prop)  (x4 : Int32) (S : St) : Prop :=
      ((4096 ≤ x4 →
        post S) ∧
       (¬ (4096 ≤ x4) →
        wp_coef p1 x4 S (fun r_2 =>
        ((r_2 = 0 →
          wp_puts_j79 p1 p2 p3 post R3 x4 S) ∧
         (¬ (r_2 = 0) →
          ((¬ p2 = 0 →
            wp_sum x4 p3 S (fun r_4 =>
            ((¬ r_4 = (-1) →
              ∃ j_6 : Nat, j_6 < 4096 ∧ r_4 = nI j_6 ∧
              wp_coef p1 x4 S (fun r_7 =>
              ¬ (S 0 5) = 0 ∧
              ∃ j_9 : Nat, j_9 < 4096 ∧ r_4 = nI j_9 ∧ ∀ S_10 : St, S_10 = bw S 6 j_9 (jrem ((S 6 j_6) + (r_7 * p2)) (S 0 5)) →
              wp_puts_j79 p1 p2 p3 post R3 x4 S_10)) ∧
             (r_4 = (-1) →
              ∀ S_11 : St, S_11 = bw S 0 29 0 →
              wp_puts_j79 p1 p2 p3 post R3 x4 S_11)))) ∧
           (p2 = 0 →
            wp_puts_j79 p1 p2 p3 post R3 x4 S)))))))
def wp_puts_l3 (p1 : Int32) (p2 : Int32) (p3 : Int32) (post : St → Prop)  (x4 : Int32) (S : St) : Prop := wLoop (fun (R : (Int32 × St) → Prop) (v : Int32 × St) => wp_puts_b3 p1 p2 p3 post (fun x4 S => R (x4, S))  v.1 v.2) (x4, S)
def wp_puts (p1 : Int32) (p2 : Int32) (p3 : Int32) (S : St) (post : St → Prop) : Prop :=
  wp_puts_l3 p1 p2 p3 post 0 S
set_option maxHeartbeats 4000000 in
theorem met_puts (l : Launch) (D : va_G) (cI cB : ClassId) (b : Nat) (p1 : Int32) (p2 : Int32) (p3 : Int32)  (S : St) (post : St → Prop) (h : wp_puts p1 p2 p3 S post) : Met l yX7_puts (ws_ yX7_puts cX7_puts 6 none) ({ frames := 2, cells := 0, slots := 0, locals := 45 } : Room) (mPc D cI cB b [.ref b, .int p1, .int p2, .int p3] S) (mQv D cI cB b post) 0 0 (mA b) := by
  refine Met.ofW (cc := cX7_puts) (maxL := 6) (ret := none) (by decide) rfl ?_
  intro p e s m args below meth c s₁ B hml hv
  obtain ⟨rfl, hP, hK⟩ := hv
  have hx := B.exec
  have hb := B.bytes
  have hr := B.returns
  have hts := atoms_spec (ws := ws_ yX7_puts cX7_puts 6 none) B.pre
  have hts : ∀ w ∈ lw_all, w.before _ s = true := fun w h => hts w (List.mem_cons_of_mem _ h)
  have hown : s.vm.findClass RX7 = some m.cls := findClass_of_methodNamed B.named
  have hlocks := B.notSynchronized
  have hS : va_S (mA b) s.heap s.heap [] := va_S.rf
  have hl := lv_entry ([.ref b, .int p1, .int p2, .int p3]) (n := 6) (Nat.le_of_ble_eq_true rfl)
  rw [lg_entry_eq]
  generalize (lg_sl ([.ref b, .int p1, .int p2, .int p3]) ++ List.replicate (6 - (lg_sl ([.ref b, .int p1, .int p2, .int p3])).length) Slot.unset).toArray = ls at hl ⊢
  have hl : lv_has ls 6 [(0, .ref b), (1, .int p1), (2, .int p2), (3, .int p3)] := hl
  have L3 : ∀  (x4 : Int32) (S : St) (H : Heap) (locs : List Loc) (ls : Array Slot), wp_puts_l3 p1 p2 p3 post  x4 S → mW D cI cB b S H → va_S (mA b) s.heap H locs → lv_has ls 6 [(0, .ref b), (1, .int p1), (2, .int p2), (3, .int p3), (4, .int x4)] → W p l e (headSpec (ws_ yX7_puts cX7_puts 6 none) ({ frames := 2, cells := 0, slots := 0, locals := 45 } : Room)).room s m ([.ref b, .int p1, .int p2, .int p3] : List Value).toArray below meth c H locs 0 0 (MQ below (mQv D cI cB b post) ([.ref b, .int p1, .int p2, .int p3] : List Value).toArray s 0 0 (mA b)) (F0 m 3 ls []) := by
    intro  x4 S H locs ls h hP hS hl
    obtain ⟨I3, n3, hI, hstep3⟩ := h
    induction n3 using Nat.strongRecOn generalizing x4 S H locs ls with
    | ind n3 ih3 =>
      have h : wp_puts_b3 p1 p2 p3 post (fun x4 S => ∃ mm, mm < n3 ∧ I3 mm (x4, S))  x4 S := hstep3 n3 _ hI
      clear hI
      have J79 : ∀ (x4 : Int32) (S : St) (H : Heap) (locs : List Loc) (ls : Array Slot), wp_puts_j79 p1 p2 p3 post (fun x4 S => ∃ mm, mm < n3 ∧ I3 mm (x4, S)) x4 S → mW D cI cB b S H → va_S (mA b) s.heap H locs → lv_has ls 6 [(0, .ref b), (1, .int p1), (2, .int p2), (3, .int p3), (4, .int x4)] → W p l e (headSpec (ws_ yX7_puts cX7_puts 6 none) ({ frames := 2, cells := 0, slots := 0, locals := 45 } : Room)).room s m ([.ref b, .int p1, .int p2, .int p3] : List Value).toArray below meth c H locs 0 0 (MQ below (mQv D cI cB b post) ([.ref b, .int p1, .int p2, .int p3] : List Value).toArray s 0 0 (mA b)) (F0 m 79 ls []) := by
        intro x4 S H locs ls h hP hS hl
        unfold wp_puts_j79 at h
        obtain ⟨x4_1, ex4_1⟩ : ∃ y : Int32, y = x4 + 1 := ⟨_, rfl⟩
        have h := h x4_1 ex4_1
        refine lv_iinc (v := x4_1) (lv' := [(4, .int x4_1), (0, .ref b), (1, .int p1), (2, .int p2), (3, .int p3)]) hx hb dX7_puts_79 hl (k := 4) rfl (by rw [ex4_1]; rfl) (by decide) rfl (fun ls hl => ?_)
        refine lv_goto (tgt := 3) hx hb dX7_puts_82 (by decide) ?_
        obtain ⟨mm, hmm, h⟩ := h
        exact ih3 mm hmm _ _ _ _ _ hP hS (lv_sub hl [1, 2, 3, 4, 0] rfl) h
      unfold wp_puts_b3 at h
      refine lv_iload hx hb dX7_puts_3 (lv_at hl 4 rfl) ?_
      refine lv_sipush (v := 4096) hx hb dX7_puts_5 (by decide) ?_
      refine lv_icmp_ge (tgt := 85) hx hb dX7_puts_8 (by decide) (fun c_15 => ?_) (fun c_15 => ?_)
      · have h := h.1 c_15
        exact W.vret hx hb hr (fun t ht hW => ⟨⟨S, rfl, h, by rw [ht]; exact hP, va_K.moved hW.alike hK⟩, hS.F ht⟩) hS.2.2 dX7_puts_85
      · have h := h.2 c_15
        refine lv_aload_n hx hb dX7_puts_11 rfl (lv_at hl 0 rfl) ?_
        refine lv_iload_n hx hb dX7_puts_12 rfl (lv_at hl 1 rfl) ?_
        refine lv_iload hx hb dX7_puts_13 (lv_at hl 4 rfl) ?_
        refine m_cVp (As := [.int p1, .int x4]) (rest := []) ⟨hx, hb, hml, hown, hts⟩ (met_coef l D cI cB b p1 x4  S _ h) (cwV 2 hts (lw_V q1526 q1528 qs80 q128 q1529) rfl rfl rfl cwd_coef ⟨Nat.le_of_ble_eq_true rfl, Nat.le_of_ble_eq_true rfl⟩) hK hP hS rfl hl.1 rfl (Nat.le_of_ble_eq_true rfl) dX7_puts_15 ⟨Nat.zero_le _, Nat.zero_le _⟩ (fun r_2 H locs h hP hS => ?_)
        refine lv_if_eq (tgt := 79) hx hb dX7_puts_18 (by decide) (fun c_14 => ?_) (fun c_14 => ?_)
        · have h := h.1 c_14
          exact J79 _ _ _ _ _ h hP hS (lv_sub hl [0, 1, 2, 3, 4] rfl)
        · have h := h.2 c_14
          refine lv_iload_n hx hb dX7_puts_21 rfl (lv_at hl 2 rfl) ?_
          refine lv_if_ne (tgt := 28) hx hb dX7_puts_22 (by decide) (fun c_13 => ?_) (fun c_13 => ?_)
          · have h := h.1 c_13
            refine lv_iload hx hb dX7_puts_28 (lv_at hl 4 rfl) ?_
            refine lv_iload_n hx hb dX7_puts_30 rfl (lv_at hl 3 rfl) ?_
            refine m_cSp (As := [.int x4, .int p3]) (rest := []) ⟨hx, hb, hml, hown, hts⟩ (met_sum l D cI cB b x4 p3  S _ h) (va_cwS 2 hts (lw_S q1654 q1655 q128 q1656) rfl rfl rfl cwd_sum ⟨Nat.le_of_ble_eq_true rfl, Nat.le_of_ble_eq_true rfl⟩) hK hP hS rfl hl.1 rfl (Nat.le_of_ble_eq_true rfl) dX7_puts_31 ⟨Nat.zero_le _, Nat.zero_le _⟩ (fun r_4 H locs h hP hS => ?_)
            refine lv_istore (lv' := [(5, .int r_4), (0, .ref b), (1, .int p1), (2, .int p2), (3, .int p3), (4, .int x4)]) hx hb dX7_puts_34 hl (by decide) rfl (fun ls hl => ?_)
            refine lv_iload hx hb dX7_puts_36 (lv_at hl 0 rfl) ?_
            refine lv_iconst (v := (-1)) hx hb dX7_puts_38 (by decide) ?_
            refine lv_icmp_ne (tgt := 50) hx hb dX7_puts_39 (by decide) (fun c_12 => ?_) (fun c_12 => ?_)
            · have h := h.1 c_12
              refine lv_aload_n hx hb dX7_puts_50 rfl (lv_at hl 1 rfl) ?_
              refine m_get (v := .ref (b + 6)) hx hb hts hown hK hP 28 (by decide) q1238 rfl rfl dX7_puts_51 ?_
              refine lv_iload hx hb dX7_puts_54 (lv_at hl 0 rfl) ?_
              refine lv_aload_n hx hb dX7_puts_56 rfl (lv_at hl 1 rfl) ?_
              refine m_get (v := .ref (b + 6)) hx hb hts hown hK hP 28 (by decide) q1238 rfl rfl dX7_puts_57 ?_
              refine lv_iload hx hb dX7_puts_60 (lv_at hl 0 rfl) ?_
              obtain ⟨j_6, hj_6, ej_6, h⟩ := h
              refine m_iald hx hb hK hP (k := 6) mok_6 ej_6 hj_6 dX7_puts_62 ?_
              refine lv_aload_n hx hb dX7_puts_63 rfl (lv_at hl 1 rfl) ?_
              refine lv_iload_n hx hb dX7_puts_64 rfl (lv_at hl 2 rfl) ?_
              refine lv_iload hx hb dX7_puts_65 (lv_at hl 5 rfl) ?_
              refine m_cVp (As := [.int p1, .int x4]) (rest := [.int (S 6 j_6), .int r_4, .ref (b + 6)]) ⟨hx, hb, hml, hown, hts⟩ (met_coef l D cI cB b p1 x4  S _ h) (cwV 2 hts (lw_V q1526 q1528 qs80 q128 q1529) rfl rfl rfl cwd_coef ⟨Nat.le_of_ble_eq_true rfl, Nat.le_of_ble_eq_true rfl⟩) hK hP hS rfl hl.1 rfl (Nat.le_of_ble_eq_true rfl) dX7_puts_67 ⟨Nat.zero_le _, Nat.zero_le _⟩ (fun r_7 H locs h hP hS => ?_)
              refine lv_iload_n hx hb dX7_puts_70 rfl (lv_at hl 3 rfl) ?_
              refine lv_imul hx hb dX7_puts_71 ?_
              refine lv_iadd hx hb dX7_puts_72 ?_
              refine lv_aload_n hx hb dX7_puts_73 rfl (lv_at hl 1 rfl) ?_
              refine m_get (v := .int (S 0 5)) hx hb hts hown hK hP 5 (by decide) q1215 rfl rfl dX7_puts_74 ?_
              obtain ⟨hne, h⟩ := h
              refine m_irem hx hb dX7_puts_77 hne ?_
              obtain ⟨j_9, hj_9, ej_9, h⟩ := h
              obtain ⟨S_10, eS_10⟩ : ∃ z : St, z = bw S 6 j_9 (jrem ((S 6 j_6) + (r_7 * p2)) (S 0 5)) := ⟨_, rfl⟩
              have h := h S_10 eS_10
              refine m_iast hx hb hK hP hS (k := 6) mok_6 ej_9 hj_9 dX7_puts_78 (fun H locs hP hS => ?_)
              rw [← eS_10] at hP
              exact J79 _ _ _ _ _ h hP hS (lv_sub hl [1, 2, 3, 4, 5] rfl)
            · have h := h.2 c_12
              refine lv_aload_n hx hb dX7_puts_42 rfl (lv_at hl 1 rfl) ?_
              refine lv_iconst (v := 0) hx hb dX7_puts_43 (by decide) ?_
              obtain ⟨S_11, eS_11⟩ : ∃ z : St, z = bw S 0 29 0 := ⟨_, rfl⟩
              have h := h S_11 eS_11
              refine m_put (S1 := S_11) (v := .int 0) (ty := .boolean) hx hb hts hown hK hP hS 29 (by decide) q1239 rfl rfl (tyX7_ok 29 (by decide)) rfl rfl (by rw [eS_11]; exact mset_29 b S 0) (by rw [eS_11]; exact bw_0) dX7_puts_44 (fun H locs hP hS => ?_)
              refine lv_goto (tgt := 79) hx hb dX7_puts_47 (by decide) ?_
              exact J79 _ _ _ _ _ h hP hS (lv_sub hl [1, 2, 3, 4, 5] rfl)
          · have h := h.2 c_13
            refine lv_goto (tgt := 79) hx hb dX7_puts_25 (by decide) ?_
            exact J79 _ _ _ _ _ h hP hS (lv_sub hl [0, 1, 2, 3, 4] rfl)
  unfold wp_puts at h
  refine lv_iconst (v := 0) hx hb dX7_puts_0 (by decide) ?_
  refine lv_istore (lv' := [(4, .int 0), (0, .ref b), (1, .int p1), (2, .int p2), (3, .int p3)]) hx hb dX7_puts_1 hl (by decide) rfl (fun ls hl => ?_)
  exact L3 _ _ _ _ _ h hP hS (lv_sub hl [1, 2, 3, 4, 0] rfl)
def wp_workTerms_j28  (post : Int32 → Prop) (R4 : Int32 → Int32 → Prop) (x1 : Int32) (x2 : Int32) (S : St) : Prop :=
        ∀ x2_1 : Int32, x2_1 = x2 + 1 →
        R4 x1 x2_1
def wp_workTerms_b4  (post : Int32 → Prop) (R4 : Int32 → Int32 → Prop)  (x1 : Int32) (x2 : Int32) (S : St) : Prop :=
      ((4096 ≤ x2 →
        post x1) ∧
       (¬ (4096 ≤ x2) →
        ∃ j_2 : Nat, j_2 < 4096 ∧ x2 = nI j_2 ∧
        (((S 6 j_2) = 0 →
          ∀ x1_3 : Int32, x1_3 = (x1 + 0) →
          wp_workTerms_j28  post R4 x1_3 x2 S) ∧
         (¬ ((S 6 j_2) = 0) →
          ∀ x1_4 : Int32, x1_4 = (x1 + 1) →
          wp_workTerms_j28  post R4 x1_4 x2 S))))
def wp_workTerms_l4  (post : Int32 → Prop)  (x1 : Int32) (x2 : Int32) (S : St) : Prop := wLoop (fun (R : (Int32 × Int32) → Prop) (v : Int32 × Int32) => wp_workTerms_b4  post (fun x1 x2 => R (x1, x2))  v.1 v.2 S) (x1, x2)
def wp_workTerms  (S : St) (post : Int32 → Prop) : Prop :=
  wp_workTerms_l4  post 0 0 S
set_option maxHeartbeats 4000000 in
theorem met_workTerms (l : Launch) (D : va_G) (cI cB : ClassId) (b : Nat)   (S : St) (post : Int32 → Prop) (h : wp_workTerms  S post) : Met l yX7_workTerms (ws_ yX7_workTerms cX7_workTerms 3 (some .int)) ({ frames := 0, cells := 0, slots := 0, locals := 0 } : Room) (mPc D cI cB b [.ref b] S) (mQp D cI cB b S post) 0 0 (mA b) := by
  refine Met.ofW (cc := cX7_workTerms) (maxL := 3) (ret := (some .int)) (by decide) rfl ?_
  intro p e s m args below meth c s₁ B hml hv
  obtain ⟨rfl, hP, hK⟩ := hv
  have hx := B.exec
  have hb := B.bytes
  have hr := B.returns
  have hts := atoms_spec (ws := ws_ yX7_workTerms cX7_workTerms 3 (some .int)) B.pre
  have hts : ∀ w ∈ lw_all, w.before _ s = true := fun w h => hts w (List.mem_cons_of_mem _ h)
  have hown : s.vm.findClass RX7 = some m.cls := findClass_of_methodNamed B.named
  have hlocks := B.notSynchronized
  have hS : va_S (mA b) s.heap s.heap [] := va_S.rf
  have hl := lv_entry ([.ref b]) (n := 3) (Nat.le_of_ble_eq_true rfl)
  rw [lg_entry_eq]
  generalize (lg_sl ([.ref b]) ++ List.replicate (3 - (lg_sl ([.ref b])).length) Slot.unset).toArray = ls at hl ⊢
  have hl : lv_has ls 3 [(0, .ref b)] := hl
  have L4 : ∀  (x1 : Int32) (x2 : Int32) (H : Heap) (locs : List Loc) (ls : Array Slot), wp_workTerms_l4  post  x1 x2 S → mW D cI cB b S H → va_S (mA b) s.heap H locs → lv_has ls 3 [(0, .ref b), (1, .int x1), (2, .int x2)] → W p l e (headSpec (ws_ yX7_workTerms cX7_workTerms 3 (some .int)) ({ frames := 0, cells := 0, slots := 0, locals := 0 } : Room)).room s m ([.ref b] : List Value).toArray below meth c H locs 0 0 (MQ below (mQp D cI cB b S post) ([.ref b] : List Value).toArray s 0 0 (mA b)) (F0 m 4 ls []) := by
    intro  x1 x2  H locs ls h hP hS hl
    obtain ⟨I4, n4, hI, hstep4⟩ := h
    induction n4 using Nat.strongRecOn generalizing x1 x2 H locs ls with
    | ind n4 ih4 =>
      have h : wp_workTerms_b4  post (fun x1 x2 => ∃ mm, mm < n4 ∧ I4 mm (x1, x2))  x1 x2 S := hstep4 n4 _ hI
      clear hI
      have J28 : ∀ (x1 : Int32) (x2 : Int32) (H : Heap) (locs : List Loc) (ls : Array Slot), wp_workTerms_j28  post (fun x1 x2 => ∃ mm, mm < n4 ∧ I4 mm (x1, x2)) x1 x2 S → mW D cI cB b S H → va_S (mA b) s.heap H locs → lv_has ls 3 [(0, .ref b), (1, .int x1), (2, .int x2)] → W p l e (headSpec (ws_ yX7_workTerms cX7_workTerms 3 (some .int)) ({ frames := 0, cells := 0, slots := 0, locals := 0 } : Room)).room s m ([.ref b] : List Value).toArray below meth c H locs 0 0 (MQ below (mQp D cI cB b S post) ([.ref b] : List Value).toArray s 0 0 (mA b)) (F0 m 28 ls []) := by
        intro x1 x2  H locs ls h hP hS hl
        unfold wp_workTerms_j28 at h
        obtain ⟨x2_1, ex2_1⟩ : ∃ y : Int32, y = x2 + 1 := ⟨_, rfl⟩
        have h := h x2_1 ex2_1
        refine lv_iinc (v := x2_1) (lv' := [(2, .int x2_1), (0, .ref b), (1, .int x1)]) hx hb dX7_workTerms_28 hl (k := 2) rfl (by rw [ex2_1]; rfl) (by decide) rfl (fun ls hl => ?_)
        refine lv_goto (tgt := 4) hx hb dX7_workTerms_31 (by decide) ?_
        obtain ⟨mm, hmm, h⟩ := h
        exact ih4 mm hmm _ _ _ _ _ hP hS (lv_sub hl [1, 2, 0] rfl) h
      unfold wp_workTerms_b4 at h
      refine lv_iload_n hx hb dX7_workTerms_4 rfl (lv_at hl 2 rfl) ?_
      refine lv_sipush (v := 4096) hx hb dX7_workTerms_5 (by decide) ?_
      refine lv_icmp_ge (tgt := 34) hx hb dX7_workTerms_8 (by decide) (fun c_6 => ?_) (fun c_6 => ?_)
      · have h := h.1 c_6
        refine lv_iload_n hx hb dX7_workTerms_34 rfl (lv_at hl 1 rfl) ?_
        exact W.iret (v := x1) hx hb hr (fun t ht hW => ⟨⟨x1, (), rfl, h, by rw [ht]; exact hP, va_K.moved hW.alike hK⟩, hS.F ht⟩) hS.2.2 dX7_workTerms_35
      · have h := h.2 c_6
        refine lv_iload_n hx hb dX7_workTerms_11 rfl (lv_at hl 1 rfl) ?_
        refine lv_aload_n hx hb dX7_workTerms_12 rfl (lv_at hl 0 rfl) ?_
        refine m_get (v := .ref (b + 6)) hx hb hts hown hK hP 28 (by decide) q1238 rfl rfl dX7_workTerms_13 ?_
        refine lv_iload_n hx hb dX7_workTerms_16 rfl (lv_at hl 2 rfl) ?_
        obtain ⟨j_2, hj_2, ej_2, h⟩ := h
        refine m_iald hx hb hK hP (k := 6) mok_6 ej_2 hj_2 dX7_workTerms_17 ?_
        refine lv_if_eq (tgt := 25) hx hb dX7_workTerms_18 (by decide) (fun c_5 => ?_) (fun c_5 => ?_)
        · have h := h.1 c_5
          refine lv_iconst (v := 0) hx hb dX7_workTerms_25 (by decide) ?_
          refine lv_iadd hx hb dX7_workTerms_26 ?_
          refine lv_topi (fun x1_3 ex1_3 => ?_)
          have h := h x1_3 ex1_3
          refine lv_istore_n (lv' := [(1, .int x1_3), (0, .ref b), (2, .int x2)]) hx hb dX7_workTerms_27 rfl hl (by decide) rfl (fun ls hl => ?_)
          exact J28 _ _  _ _ _ h hP hS (lv_sub hl [1, 0, 2] rfl)
        · have h := h.2 c_5
          refine lv_iconst (v := 1) hx hb dX7_workTerms_21 (by decide) ?_
          refine lv_goto (tgt := 26) hx hb dX7_workTerms_22 (by decide) ?_
          refine lv_iadd hx hb dX7_workTerms_26 ?_
          refine lv_topi (fun x1_4 ex1_4 => ?_)
          have h := h x1_4 ex1_4
          refine lv_istore_n (lv' := [(1, .int x1_4), (0, .ref b), (2, .int x2)]) hx hb dX7_workTerms_27 rfl hl (by decide) rfl (fun ls hl => ?_)
          exact J28 _ _  _ _ _ h hP hS (lv_sub hl [1, 0, 2] rfl)
  unfold wp_workTerms at h
  refine lv_iconst (v := 0) hx hb dX7_workTerms_0 (by decide) ?_
  refine lv_istore_n (lv' := [(1, .int 0), (0, .ref b)]) hx hb dX7_workTerms_1 rfl hl (by decide) rfl (fun ls hl => ?_)
  refine lv_iconst (v := 0) hx hb dX7_workTerms_2 (by decide) ?_
  refine lv_istore_n (lv' := [(2, .int 0), (1, .int 0), (0, .ref b)]) hx hb dX7_workTerms_3 rfl hl (by decide) rfl (fun ls hl => ?_)
  exact L4 _ _  _ _ _ h hP hS (lv_sub hl [2, 1, 0] rfl)
def wp_laysPair_j59 (p1 : Int32) (p2 : Int32) (post : Int32 → St → Prop) (R19 : Int32 → Int32 → Prop) (x3 : Int32) (x4 : Int32) (x5 : Int32) (x6 : Int32) (x7 : Int32) (S : St) : Prop :=
        ∀ x5_1 : Int32, x5_1 = (x5 ||| (jshl x7 (4 * x6))) →
        ∀ x6_2 : Int32, x6_2 = x6 + 1 →
        R19 x5_1 x6_2
def wp_laysPair_b19 (p1 : Int32) (p2 : Int32) (post : Int32 → St → Prop) (R19 : Int32 → Int32 → Prop) (x3 : Int32) (x4 : Int32) (x5 : Int32) (x6 : Int32) (S : St) : Prop :=
      ((3 ≤ x6 →
        wp_clears  S (fun S_4 =>
        wp_coef p1 x3 S_4 (fun r_5 =>
        wp_inverse r_5 S_4 (fun r_7 =>
        wp_puts p1 r_7 (x5 - x3) S_4 (fun S_10 =>
        wp_coef p2 x4 S_10 (fun r_11 =>
        wp_inverse r_11 S_10 (fun r_13 =>
        wp_puts p2 ((S_10 0 5) - r_13) (x5 - x4) S_10 (fun S_16 =>
        (((S_16 0 29) = 0 →
          post 0 S_16) ∧
         (¬ ((S_16 0 29) = 0) →
          wp_workTerms  S_16 (fun r_17 =>
          ((60 < r_17 →
            post 0 S_16) ∧
           (¬ (60 < r_17) →
            post 1 S_16))))))))))))) ∧
       (¬ (3 ≤ x6) →
        wp_exponent x3 x6 S (fun r_21 =>
        wp_exponent x4 x6 S (fun r_23 =>
        ((r_21 ≤ r_23 →
          wp_exponent x4 x6 S (fun r_25 =>
          wp_laysPair_j59 p1 p2 post R19 x3 x4 x5 x6 r_25 S)) ∧
         (¬ (r_21 ≤ r_23) →
          wp_exponent x3 x6 S (fun r_27 =>
          wp_laysPair_j59 p1 p2 post R19 x3 x4 x5 x6 r_27 S)))))))
def wp_laysPair_l19 (p1 : Int32) (p2 : Int32) (post : Int32 → St → Prop) (x3 : Int32) (x4 : Int32) (x5 : Int32) (x6 : Int32) (S : St) : Prop := wLoop (fun (R : (Int32 × Int32) → Prop) (v : Int32 × Int32) => wp_laysPair_b19 p1 p2 post (fun x5 x6 => R (x5, x6)) x3 x4 v.1 v.2 S) (x5, x6)
def wp_laysPair (p1 : Int32) (p2 : Int32) (S : St) (post : Int32 → St → Prop) : Prop :=
  wp_leadOf p1 S (fun r_31 =>
  wp_leadOf p2 S (fun r_33 =>
  wp_laysPair_l19 p1 p2 post r_31 r_33 0 0 S))
set_option maxHeartbeats 4000000 in
theorem met_laysPair (l : Launch) (D : va_G) (cI cB : ClassId) (b : Nat) (p1 : Int32) (p2 : Int32)  (S : St) (post : Int32 → St → Prop) (h : wp_laysPair p1 p2 S post) : Met l yX7_laysPair (ws_ yX7_laysPair cX7_laysPair 8 (some .boolean)) ({ frames := 3, cells := 0, slots := 0, locals := 70 } : Room) (mPc D cI cB b [.ref b, .int p1, .int p2] S) (mQi D cI cB b post) 0 0 (mA b) := by
  refine Met.ofW (cc := cX7_laysPair) (maxL := 8) (ret := (some .boolean)) (by decide) rfl ?_
  intro p e s m args below meth c s₁ B hml hv
  obtain ⟨rfl, hP, hK⟩ := hv
  have hx := B.exec
  have hb := B.bytes
  have hr := B.returns
  have hts := atoms_spec (ws := ws_ yX7_laysPair cX7_laysPair 8 (some .boolean)) B.pre
  have hts : ∀ w ∈ lw_all, w.before _ s = true := fun w h => hts w (List.mem_cons_of_mem _ h)
  have hown : s.vm.findClass RX7 = some m.cls := findClass_of_methodNamed B.named
  have hlocks := B.notSynchronized
  have hS : va_S (mA b) s.heap s.heap [] := va_S.rf
  have hl := lv_entry ([.ref b, .int p1, .int p2]) (n := 8) (Nat.le_of_ble_eq_true rfl)
  rw [lg_entry_eq]
  generalize (lg_sl ([.ref b, .int p1, .int p2]) ++ List.replicate (8 - (lg_sl ([.ref b, .int p1, .int p2])).length) Slot.unset).toArray = ls at hl ⊢
  have hl : lv_has ls 8 [(0, .ref b), (1, .int p1), (2, .int p2)] := hl
  have L19 : ∀ (x3 : Int32) (x4 : Int32) (x5 : Int32) (x6 : Int32) (S : St) (H : Heap) (locs : List Loc) (ls : Array Slot), wp_laysPair_l19 p1 p2 post x3 x4 x5 x6 S → mW D cI cB b S H → va_S (mA b) s.heap H locs → lv_has ls 8 [(0, .ref b), (1, .int p1), (2, .int p2), (3, .int x3), (4, .int x4), (5, .int x5), (6, .int x6)] → W p l e (headSpec (ws_ yX7_laysPair cX7_laysPair 8 (some .boolean)) ({ frames := 3, cells := 0, slots := 0, locals := 70 } : Room)).room s m ([.ref b, .int p1, .int p2] : List Value).toArray below meth c H locs 0 0 (MQ below (mQi D cI cB b post) ([.ref b, .int p1, .int p2] : List Value).toArray s 0 0 (mA b)) (F0 m 19 ls []) := by
    intro x3 x4 x5 x6 S H locs ls h hP hS hl
    obtain ⟨I19, n19, hI, hstep19⟩ := h
    induction n19 using Nat.strongRecOn generalizing x5 x6 H locs ls with
    | ind n19 ih19 =>
      have h : wp_laysPair_b19 p1 p2 post (fun x5 x6 => ∃ mm, mm < n19 ∧ I19 mm (x5, x6)) x3 x4 x5 x6 S := hstep19 n19 _ hI
      clear hI
      have J59 : ∀ (x5 : Int32) (x6 : Int32) (x7 : Int32) (H : Heap) (locs : List Loc) (ls : Array Slot), wp_laysPair_j59 p1 p2 post (fun x5 x6 => ∃ mm, mm < n19 ∧ I19 mm (x5, x6)) x3 x4 x5 x6 x7 S → mW D cI cB b S H → va_S (mA b) s.heap H locs → lv_has ls 8 [(0, .ref b), (1, .int p1), (2, .int p2), (3, .int x3), (4, .int x4), (5, .int x5), (6, .int x6), (7, .int x7)] → W p l e (headSpec (ws_ yX7_laysPair cX7_laysPair 8 (some .boolean)) ({ frames := 3, cells := 0, slots := 0, locals := 70 } : Room)).room s m ([.ref b, .int p1, .int p2] : List Value).toArray below meth c H locs 0 0 (MQ below (mQi D cI cB b post) ([.ref b, .int p1, .int p2] : List Value).toArray s 0 0 (mA b)) (F0 m 59 ls []) := by
        intro x5 x6 x7  H locs ls h hP hS hl
        unfold wp_laysPair_j59 at h
        refine lv_iload hx hb dX7_laysPair_59 (lv_at hl 5 rfl) ?_
        refine lv_iload hx hb dX7_laysPair_61 (lv_at hl 7 rfl) ?_
        refine lv_iconst (v := 4) hx hb dX7_laysPair_63 (by decide) ?_
        refine lv_iload hx hb dX7_laysPair_64 (lv_at hl 6 rfl) ?_
        refine lv_imul hx hb dX7_laysPair_66 ?_
        refine m_ishl hx hb dX7_laysPair_67 ?_
        refine lv_ior hx hb dX7_laysPair_68 ?_
        refine lv_topi (fun x5_1 ex5_1 => ?_)
        have h := h x5_1 ex5_1
        refine lv_istore (lv' := [(5, .int x5_1), (0, .ref b), (1, .int p1), (2, .int p2), (3, .int x3), (4, .int x4), (6, .int x6), (7, .int x7)]) hx hb dX7_laysPair_69 hl (by decide) rfl (fun ls hl => ?_)
        obtain ⟨x6_2, ex6_2⟩ : ∃ y : Int32, y = x6 + 1 := ⟨_, rfl⟩
        have h := h x6_2 ex6_2
        refine lv_iinc (v := x6_2) (lv' := [(6, .int x6_2), (5, .int x5_1), (0, .ref b), (1, .int p1), (2, .int p2), (3, .int x3), (4, .int x4), (7, .int x7)]) hx hb dX7_laysPair_71 hl (k := 6) rfl (by rw [ex6_2]; rfl) (by decide) rfl (fun ls hl => ?_)
        refine lv_goto (tgt := 19) hx hb dX7_laysPair_74 (by decide) ?_
        obtain ⟨mm, hmm, h⟩ := h
        exact ih19 mm hmm _ _ _ _ _ hP hS (lv_sub hl [2, 3, 4, 5, 6, 1, 0] rfl) h
      unfold wp_laysPair_b19 at h
      refine lv_iload hx hb dX7_laysPair_19 (lv_at hl 6 rfl) ?_
      refine lv_iconst (v := 3) hx hb dX7_laysPair_21 (by decide) ?_
      refine lv_icmp_ge (tgt := 77) hx hb dX7_laysPair_22 (by decide) (fun c_30 => ?_) (fun c_30 => ?_)
      · have h := h.1 c_30
        refine lv_aload_n hx hb dX7_laysPair_77 rfl (lv_at hl 0 rfl) ?_
        refine m_cVv (As := []) (rest := []) ⟨hx, hb, hml, hown, hts⟩ (met_clears l D cI cB b   S _ h) (cwV 0 hts (lw_V q1673 q1675 qs97 q128 q1676) rfl rfl rfl cwd_clears ⟨Nat.le_of_ble_eq_true rfl, Nat.le_of_ble_eq_true rfl⟩) hK hP hS rfl hl.1 rfl (Nat.le_of_ble_eq_true rfl) dX7_laysPair_78 ⟨Nat.zero_le _, Nat.zero_le _⟩ (fun S_4 H locs h hP hS => ?_)
        refine lv_aload_n hx hb dX7_laysPair_81 rfl (lv_at hl 0 rfl) ?_
        refine lv_iload_n hx hb dX7_laysPair_82 rfl (lv_at hl 1 rfl) ?_
        refine lv_aload_n hx hb dX7_laysPair_83 rfl (lv_at hl 0 rfl) ?_
        refine lv_aload_n hx hb dX7_laysPair_84 rfl (lv_at hl 0 rfl) ?_
        refine lv_iload_n hx hb dX7_laysPair_85 rfl (lv_at hl 1 rfl) ?_
        refine lv_iload_n hx hb dX7_laysPair_86 rfl (lv_at hl 3 rfl) ?_
        refine m_cVp (As := [.int p1, .int x3]) (rest := [.ref b, .int p1, .ref b]) ⟨hx, hb, hml, hown, hts⟩ (met_coef l D cI cB b p1 x3  S_4 _ h) (cwV 2 hts (lw_V q1526 q1528 qs80 q128 q1529) rfl rfl rfl cwd_coef ⟨Nat.le_of_ble_eq_true rfl, Nat.le_of_ble_eq_true rfl⟩) hK hP hS rfl hl.1 rfl (Nat.le_of_ble_eq_true rfl) dX7_laysPair_87 ⟨Nat.zero_le _, Nat.zero_le _⟩ (fun r_5 H locs h hP hS => ?_)
        refine m_cVp (As := [.int r_5]) (rest := [.int p1, .ref b]) ⟨hx, hb, hml, hown, hts⟩ (met_inverse l D cI cB b r_5  S_4 _ h) (cwV 1 hts (lw_V q1639 q1641 qs92 q128 q1642) rfl rfl rfl cwd_inverse ⟨Nat.le_of_ble_eq_true rfl, Nat.le_of_ble_eq_true rfl⟩) hK hP hS rfl hl.1 rfl (Nat.le_of_ble_eq_true rfl) dX7_laysPair_90 ⟨Nat.zero_le _, Nat.zero_le _⟩ (fun r_7 H locs h hP hS => ?_)
        refine lv_iload hx hb dX7_laysPair_93 (lv_at hl 5 rfl) ?_
        refine lv_iload_n hx hb dX7_laysPair_95 rfl (lv_at hl 3 rfl) ?_
        refine lv_isub hx hb dX7_laysPair_96 ?_
        refine m_cVv (As := [.int p1, .int r_7, .int (x5 - x3)]) (rest := []) ⟨hx, hb, hml, hown, hts⟩ (met_puts l D cI cB b p1 r_7 (x5 - x3)  S_4 _ h) (cwV 3 hts (lw_V q1677 q1679 qs98 q128 q1680) rfl rfl rfl cwd_puts ⟨Nat.le_of_ble_eq_true rfl, Nat.le_of_ble_eq_true rfl⟩) hK hP hS rfl hl.1 rfl (Nat.le_of_ble_eq_true rfl) dX7_laysPair_97 ⟨Nat.zero_le _, Nat.zero_le _⟩ (fun S_10 H locs h hP hS => ?_)
        refine lv_aload_n hx hb dX7_laysPair_100 rfl (lv_at hl 0 rfl) ?_
        refine lv_iload_n hx hb dX7_laysPair_101 rfl (lv_at hl 2 rfl) ?_
        refine lv_aload_n hx hb dX7_laysPair_102 rfl (lv_at hl 0 rfl) ?_
        refine m_get (v := .int (S_10 0 5)) hx hb hts hown hK hP 5 (by decide) q1215 rfl rfl dX7_laysPair_103 ?_
        refine lv_aload_n hx hb dX7_laysPair_106 rfl (lv_at hl 0 rfl) ?_
        refine lv_aload_n hx hb dX7_laysPair_107 rfl (lv_at hl 0 rfl) ?_
        refine lv_iload_n hx hb dX7_laysPair_108 rfl (lv_at hl 2 rfl) ?_
        refine lv_iload hx hb dX7_laysPair_109 (lv_at hl 4 rfl) ?_
        refine m_cVp (As := [.int p2, .int x4]) (rest := [.ref b, .int (S_10 0 5), .int p2, .ref b]) ⟨hx, hb, hml, hown, hts⟩ (met_coef l D cI cB b p2 x4  S_10 _ h) (cwV 2 hts (lw_V q1526 q1528 qs80 q128 q1529) rfl rfl rfl cwd_coef ⟨Nat.le_of_ble_eq_true rfl, Nat.le_of_ble_eq_true rfl⟩) hK hP hS rfl hl.1 rfl (Nat.le_of_ble_eq_true rfl) dX7_laysPair_111 ⟨Nat.zero_le _, Nat.zero_le _⟩ (fun r_11 H locs h hP hS => ?_)
        refine m_cVp (As := [.int r_11]) (rest := [.int (S_10 0 5), .int p2, .ref b]) ⟨hx, hb, hml, hown, hts⟩ (met_inverse l D cI cB b r_11  S_10 _ h) (cwV 1 hts (lw_V q1639 q1641 qs92 q128 q1642) rfl rfl rfl cwd_inverse ⟨Nat.le_of_ble_eq_true rfl, Nat.le_of_ble_eq_true rfl⟩) hK hP hS rfl hl.1 rfl (Nat.le_of_ble_eq_true rfl) dX7_laysPair_114 ⟨Nat.zero_le _, Nat.zero_le _⟩ (fun r_13 H locs h hP hS => ?_)
        refine lv_isub hx hb dX7_laysPair_117 ?_
        refine lv_iload hx hb dX7_laysPair_118 (lv_at hl 5 rfl) ?_
        refine lv_iload hx hb dX7_laysPair_120 (lv_at hl 4 rfl) ?_
        refine lv_isub hx hb dX7_laysPair_122 ?_
        refine m_cVv (As := [.int p2, .int ((S_10 0 5) - r_13), .int (x5 - x4)]) (rest := []) ⟨hx, hb, hml, hown, hts⟩ (met_puts l D cI cB b p2 ((S_10 0 5) - r_13) (x5 - x4)  S_10 _ h) (cwV 3 hts (lw_V q1677 q1679 qs98 q128 q1680) rfl rfl rfl cwd_puts ⟨Nat.le_of_ble_eq_true rfl, Nat.le_of_ble_eq_true rfl⟩) hK hP hS rfl hl.1 rfl (Nat.le_of_ble_eq_true rfl) dX7_laysPair_123 ⟨Nat.zero_le _, Nat.zero_le _⟩ (fun S_16 H locs h hP hS => ?_)
        refine lv_aload_n hx hb dX7_laysPair_126 rfl (lv_at hl 0 rfl) ?_
        refine m_get (v := .int (S_16 0 29)) hx hb hts hown hK hP 29 (by decide) q1239 rfl rfl dX7_laysPair_127 ?_
        refine lv_if_eq (tgt := 146) hx hb dX7_laysPair_130 (by decide) (fun c_20 => ?_) (fun c_20 => ?_)
        · have h := h.1 c_20
          refine lv_iconst (v := 0) hx hb dX7_laysPair_146 (by decide) ?_
          exact W.zret (v := 0) hx hb hr rfl (fun t ht hW => ⟨⟨0, S_16, rfl, h, by rw [ht]; exact hP, va_K.moved hW.alike hK⟩, hS.F ht⟩) hS.2.2 dX7_laysPair_147
        · have h := h.2 c_20
          refine lv_aload_n hx hb dX7_laysPair_133 rfl (lv_at hl 0 rfl) ?_
          refine m_cVp (As := []) (rest := []) ⟨hx, hb, hml, hown, hts⟩ (met_workTerms l D cI cB b   S_16 _ h) (cwV 0 hts (lw_V q1681 q1683 qs99 q128 q1684) rfl rfl rfl cwd_workTerms ⟨Nat.le_of_ble_eq_true rfl, Nat.le_of_ble_eq_true rfl⟩) hK hP hS rfl hl.1 rfl (Nat.le_of_ble_eq_true rfl) dX7_laysPair_134 ⟨Nat.zero_le _, Nat.zero_le _⟩ (fun r_17 H locs h hP hS => ?_)
          refine lv_bipush (v := 60) hx hb dX7_laysPair_137 (by decide) ?_
          refine lv_icmp_gt (tgt := 146) hx hb dX7_laysPair_139 (by decide) (fun c_19 => ?_) (fun c_19 => ?_)
          · have h := h.1 c_19
            refine lv_iconst (v := 0) hx hb dX7_laysPair_146 (by decide) ?_
            exact W.zret (v := 0) hx hb hr rfl (fun t ht hW => ⟨⟨0, S_16, rfl, h, by rw [ht]; exact hP, va_K.moved hW.alike hK⟩, hS.F ht⟩) hS.2.2 dX7_laysPair_147
          · have h := h.2 c_19
            refine lv_iconst (v := 1) hx hb dX7_laysPair_142 (by decide) ?_
            refine lv_goto (tgt := 147) hx hb dX7_laysPair_143 (by decide) ?_
            exact W.zret (v := 1) hx hb hr rfl (fun t ht hW => ⟨⟨1, S_16, rfl, h, by rw [ht]; exact hP, va_K.moved hW.alike hK⟩, hS.F ht⟩) hS.2.2 dX7_laysPair_147
      · have h := h.2 c_30
        refine lv_iload_n hx hb dX7_laysPair_25 rfl (lv_at hl 3 rfl) ?_
        refine lv_iload hx hb dX7_laysPair_26 (lv_at hl 6 rfl) ?_
        refine m_cSp (As := [.int x3, .int x6]) (rest := []) ⟨hx, hb, hml, hown, hts⟩ (met_exponent l D cI cB b x3 x6  S _ h) (va_cwS 2 hts (lw_S q1545 q1546 q128 q1547) rfl rfl rfl cwd_exponent ⟨Nat.le_of_ble_eq_true rfl, Nat.le_of_ble_eq_true rfl⟩) hK hP hS rfl hl.1 rfl (Nat.le_of_ble_eq_true rfl) dX7_laysPair_28 ⟨Nat.zero_le _, Nat.zero_le _⟩ (fun r_21 H locs h hP hS => ?_)
        refine lv_iload hx hb dX7_laysPair_31 (lv_at hl 4 rfl) ?_
        refine lv_iload hx hb dX7_laysPair_33 (lv_at hl 6 rfl) ?_
        refine m_cSp (As := [.int x4, .int x6]) (rest := [.int r_21]) ⟨hx, hb, hml, hown, hts⟩ (met_exponent l D cI cB b x4 x6  S _ h) (va_cwS 2 hts (lw_S q1545 q1546 q128 q1547) rfl rfl rfl cwd_exponent ⟨Nat.le_of_ble_eq_true rfl, Nat.le_of_ble_eq_true rfl⟩) hK hP hS rfl hl.1 rfl (Nat.le_of_ble_eq_true rfl) dX7_laysPair_35 ⟨Nat.zero_le _, Nat.zero_le _⟩ (fun r_23 H locs h hP hS => ?_)
        refine lv_icmp_le (tgt := 50) hx hb dX7_laysPair_38 (by decide) (fun c_29 => ?_) (fun c_29 => ?_)
        · have h := h.1 c_29
          refine lv_iload hx hb dX7_laysPair_50 (lv_at hl 4 rfl) ?_
          refine lv_iload hx hb dX7_laysPair_52 (lv_at hl 6 rfl) ?_
          refine m_cSp (As := [.int x4, .int x6]) (rest := []) ⟨hx, hb, hml, hown, hts⟩ (met_exponent l D cI cB b x4 x6  S _ h) (va_cwS 2 hts (lw_S q1545 q1546 q128 q1547) rfl rfl rfl cwd_exponent ⟨Nat.le_of_ble_eq_true rfl, Nat.le_of_ble_eq_true rfl⟩) hK hP hS rfl hl.1 rfl (Nat.le_of_ble_eq_true rfl) dX7_laysPair_54 ⟨Nat.zero_le _, Nat.zero_le _⟩ (fun r_25 H locs h hP hS => ?_)
          refine lv_istore (lv' := [(7, .int r_25), (0, .ref b), (1, .int p1), (2, .int p2), (3, .int x3), (4, .int x4), (5, .int x5), (6, .int x6)]) hx hb dX7_laysPair_57 hl (by decide) rfl (fun ls hl => ?_)
          exact J59 _ _ _  _ _ _ h hP hS (lv_sub hl [1, 2, 3, 4, 5, 6, 7, 0] rfl)
        · have h := h.2 c_29
          refine lv_iload_n hx hb dX7_laysPair_41 rfl (lv_at hl 3 rfl) ?_
          refine lv_iload hx hb dX7_laysPair_42 (lv_at hl 6 rfl) ?_
          refine m_cSp (As := [.int x3, .int x6]) (rest := []) ⟨hx, hb, hml, hown, hts⟩ (met_exponent l D cI cB b x3 x6  S _ h) (va_cwS 2 hts (lw_S q1545 q1546 q128 q1547) rfl rfl rfl cwd_exponent ⟨Nat.le_of_ble_eq_true rfl, Nat.le_of_ble_eq_true rfl⟩) hK hP hS rfl hl.1 rfl (Nat.le_of_ble_eq_true rfl) dX7_laysPair_44 ⟨Nat.zero_le _, Nat.zero_le _⟩ (fun r_27 H locs h hP hS => ?_)
          refine lv_goto (tgt := 57) hx hb dX7_laysPair_47 (by decide) ?_
          refine lv_istore (lv' := [(7, .int r_27), (0, .ref b), (1, .int p1), (2, .int p2), (3, .int x3), (4, .int x4), (5, .int x5), (6, .int x6)]) hx hb dX7_laysPair_57 hl (by decide) rfl (fun ls hl => ?_)
          exact J59 _ _ _  _ _ _ h hP hS (lv_sub hl [1, 2, 3, 4, 5, 6, 7, 0] rfl)
  unfold wp_laysPair at h
  refine lv_aload_n hx hb dX7_laysPair_0 rfl (lv_at hl 0 rfl) ?_
  refine lv_iload_n hx hb dX7_laysPair_1 rfl (lv_at hl 1 rfl) ?_
  refine m_cVp (As := [.int p1]) (rest := []) ⟨hx, hb, hml, hown, hts⟩ (met_leadOf l D cI cB b p1  S _ h) (cwV 1 hts (lw_V q1635 q1637 qs91 q128 q1638) rfl rfl rfl cwd_leadOf ⟨Nat.le_of_ble_eq_true rfl, Nat.le_of_ble_eq_true rfl⟩) hK hP hS rfl hl.1 rfl (Nat.le_of_ble_eq_true rfl) dX7_laysPair_2 ⟨Nat.zero_le _, Nat.zero_le _⟩ (fun r_31 H locs h hP hS => ?_)
  refine lv_istore_n (lv' := [(3, .int r_31), (0, .ref b), (1, .int p1), (2, .int p2)]) hx hb dX7_laysPair_5 rfl hl (by decide) rfl (fun ls hl => ?_)
  refine lv_aload_n hx hb dX7_laysPair_6 rfl (lv_at hl 1 rfl) ?_
  refine lv_iload_n hx hb dX7_laysPair_7 rfl (lv_at hl 3 rfl) ?_
  refine m_cVp (As := [.int p2]) (rest := []) ⟨hx, hb, hml, hown, hts⟩ (met_leadOf l D cI cB b p2  S _ h) (cwV 1 hts (lw_V q1635 q1637 qs91 q128 q1638) rfl rfl rfl cwd_leadOf ⟨Nat.le_of_ble_eq_true rfl, Nat.le_of_ble_eq_true rfl⟩) hK hP hS rfl hl.1 rfl (Nat.le_of_ble_eq_true rfl) dX7_laysPair_8 ⟨Nat.zero_le _, Nat.zero_le _⟩ (fun r_33 H locs h hP hS => ?_)
  refine lv_istore (lv' := [(4, .int r_33), (3, .int r_31), (0, .ref b), (1, .int p1), (2, .int p2)]) hx hb dX7_laysPair_11 hl (by decide) rfl (fun ls hl => ?_)
  refine lv_iconst (v := 0) hx hb dX7_laysPair_13 (by decide) ?_
  refine lv_istore (lv' := [(5, .int 0), (4, .int r_33), (3, .int r_31), (0, .ref b), (1, .int p1), (2, .int p2)]) hx hb dX7_laysPair_14 hl (by decide) rfl (fun ls hl => ?_)
  refine lv_iconst (v := 0) hx hb dX7_laysPair_16 (by decide) ?_
  refine lv_istore (lv' := [(6, .int 0), (5, .int 0), (4, .int r_33), (3, .int r_31), (0, .ref b), (1, .int p1), (2, .int p2)]) hx hb dX7_laysPair_17 hl (by decide) rfl (fun ls hl => ?_)
  exact L19 _ _ _ _ _ _ _ _ h hP hS (lv_sub hl [4, 5, 6, 3, 2, 1, 0] rfl)
def wp_firstMissing_j67 (p1 : Int32) (p2 : Int32) (post : Int32 → St → Prop)  (S : St) : Prop :=
    post (-3) S
def wp_firstMissing_j79 (p1 : Int32) (p2 : Int32) (post : Int32 → St → Prop) (R2 : Int32 → St → Prop) (x3 : Int32) (S : St) : Prop :=
        ∀ x3_1 : Int32, x3_1 = x3 + 1 →
        R2 x3_1 S
def wp_firstMissing_b2 (p1 : Int32) (p2 : Int32) (post : Int32 → St → Prop) (R2 : Int32 → St → Prop)  (x3 : Int32) (S : St) : Prop :=
      ((64 ≤ x3 →
        post (-1) S) ∧
       (¬ (64 ≤ x3) →
        ∀ x4_2 : Int32, x4_2 = (x3 / 8) →
        ∀ x5_3 : Int32, x5_3 = (jrem x3 8) →
        ((x5_3 ≤ x4_2 →
          wp_firstMissing_j79 p1 p2 post R2 x3 S) ∧
         (¬ (x5_3 ≤ x4_2) →
          ((((jshr p1 x4_2) &&& 1) = 0 →
            wp_firstMissing_j79 p1 p2 post R2 x3 S) ∧
           (¬ (((jshr p1 x4_2) &&& 1) = 0) →
            ((¬ ((jshr p1 x5_3) &&& 1) = 0 →
              wp_laysPair x4_2 x5_3 S (fun r_4 S_5 =>
              ((r_4 = 0 →
                wp_firstMissing_j67 p1 p2 post  S_5) ∧
               (¬ (r_4 = 0) →
                wp_dividesBy p1 S_5 (fun r_6 S_7 =>
                ((¬ r_6 = 0 →
                  (((S_7 0 37) ≤ 0 →
                    wp_firstMissing_j79 p1 p2 post R2 x3 S_7) ∧
                   (¬ ((S_7 0 37) ≤ 0) →
                    post x3 S_7))) ∧
                 (r_6 = 0 →
                  wp_firstMissing_j67 p1 p2 post  S_7))))))) ∧
             (((jshr p1 x5_3) &&& 1) = 0 →
              wp_firstMissing_j79 p1 p2 post R2 x3 S))))))))
def wp_firstMissing_l2 (p1 : Int32) (p2 : Int32) (post : Int32 → St → Prop)  (x3 : Int32) (S : St) : Prop := wLoop (fun (R : (Int32 × St) → Prop) (v : Int32 × St) => wp_firstMissing_b2 p1 p2 post (fun x3 S => R (x3, S))  v.1 v.2) (x3, S)
def wp_firstMissing (p1 : Int32) (p2 : Int32) (S : St) (post : Int32 → St → Prop) : Prop :=
  wp_firstMissing_l2 p1 p2 post p2 S
set_option maxHeartbeats 4000000 in
theorem met_firstMissing (l : Launch) (D : va_G) (cI cB : ClassId) (b : Nat) (p1 : Int32) (p2 : Int32)  (S : St) (post : Int32 → St → Prop) (h : wp_firstMissing p1 p2 S post) : Met l yX7_firstMissing (ws_ yX7_firstMissing cX7_firstMissing 6 (some .int)) ({ frames := 4, cells := 0, slots := 0, locals := 97 } : Room) (mPc D cI cB b [.ref b, .int p1, .int p2] S) (mQi D cI cB b post) 0 0 (mA b) := by
  refine Met.ofW (cc := cX7_firstMissing) (maxL := 6) (ret := (some .int)) (by decide) rfl ?_
  intro p e s m args below meth c s₁ B hml hv
  obtain ⟨rfl, hP, hK⟩ := hv
  have hx := B.exec
  have hb := B.bytes
  have hr := B.returns
  have hts := atoms_spec (ws := ws_ yX7_firstMissing cX7_firstMissing 6 (some .int)) B.pre
  have hts : ∀ w ∈ lw_all, w.before _ s = true := fun w h => hts w (List.mem_cons_of_mem _ h)
  have hown : s.vm.findClass RX7 = some m.cls := findClass_of_methodNamed B.named
  have hlocks := B.notSynchronized
  have hS : va_S (mA b) s.heap s.heap [] := va_S.rf
  have hl := lv_entry ([.ref b, .int p1, .int p2]) (n := 6) (Nat.le_of_ble_eq_true rfl)
  rw [lg_entry_eq]
  generalize (lg_sl ([.ref b, .int p1, .int p2]) ++ List.replicate (6 - (lg_sl ([.ref b, .int p1, .int p2])).length) Slot.unset).toArray = ls at hl ⊢
  have hl : lv_has ls 6 [(0, .ref b), (1, .int p1), (2, .int p2)] := hl
  have J67 : ∀  (S : St) (H : Heap) (locs : List Loc) (ls : Array Slot), wp_firstMissing_j67 p1 p2 post  S → mW D cI cB b S H → va_S (mA b) s.heap H locs → lv_has ls 6 [(0, .ref b)] → W p l e (headSpec (ws_ yX7_firstMissing cX7_firstMissing 6 (some .int)) ({ frames := 4, cells := 0, slots := 0, locals := 97 } : Room)).room s m ([.ref b, .int p1, .int p2] : List Value).toArray below meth c H locs 0 0 (MQ below (mQi D cI cB b post) ([.ref b, .int p1, .int p2] : List Value).toArray s 0 0 (mA b)) (F0 m 67 ls []) := by
    intro  S H locs ls h hP hS hl
    unfold wp_firstMissing_j67 at h
    refine lv_bipush (v := (-3)) hx hb dX7_firstMissing_67 (by decide) ?_
    exact W.iret (v := (-3)) hx hb hr (fun t ht hW => ⟨⟨(-3), S, rfl, h, by rw [ht]; exact hP, va_K.moved hW.alike hK⟩, hS.F ht⟩) hS.2.2 dX7_firstMissing_69
  have L2 : ∀  (x3 : Int32) (S : St) (H : Heap) (locs : List Loc) (ls : Array Slot), wp_firstMissing_l2 p1 p2 post  x3 S → mW D cI cB b S H → va_S (mA b) s.heap H locs → lv_has ls 6 [(0, .ref b), (1, .int p1), (3, .int x3)] → W p l e (headSpec (ws_ yX7_firstMissing cX7_firstMissing 6 (some .int)) ({ frames := 4, cells := 0, slots := 0, locals := 97 } : Room)).room s m ([.ref b, .int p1, .int p2] : List Value).toArray below meth c H locs 0 0 (MQ below (mQi D cI cB b post) ([.ref b, .int p1, .int p2] : List Value).toArray s 0 0 (mA b)) (F0 m 2 ls []) := by
    intro  x3 S H locs ls h hP hS hl
    obtain ⟨I2, n2, hI, hstep2⟩ := h
    induction n2 using Nat.strongRecOn generalizing x3 S H locs ls with
    | ind n2 ih2 =>
      have h : wp_firstMissing_b2 p1 p2 post (fun x3 S => ∃ mm, mm < n2 ∧ I2 mm (x3, S))  x3 S := hstep2 n2 _ hI
      clear hI
      have J79 : ∀ (x3 : Int32) (S : St) (H : Heap) (locs : List Loc) (ls : Array Slot), wp_firstMissing_j79 p1 p2 post (fun x3 S => ∃ mm, mm < n2 ∧ I2 mm (x3, S)) x3 S → mW D cI cB b S H → va_S (mA b) s.heap H locs → lv_has ls 6 [(0, .ref b), (1, .int p1), (3, .int x3)] → W p l e (headSpec (ws_ yX7_firstMissing cX7_firstMissing 6 (some .int)) ({ frames := 4, cells := 0, slots := 0, locals := 97 } : Room)).room s m ([.ref b, .int p1, .int p2] : List Value).toArray below meth c H locs 0 0 (MQ below (mQi D cI cB b post) ([.ref b, .int p1, .int p2] : List Value).toArray s 0 0 (mA b)) (F0 m 79 ls []) := by
        intro x3 S H locs ls h hP hS hl
        unfold wp_firstMissing_j79 at h
        obtain ⟨x3_1, ex3_1⟩ : ∃ y : Int32, y = x3 + 1 := ⟨_, rfl⟩
        have h := h x3_1 ex3_1
        refine lv_iinc (v := x3_1) (lv' := [(3, .int x3_1), (0, .ref b), (1, .int p1)]) hx hb dX7_firstMissing_79 hl (k := 2) rfl (by rw [ex3_1]; rfl) (by decide) rfl (fun ls hl => ?_)
        refine lv_goto (tgt := 2) hx hb dX7_firstMissing_82 (by decide) ?_
        obtain ⟨mm, hmm, h⟩ := h
        exact ih2 mm hmm _ _ _ _ _ hP hS (lv_sub hl [1, 2, 0] rfl) h
      unfold wp_firstMissing_b2 at h
      refine lv_iload_n hx hb dX7_firstMissing_2 rfl (lv_at hl 2 rfl) ?_
      refine lv_bipush (v := 64) hx hb dX7_firstMissing_3 (by decide) ?_
      refine lv_icmp_ge (tgt := 85) hx hb dX7_firstMissing_5 (by decide) (fun c_14 => ?_) (fun c_14 => ?_)
      · have h := h.1 c_14
        refine lv_iconst (v := (-1)) hx hb dX7_firstMissing_85 (by decide) ?_
        exact W.iret (v := (-1)) hx hb hr (fun t ht hW => ⟨⟨(-1), S, rfl, h, by rw [ht]; exact hP, va_K.moved hW.alike hK⟩, hS.F ht⟩) hS.2.2 dX7_firstMissing_86
      · have h := h.2 c_14
        refine lv_iload_n hx hb dX7_firstMissing_8 rfl (lv_at hl 2 rfl) ?_
        refine lv_bipush (v := 8) hx hb dX7_firstMissing_9 (by decide) ?_
        refine lv_idiv hx hb dX7_firstMissing_11 (by decide) ?_
        refine lv_topi (fun x4_2 ex4_2 => ?_)
        have h := h x4_2 ex4_2
        refine lv_istore (lv' := [(4, .int x4_2), (0, .ref b), (1, .int p1), (3, .int x3)]) hx hb dX7_firstMissing_12 hl (by decide) rfl (fun ls hl => ?_)
        refine lv_iload_n hx hb dX7_firstMissing_14 rfl (lv_at hl 3 rfl) ?_
        refine lv_bipush (v := 8) hx hb dX7_firstMissing_15 (by decide) ?_
        refine m_irem hx hb dX7_firstMissing_17 (by decide) ?_
        refine lv_topi (fun x5_3 ex5_3 => ?_)
        have h := h x5_3 ex5_3
        refine lv_istore (lv' := [(5, .int x5_3), (4, .int x4_2), (0, .ref b), (1, .int p1), (3, .int x3)]) hx hb dX7_firstMissing_18 hl (by decide) rfl (fun ls hl => ?_)
        refine lv_iload hx hb dX7_firstMissing_20 (lv_at hl 1 rfl) ?_
        refine lv_iload hx hb dX7_firstMissing_22 (lv_at hl 0 rfl) ?_
        refine lv_icmp_ge (tgt := 79) hx hb dX7_firstMissing_24 (by decide) (fun c_13 => ?_) (fun c_13 => ?_)
        · have h := h.1 c_13
          exact J79 _ _ _ _ _ h hP hS (lv_sub hl [2, 3, 4] rfl)
        · have h := h.2 c_13
          refine lv_iload_n hx hb dX7_firstMissing_27 rfl (lv_at hl 3 rfl) ?_
          refine lv_iload hx hb dX7_firstMissing_28 (lv_at hl 1 rfl) ?_
          refine m_ishr hx hb dX7_firstMissing_30 ?_
          refine lv_iconst (v := 1) hx hb dX7_firstMissing_31 (by decide) ?_
          refine lv_iand hx hb dX7_firstMissing_32 ?_
          refine lv_if_eq (tgt := 79) hx hb dX7_firstMissing_33 (by decide) (fun c_12 => ?_) (fun c_12 => ?_)
          · have h := h.1 c_12
            exact J79 _ _ _ _ _ h hP hS (lv_sub hl [2, 3, 4] rfl)
          · have h := h.2 c_12
            refine lv_iload_n hx hb dX7_firstMissing_36 rfl (lv_at hl 3 rfl) ?_
            refine lv_iload hx hb dX7_firstMissing_37 (lv_at hl 0 rfl) ?_
            refine m_ishr hx hb dX7_firstMissing_39 ?_
            refine lv_iconst (v := 1) hx hb dX7_firstMissing_40 (by decide) ?_
            refine lv_iand hx hb dX7_firstMissing_41 ?_
            refine lv_if_ne (tgt := 48) hx hb dX7_firstMissing_42 (by decide) (fun c_11 => ?_) (fun c_11 => ?_)
            · have h := h.1 c_11
              refine lv_aload_n hx hb dX7_firstMissing_48 rfl (lv_at hl 2 rfl) ?_
              refine lv_iload hx hb dX7_firstMissing_49 (lv_at hl 1 rfl) ?_
              refine lv_iload hx hb dX7_firstMissing_51 (lv_at hl 0 rfl) ?_
              refine m_cVi (As := [.int x4_2, .int x5_3]) (rest := []) ⟨hx, hb, hml, hown, hts⟩ (met_laysPair l D cI cB b x4_2 x5_3  S _ h) (cwV 2 hts (lw_V q1669 q1671 qs96 q128 q1672) rfl rfl rfl cwd_laysPair ⟨Nat.le_of_ble_eq_true rfl, Nat.le_of_ble_eq_true rfl⟩) hK hP hS rfl hl.1 rfl (Nat.le_of_ble_eq_true rfl) dX7_firstMissing_53 ⟨Nat.zero_le _, Nat.zero_le _⟩ (fun r_4 S_5 H locs h hP hS => ?_)
              refine lv_if_eq (tgt := 67) hx hb dX7_firstMissing_56 (by decide) (fun c_10 => ?_) (fun c_10 => ?_)
              · have h := h.1 c_10
                exact J67  _ _ _ _ h hP hS (lv_sub hl [2] rfl)
              · have h := h.2 c_10
                refine lv_aload_n hx hb dX7_firstMissing_59 rfl (lv_at hl 2 rfl) ?_
                refine lv_iload_n hx hb dX7_firstMissing_60 rfl (lv_at hl 3 rfl) ?_
                refine m_cVi (As := [.int p1]) (rest := []) ⟨hx, hb, hml, hown, hts⟩ (met_dividesBy l D cI cB b p1  S_5 _ h) (cwV 1 hts (lw_V q1631 q1633 qs90 q128 q1634) rfl rfl rfl cwd_dividesBy ⟨Nat.le_of_ble_eq_true rfl, Nat.le_of_ble_eq_true rfl⟩) hK hP hS rfl hl.1 rfl (Nat.le_of_ble_eq_true rfl) dX7_firstMissing_61 ⟨Nat.zero_le _, Nat.zero_le _⟩ (fun r_6 S_7 H locs h hP hS => ?_)
                refine lv_if_ne (tgt := 70) hx hb dX7_firstMissing_64 (by decide) (fun c_9 => ?_) (fun c_9 => ?_)
                · have h := h.1 c_9
                  refine lv_aload_n hx hb dX7_firstMissing_70 rfl (lv_at hl 2 rfl) ?_
                  refine m_get (v := .int (S_7 0 37)) hx hb hts hown hK hP 37 (by decide) q1247 rfl rfl dX7_firstMissing_71 ?_
                  refine lv_if_le (tgt := 79) hx hb dX7_firstMissing_74 (by decide) (fun c_8 => ?_) (fun c_8 => ?_)
                  · have h := h.1 c_8
                    exact J79 _ _ _ _ _ h hP hS (lv_sub hl [2, 3, 4] rfl)
                  · have h := h.2 c_8
                    refine lv_iload_n hx hb dX7_firstMissing_77 rfl (lv_at hl 4 rfl) ?_
                    exact W.iret (v := x3) hx hb hr (fun t ht hW => ⟨⟨x3, S_7, rfl, h, by rw [ht]; exact hP, va_K.moved hW.alike hK⟩, hS.F ht⟩) hS.2.2 dX7_firstMissing_78
                · have h := h.2 c_9
                  exact J67  _ _ _ _ h hP hS (lv_sub hl [2] rfl)
            · have h := h.2 c_11
              refine lv_goto (tgt := 79) hx hb dX7_firstMissing_45 (by decide) ?_
              exact J79 _ _ _ _ _ h hP hS (lv_sub hl [2, 3, 4] rfl)
  unfold wp_firstMissing at h
  refine lv_iload_n hx hb dX7_firstMissing_0 rfl (lv_at hl 2 rfl) ?_
  refine lv_istore_n (lv' := [(3, .int p2), (0, .ref b), (1, .int p1), (2, .int p2)]) hx hb dX7_firstMissing_1 rfl hl (by decide) rfl (fun ls hl => ?_)
  exact L2 _ _ _ _ _ h hP hS (lv_sub hl [1, 2, 0] rfl)
def wp_missing_b44 (p1 : Int32) (post : Int32 → St → Prop) (R44 : Int32 → Int32 → St → Prop)  (x3 : Int32) (x4 : Int32) (S : St) : Prop :=
      ((x4 < 0 →
        ((¬ x4 = (-3) →
          wp_good x3 S (fun r_1 S_2 =>
          post r_1 S_2)) ∧
         (x4 = (-3) →
          wp_refused 3 S (fun r_3 S_4 =>
          post r_3 S_4)))) ∧
       (¬ (x4 < 0) →
        ∀ x3_6 : Int32, x3_6 = x3 + 1 →
        wp_firstMissing p1 (x4 + 1) S (fun r_7 S_8 =>
        R44 x3_6 r_7 S_8)))
def wp_missing_l44 (p1 : Int32) (post : Int32 → St → Prop)  (x3 : Int32) (x4 : Int32) (S : St) : Prop := wLoop (fun (R : (Int32 × Int32 × St) → Prop) (v : Int32 × Int32 × St) => wp_missing_b44 p1 post (fun x3 x4 S => R (x3, x4, S))  v.1 v.2.1 v.2.2) (x3, x4, S)
def wp_missing (p1 : Int32) (S : St) (post : Int32 → St → Prop) : Prop :=
  ∀ S_10 : St, S_10 = bw S 0 0 0 →
  ((¬ (S_10 0 14) = 0 →
    wp_refusesSet p1 S_10 (fun r_11 =>
    ((r_11 ≤ 0 →
      wp_firstMissing p1 0 S_10 (fun r_13 S_14 =>
      wp_missing_l44 p1 post 0 r_13 S_14)) ∧
     (¬ (r_11 ≤ 0) →
      wp_refused r_11 S_10 (fun r_15 S_16 =>
      post r_15 S_16))))) ∧
   ((S_10 0 14) = 0 →
    wp_refused 1 S_10 (fun r_18 S_19 =>
    post r_18 S_19)))
set_option maxHeartbeats 4000000 in
theorem met_missing (l : Launch) (D : va_G) (cI cB : ClassId) (b : Nat) (p1 : Int32)  (S : St) (post : Int32 → St → Prop) (h : wp_missing p1 S post) : Met l yX7_missing (ws_ yX7_missing cX7_missing 5 (some .int)) ({ frames := 5, cells := 0, slots := 0, locals := 122 } : Room) (mPc D cI cB b [.ref b, .int p1] S) (mQi D cI cB b post) 0 0 (mA b) := by
  refine Met.ofW (cc := cX7_missing) (maxL := 5) (ret := (some .int)) (by decide) rfl ?_
  intro p e s m args below meth c s₁ B hml hv
  obtain ⟨rfl, hP, hK⟩ := hv
  have hx := B.exec
  have hb := B.bytes
  have hr := B.returns
  have hts := atoms_spec (ws := ws_ yX7_missing cX7_missing 5 (some .int)) B.pre
  have hts : ∀ w ∈ lw_all, w.before _ s = true := fun w h => hts w (List.mem_cons_of_mem _ h)
  have hown : s.vm.findClass RX7 = some m.cls := findClass_of_methodNamed B.named
  have hlocks := B.notSynchronized
  have hS : va_S (mA b) s.heap s.heap [] := va_S.rf
  have hl := lv_entry ([.ref b, .int p1]) (n := 5) (Nat.le_of_ble_eq_true rfl)
  rw [lg_entry_eq]
  generalize (lg_sl ([.ref b, .int p1]) ++ List.replicate (5 - (lg_sl ([.ref b, .int p1])).length) Slot.unset).toArray = ls at hl ⊢
  have hl : lv_has ls 5 [(0, .ref b), (1, .int p1)] := hl
  have L44 : ∀  (x3 : Int32) (x4 : Int32) (S : St) (H : Heap) (locs : List Loc) (ls : Array Slot), wp_missing_l44 p1 post  x3 x4 S → mW D cI cB b S H → va_S (mA b) s.heap H locs → lv_has ls 5 [(0, .ref b), (1, .int p1), (3, .int x3), (4, .int x4)] → W p l e (headSpec (ws_ yX7_missing cX7_missing 5 (some .int)) ({ frames := 5, cells := 0, slots := 0, locals := 122 } : Room)).room s m ([.ref b, .int p1] : List Value).toArray below meth c H locs 0 0 (MQ below (mQi D cI cB b post) ([.ref b, .int p1] : List Value).toArray s 0 0 (mA b)) (F0 m 44 ls []) := by
    intro  x3 x4 S H locs ls h hP hS hl
    obtain ⟨I44, n44, hI, hstep44⟩ := h
    induction n44 using Nat.strongRecOn generalizing x3 x4 S H locs ls with
    | ind n44 ih44 =>
      have h : wp_missing_b44 p1 post (fun x3 x4 S => ∃ mm, mm < n44 ∧ I44 mm (x3, x4, S))  x3 x4 S := hstep44 n44 _ hI
      clear hI
      unfold wp_missing_b44 at h
      refine lv_iload hx hb dX7_missing_44 (lv_at hl 3 rfl) ?_
      refine lv_if_lt (tgt := 66) hx hb dX7_missing_46 (by decide) (fun c_9 => ?_) (fun c_9 => ?_)
      · have h := h.1 c_9
        refine lv_iload hx hb dX7_missing_66 (lv_at hl 3 rfl) ?_
        refine lv_bipush (v := (-3)) hx hb dX7_missing_68 (by decide) ?_
        refine lv_icmp_ne (tgt := 81) hx hb dX7_missing_70 (by decide) (fun c_5 => ?_) (fun c_5 => ?_)
        · have h := h.1 c_5
          refine lv_aload_n hx hb dX7_missing_81 rfl (lv_at hl 0 rfl) ?_
          refine lv_iload_n hx hb dX7_missing_82 rfl (lv_at hl 2 rfl) ?_
          refine m_cVi (As := [.int x3]) (rest := []) ⟨hx, hb, hml, hown, hts⟩ (met_good l D cI cB b x3  S _ h) (cwV 1 hts (lw_V q1498 q1500 qs76 q128 q1501) rfl rfl rfl cwd_good ⟨Nat.le_of_ble_eq_true rfl, Nat.le_of_ble_eq_true rfl⟩) hK hP hS rfl hl.1 rfl (Nat.le_of_ble_eq_true rfl) dX7_missing_83 ⟨Nat.zero_le _, Nat.zero_le _⟩ (fun r_1 S_2 H locs h hP hS => ?_)
          exact W.iret (v := r_1) hx hb hr (fun t ht hW => ⟨⟨r_1, S_2, rfl, h, by rw [ht]; exact hP, va_K.moved hW.alike hK⟩, hS.F ht⟩) hS.2.2 dX7_missing_86
        · have h := h.2 c_5
          refine lv_aload_n hx hb dX7_missing_73 rfl (lv_at hl 0 rfl) ?_
          refine lv_iconst (v := 3) hx hb dX7_missing_74 (by decide) ?_
          refine m_cVi (As := [.int 3]) (rest := []) ⟨hx, hb, hml, hown, hts⟩ (met_refused l D cI cB b 3  S _ h) (cwV 1 hts (lw_V q1382 q1384 qs58 q128 q1385) rfl rfl rfl cwd_refused ⟨Nat.le_of_ble_eq_true rfl, Nat.le_of_ble_eq_true rfl⟩) hK hP hS rfl hl.1 rfl (Nat.le_of_ble_eq_true rfl) dX7_missing_75 ⟨Nat.zero_le _, Nat.zero_le _⟩ (fun r_3 S_4 H locs h hP hS => ?_)
          refine lv_goto (tgt := 86) hx hb dX7_missing_78 (by decide) ?_
          exact W.iret (v := r_3) hx hb hr (fun t ht hW => ⟨⟨r_3, S_4, rfl, h, by rw [ht]; exact hP, va_K.moved hW.alike hK⟩, hS.F ht⟩) hS.2.2 dX7_missing_86
      · have h := h.2 c_9
        obtain ⟨x3_6, ex3_6⟩ : ∃ y : Int32, y = x3 + 1 := ⟨_, rfl⟩
        have h := h x3_6 ex3_6
        refine lv_iinc (v := x3_6) (lv' := [(3, .int x3_6), (0, .ref b), (1, .int p1), (4, .int x4)]) hx hb dX7_missing_49 hl (k := 2) rfl (by rw [ex3_6]; rfl) (by decide) rfl (fun ls hl => ?_)
        refine lv_aload_n hx hb dX7_missing_52 rfl (lv_at hl 1 rfl) ?_
        refine lv_iload_n hx hb dX7_missing_53 rfl (lv_at hl 2 rfl) ?_
        refine lv_iload hx hb dX7_missing_54 (lv_at hl 3 rfl) ?_
        refine lv_iconst (v := 1) hx hb dX7_missing_56 (by decide) ?_
        refine lv_iadd hx hb dX7_missing_57 ?_
        refine m_cVi (As := [.int p1, .int (x4 + 1)]) (rest := []) ⟨hx, hb, hml, hown, hts⟩ (met_firstMissing l D cI cB b p1 (x4 + 1)  S _ h) (cwV 2 hts (lw_V q1665 q1667 qs95 q128 q1668) rfl rfl rfl cwd_firstMissing ⟨Nat.le_of_ble_eq_true rfl, Nat.le_of_ble_eq_true rfl⟩) hK hP hS rfl hl.1 rfl (Nat.le_of_ble_eq_true rfl) dX7_missing_58 ⟨Nat.zero_le _, Nat.zero_le _⟩ (fun r_7 S_8 H locs h hP hS => ?_)
        refine lv_istore (lv' := [(4, .int r_7), (3, .int x3_6), (0, .ref b), (1, .int p1)]) hx hb dX7_missing_61 hl (by decide) rfl (fun ls hl => ?_)
        refine lv_goto (tgt := 44) hx hb dX7_missing_63 (by decide) ?_
        obtain ⟨mm, hmm, h⟩ := h
        exact ih44 mm hmm _ _ _ _ _ _ hP hS (lv_sub hl [2, 3, 1, 0] rfl) h
  unfold wp_missing at h
  refine lv_aload_n hx hb dX7_missing_0 rfl (lv_at hl 0 rfl) ?_
  refine lv_iconst (v := 0) hx hb dX7_missing_1 (by decide) ?_
  obtain ⟨S_10, eS_10⟩ : ∃ z : St, z = bw S 0 0 0 := ⟨_, rfl⟩
  have h := h S_10 eS_10
  refine m_put (S1 := S_10) (v := .int 0) (ty := .int) hx hb hts hown hK hP hS 0 (by decide) q1210 rfl rfl (tyX7_ok 0 (by decide)) rfl rfl (by rw [eS_10]; exact mset_0 b S 0) (by rw [eS_10]; exact bw_0) dX7_missing_2 (fun H locs hP hS => ?_)
  refine lv_aload_n hx hb dX7_missing_5 rfl (lv_at hl 0 rfl) ?_
  refine m_get (v := .int (S_10 0 14)) hx hb hts hown hK hP 14 (by decide) q1224 rfl rfl dX7_missing_6 ?_
  refine lv_if_ne (tgt := 18) hx hb dX7_missing_9 (by decide) (fun c_20 => ?_) (fun c_20 => ?_)
  · have h := h.1 c_20
    refine lv_aload_n hx hb dX7_missing_18 rfl (lv_at hl 0 rfl) ?_
    refine lv_iload_n hx hb dX7_missing_19 rfl (lv_at hl 1 rfl) ?_
    refine m_cVp (As := [.int p1]) (rest := []) ⟨hx, hb, hml, hown, hts⟩ (met_refusesSet l D cI cB b p1  S_10 _ h) (cwV 1 hts (lw_V q1623 q1625 qs88 q128 q1626) rfl rfl rfl cwd_refusesSet ⟨Nat.le_of_ble_eq_true rfl, Nat.le_of_ble_eq_true rfl⟩) hK hP hS rfl hl.1 rfl (Nat.le_of_ble_eq_true rfl) dX7_missing_20 ⟨Nat.zero_le _, Nat.zero_le _⟩ (fun r_11 H locs h hP hS => ?_)
    refine lv_istore_n (lv' := [(2, .int r_11), (0, .ref b), (1, .int p1)]) hx hb dX7_missing_23 rfl hl (by decide) rfl (fun ls hl => ?_)
    refine lv_iload_n hx hb dX7_missing_24 rfl (lv_at hl 0 rfl) ?_
    refine lv_if_le (tgt := 34) hx hb dX7_missing_25 (by decide) (fun c_17 => ?_) (fun c_17 => ?_)
    · have h := h.1 c_17
      refine lv_iconst (v := 0) hx hb dX7_missing_34 (by decide) ?_
      refine lv_istore_n (lv' := [(3, .int 0), (2, .int r_11), (0, .ref b), (1, .int p1)]) hx hb dX7_missing_35 rfl hl (by decide) rfl (fun ls hl => ?_)
      refine lv_aload_n hx hb dX7_missing_36 rfl (lv_at hl 2 rfl) ?_
      refine lv_iload_n hx hb dX7_missing_37 rfl (lv_at hl 3 rfl) ?_
      refine lv_iconst (v := 0) hx hb dX7_missing_38 (by decide) ?_
      refine m_cVi (As := [.int p1, .int 0]) (rest := []) ⟨hx, hb, hml, hown, hts⟩ (met_firstMissing l D cI cB b p1 0  S_10 _ h) (cwV 2 hts (lw_V q1665 q1667 qs95 q128 q1668) rfl rfl rfl cwd_firstMissing ⟨Nat.le_of_ble_eq_true rfl, Nat.le_of_ble_eq_true rfl⟩) hK hP hS rfl hl.1 rfl (Nat.le_of_ble_eq_true rfl) dX7_missing_39 ⟨Nat.zero_le _, Nat.zero_le _⟩ (fun r_13 S_14 H locs h hP hS => ?_)
      refine lv_istore (lv' := [(4, .int r_13), (3, .int 0), (2, .int r_11), (0, .ref b), (1, .int p1)]) hx hb dX7_missing_42 hl (by decide) rfl (fun ls hl => ?_)
      exact L44 _ _ _ _ _ _ h hP hS (lv_sub hl [3, 4, 1, 0] rfl)
    · have h := h.2 c_17
      refine lv_aload_n hx hb dX7_missing_28 rfl (lv_at hl 1 rfl) ?_
      refine lv_iload_n hx hb dX7_missing_29 rfl (lv_at hl 0 rfl) ?_
      refine m_cVi (As := [.int r_11]) (rest := []) ⟨hx, hb, hml, hown, hts⟩ (met_refused l D cI cB b r_11  S_10 _ h) (cwV 1 hts (lw_V q1382 q1384 qs58 q128 q1385) rfl rfl rfl cwd_refused ⟨Nat.le_of_ble_eq_true rfl, Nat.le_of_ble_eq_true rfl⟩) hK hP hS rfl hl.1 rfl (Nat.le_of_ble_eq_true rfl) dX7_missing_30 ⟨Nat.zero_le _, Nat.zero_le _⟩ (fun r_15 S_16 H locs h hP hS => ?_)
      exact W.iret (v := r_15) hx hb hr (fun t ht hW => ⟨⟨r_15, S_16, rfl, h, by rw [ht]; exact hP, va_K.moved hW.alike hK⟩, hS.F ht⟩) hS.2.2 dX7_missing_33
  · have h := h.2 c_20
    refine lv_aload_n hx hb dX7_missing_12 rfl (lv_at hl 0 rfl) ?_
    refine lv_iconst (v := 1) hx hb dX7_missing_13 (by decide) ?_
    refine m_cVi (As := [.int 1]) (rest := []) ⟨hx, hb, hml, hown, hts⟩ (met_refused l D cI cB b 1  S_10 _ h) (cwV 1 hts (lw_V q1382 q1384 qs58 q128 q1385) rfl rfl rfl cwd_refused ⟨Nat.le_of_ble_eq_true rfl, Nat.le_of_ble_eq_true rfl⟩) hK hP hS rfl hl.1 rfl (Nat.le_of_ble_eq_true rfl) dX7_missing_14 ⟨Nat.zero_le _, Nat.zero_le _⟩ (fun r_18 S_19 H locs h hP hS => ?_)
    exact W.iret (v := r_18) hx hb hr (fun t ht hW => ⟨⟨r_18, S_19, rfl, h, by rw [ht]; exact hP, va_K.moved hW.alike hK⟩, hS.F ht⟩) hS.2.2 dX7_missing_17
def wp_areRegs (p1 : Int32) (p2 : Int32) (p3 : Int32) (S : St) (post : Int32 → Prop) : Prop :=
  wp_isReg p1 S (fun r_1 =>
  ((r_1 = 0 →
    post 0) ∧
   (¬ (r_1 = 0) →
    wp_isReg p2 S (fun r_3 =>
    ((r_3 = 0 →
      post 0) ∧
     (¬ (r_3 = 0) →
      wp_isReg p3 S (fun r_5 =>
      ((r_5 = 0 →
        post 0) ∧
       (¬ (r_5 = 0) →
        post 1)))))))))
set_option maxHeartbeats 4000000 in
theorem met_areRegs (l : Launch) (D : va_G) (cI cB : ClassId) (b : Nat) (p1 : Int32) (p2 : Int32) (p3 : Int32)  (S : St) (post : Int32 → Prop) (h : wp_areRegs p1 p2 p3 S post) : Met l yX7_areRegs (ws_ yX7_areRegs cX7_areRegs 4 (some .boolean)) ({ frames := 2, cells := 0, slots := 0, locals := 43 } : Room) (mPc D cI cB b [.ref b, .int p1, .int p2, .int p3] S) (mQp D cI cB b S post) 0 0 (mA b) := by
  refine Met.ofW (cc := cX7_areRegs) (maxL := 4) (ret := (some .boolean)) (by decide) rfl ?_
  intro p e s m args below meth c s₁ B hml hv
  obtain ⟨rfl, hP, hK⟩ := hv
  have hx := B.exec
  have hb := B.bytes
  have hr := B.returns
  have hts := atoms_spec (ws := ws_ yX7_areRegs cX7_areRegs 4 (some .boolean)) B.pre
  have hts : ∀ w ∈ lw_all, w.before _ s = true := fun w h => hts w (List.mem_cons_of_mem _ h)
  have hown : s.vm.findClass RX7 = some m.cls := findClass_of_methodNamed B.named
  have hlocks := B.notSynchronized
  have hS : va_S (mA b) s.heap s.heap [] := va_S.rf
  have hl := lv_entry ([.ref b, .int p1, .int p2, .int p3]) (n := 4) (Nat.le_of_ble_eq_true rfl)
  rw [lg_entry_eq]
  generalize (lg_sl ([.ref b, .int p1, .int p2, .int p3]) ++ List.replicate (4 - (lg_sl ([.ref b, .int p1, .int p2, .int p3])).length) Slot.unset).toArray = ls at hl ⊢
  have hl : lv_has ls 4 [(0, .ref b), (1, .int p1), (2, .int p2), (3, .int p3)] := hl
  unfold wp_areRegs at h
  refine lv_aload_n hx hb dX7_areRegs_0 rfl (lv_at hl 0 rfl) ?_
  refine lv_iload_n hx hb dX7_areRegs_1 rfl (lv_at hl 1 rfl) ?_
  refine m_cVp (As := [.int p1]) (rest := []) ⟨hx, hb, hml, hown, hts⟩ (met_isReg l D cI cB b p1  S _ h) (cwV 1 hts (lw_V q1534 q1536 qs81 q128 q1537) rfl rfl rfl cwd_isReg ⟨Nat.le_of_ble_eq_true rfl, Nat.le_of_ble_eq_true rfl⟩) hK hP hS rfl hl.1 rfl (Nat.le_of_ble_eq_true rfl) dX7_areRegs_2 ⟨Nat.zero_le _, Nat.zero_le _⟩ (fun r_1 H locs h hP hS => ?_)
  refine lv_if_eq (tgt := 28) hx hb dX7_areRegs_5 (by decide) (fun c_9 => ?_) (fun c_9 => ?_)
  · have h := h.1 c_9
    refine lv_iconst (v := 0) hx hb dX7_areRegs_28 (by decide) ?_
    exact W.zret (v := 0) hx hb hr rfl (fun t ht hW => ⟨⟨0, (), rfl, h, by rw [ht]; exact hP, va_K.moved hW.alike hK⟩, hS.F ht⟩) hS.2.2 dX7_areRegs_29
  · have h := h.2 c_9
    refine lv_aload_n hx hb dX7_areRegs_8 rfl (lv_at hl 0 rfl) ?_
    refine lv_iload_n hx hb dX7_areRegs_9 rfl (lv_at hl 2 rfl) ?_
    refine m_cVp (As := [.int p2]) (rest := []) ⟨hx, hb, hml, hown, hts⟩ (met_isReg l D cI cB b p2  S _ h) (cwV 1 hts (lw_V q1534 q1536 qs81 q128 q1537) rfl rfl rfl cwd_isReg ⟨Nat.le_of_ble_eq_true rfl, Nat.le_of_ble_eq_true rfl⟩) hK hP hS rfl hl.1 rfl (Nat.le_of_ble_eq_true rfl) dX7_areRegs_10 ⟨Nat.zero_le _, Nat.zero_le _⟩ (fun r_3 H locs h hP hS => ?_)
    refine lv_if_eq (tgt := 28) hx hb dX7_areRegs_13 (by decide) (fun c_8 => ?_) (fun c_8 => ?_)
    · have h := h.1 c_8
      refine lv_iconst (v := 0) hx hb dX7_areRegs_28 (by decide) ?_
      exact W.zret (v := 0) hx hb hr rfl (fun t ht hW => ⟨⟨0, (), rfl, h, by rw [ht]; exact hP, va_K.moved hW.alike hK⟩, hS.F ht⟩) hS.2.2 dX7_areRegs_29
    · have h := h.2 c_8
      refine lv_aload_n hx hb dX7_areRegs_16 rfl (lv_at hl 0 rfl) ?_
      refine lv_iload_n hx hb dX7_areRegs_17 rfl (lv_at hl 3 rfl) ?_
      refine m_cVp (As := [.int p3]) (rest := []) ⟨hx, hb, hml, hown, hts⟩ (met_isReg l D cI cB b p3  S _ h) (cwV 1 hts (lw_V q1534 q1536 qs81 q128 q1537) rfl rfl rfl cwd_isReg ⟨Nat.le_of_ble_eq_true rfl, Nat.le_of_ble_eq_true rfl⟩) hK hP hS rfl hl.1 rfl (Nat.le_of_ble_eq_true rfl) dX7_areRegs_18 ⟨Nat.zero_le _, Nat.zero_le _⟩ (fun r_5 H locs h hP hS => ?_)
      refine lv_if_eq (tgt := 28) hx hb dX7_areRegs_21 (by decide) (fun c_7 => ?_) (fun c_7 => ?_)
      · have h := h.1 c_7
        refine lv_iconst (v := 0) hx hb dX7_areRegs_28 (by decide) ?_
        exact W.zret (v := 0) hx hb hr rfl (fun t ht hW => ⟨⟨0, (), rfl, h, by rw [ht]; exact hP, va_K.moved hW.alike hK⟩, hS.F ht⟩) hS.2.2 dX7_areRegs_29
      · have h := h.2 c_7
        refine lv_iconst (v := 1) hx hb dX7_areRegs_24 (by decide) ?_
        refine lv_goto (tgt := 29) hx hb dX7_areRegs_25 (by decide) ?_
        exact W.zret (v := 1) hx hb hr rfl (fun t ht hW => ⟨⟨1, (), rfl, h, by rw [ht]; exact hP, va_K.moved hW.alike hK⟩, hS.F ht⟩) hS.2.2 dX7_areRegs_29
def wp_remembers_j160 (p1 : Int32) (post : St → Prop) (R123 : Int32 → St → Prop) (x2 : Int32) (S : St) : Prop :=
        ∀ x2_1 : Int32, x2_1 = x2 + 1 →
        R123 x2_1 S
def wp_remembers_b123 (p1 : Int32) (post : St → Prop) (R123 : Int32 → St → Prop)  (x2 : Int32) (S : St) : Prop :=
      ((4096 ≤ x2 →
        ∃ j_2 : Nat, j_2 < 8 ∧ (S 0 45) = nI j_2 ∧ ∀ S_3 : St, S_3 = bw S 14 j_2 p1 →
        ∃ j_4 : Nat, j_4 < 8 ∧ (S_3 0 45) = nI j_4 ∧ ∀ S_5 : St, S_5 = bw S_3 15 j_4 (S_3 0 6) →
        ∃ j_6 : Nat, j_6 < 8 ∧ (S_5 0 45) = nI j_6 ∧ ∀ S_7 : St, S_7 = bw S_5 16 j_6 (S_5 0 7) →
        ∃ j_8 : Nat, j_8 < 8 ∧ (S_7 0 45) = nI j_8 ∧ ∀ S_9 : St, S_9 = bw S_7 17 j_8 (S_7 0 8) →
        ∀ S_10 : St, S_10 = bw S_9 0 45 ((S_9 0 45) + 1) →
        post S_10) ∧
       (¬ (4096 ≤ x2) →
        ((¬ p1 = (-1) →
          wp_coef p1 x2 S (fun r_11 =>
          ∃ j_13 : Nat, j_13 < 32768 ∧ ((4096 * (S 0 45)) + x2) = nI j_13 ∧ ∀ S_14 : St, S_14 = bw S 13 j_13 r_11 →
          wp_remembers_j160 p1 post R123 x2 S_14)) ∧
         (p1 = (-1) →
          ∃ j_15 : Nat, j_15 < 32768 ∧ ((4096 * (S 0 45)) + x2) = nI j_15 ∧ ∀ S_16 : St, S_16 = bw S 13 j_15 0 →
          wp_remembers_j160 p1 post R123 x2 S_16))))
def wp_remembers_l123 (p1 : Int32) (post : St → Prop)  (x2 : Int32) (S : St) : Prop := wLoop (fun (R : (Int32 × St) → Prop) (v : Int32 × St) => wp_remembers_b123 p1 post (fun x2 S => R (x2, S))  v.1 v.2) (x2, S)
def wp_remembers_j121 (p1 : Int32) (post : St → Prop)  (S : St) : Prop :=
    wp_remembers_l123 p1 post 0 S
def wp_remembers_b43 (p1 : Int32) (post : St → Prop) (R43 : Int32 → St → Prop)  (x2 : Int32) (S : St) : Prop :=
      ((8 ≤ x2 →
        ∀ S_19 : St, S_19 = bw S 0 45 ((S 0 45) - 1) →
        wp_remembers_j121 p1 post  S_19) ∧
       (¬ (8 ≤ x2) →
        ∃ j_20 : Nat, j_20 < 8 ∧ x2 = nI j_20 ∧
        ∃ j_21 : Nat, j_21 < 8 ∧ (x2 - 1) = nI j_21 ∧ ∀ S_22 : St, S_22 = bw S 14 j_21 (S 14 j_20) →
        ∃ j_23 : Nat, j_23 < 8 ∧ x2 = nI j_23 ∧
        ∃ j_24 : Nat, j_24 < 8 ∧ (x2 - 1) = nI j_24 ∧ ∀ S_25 : St, S_25 = bw S_22 15 j_24 (S_22 15 j_23) →
        ∃ j_26 : Nat, j_26 < 8 ∧ x2 = nI j_26 ∧
        ∃ j_27 : Nat, j_27 < 8 ∧ (x2 - 1) = nI j_27 ∧ ∀ S_28 : St, S_28 = bw S_25 16 j_27 (S_25 16 j_26) →
        ∃ j_29 : Nat, j_29 < 8 ∧ x2 = nI j_29 ∧
        ∃ j_30 : Nat, j_30 < 8 ∧ (x2 - 1) = nI j_30 ∧ ∀ S_31 : St, S_31 = bw S_28 17 j_30 (S_28 17 j_29) →
        ∀ x2_32 : Int32, x2_32 = x2 + 1 →
        R43 x2_32 S_31))
def wp_remembers_l43 (p1 : Int32) (post : St → Prop)  (x2 : Int32) (S : St) : Prop := wLoop (fun (R : (Int32 × St) → Prop) (v : Int32 × St) => wp_remembers_b43 p1 post (fun x2 S => R (x2, S))  v.1 v.2) (x2, S)
def wp_remembers_b13 (p1 : Int32) (post : St → Prop) (R13 : Int32 → St → Prop)  (x2 : Int32) (S : St) : Prop :=
      ((32768 ≤ x2 →
        wp_remembers_l43 p1 post 1 S) ∧
       (¬ (32768 ≤ x2) →
        ∃ j_34 : Nat, j_34 < 32768 ∧ x2 = nI j_34 ∧
        ∃ j_35 : Nat, j_35 < 32768 ∧ (x2 - 4096) = nI j_35 ∧ ∀ S_36 : St, S_36 = bw S 13 j_35 (S 13 j_34) →
        ∀ x2_37 : Int32, x2_37 = x2 + 1 →
        R13 x2_37 S_36))
def wp_remembers_l13 (p1 : Int32) (post : St → Prop)  (x2 : Int32) (S : St) : Prop := wLoop (fun (R : (Int32 × St) → Prop) (v : Int32 × St) => wp_remembers_b13 p1 post (fun x2 S => R (x2, S))  v.1 v.2) (x2, S)
def wp_remembers (p1 : Int32) (S : St) (post : St → Prop) : Prop :=
  ((¬ (S 0 45) = 8 →
    wp_remembers_j121 p1 post  S) ∧
   ((S 0 45) = 8 →
    wp_remembers_l13 p1 post 4096 S))
set_option maxHeartbeats 4000000 in
theorem met_remembers (l : Launch) (D : va_G) (cI cB : ClassId) (b : Nat) (p1 : Int32)  (S : St) (post : St → Prop) (h : wp_remembers p1 S post) : Met l yX7_remembers (ws_ yX7_remembers cX7_remembers 3 none) ({ frames := 1, cells := 0, slots := 0, locals := 22 } : Room) (mPc D cI cB b [.ref b, .int p1] S) (mQv D cI cB b post) 0 0 (mA b) := by
  refine Met.ofW (cc := cX7_remembers) (maxL := 3) (ret := none) (by decide) rfl ?_
  intro p e s m args below meth c s₁ B hml hv
  obtain ⟨rfl, hP, hK⟩ := hv
  have hx := B.exec
  have hb := B.bytes
  have hr := B.returns
  have hts := atoms_spec (ws := ws_ yX7_remembers cX7_remembers 3 none) B.pre
  have hts : ∀ w ∈ lw_all, w.before _ s = true := fun w h => hts w (List.mem_cons_of_mem _ h)
  have hown : s.vm.findClass RX7 = some m.cls := findClass_of_methodNamed B.named
  have hlocks := B.notSynchronized
  have hS : va_S (mA b) s.heap s.heap [] := va_S.rf
  have hl := lv_entry ([.ref b, .int p1]) (n := 3) (Nat.le_of_ble_eq_true rfl)
  rw [lg_entry_eq]
  generalize (lg_sl ([.ref b, .int p1]) ++ List.replicate (3 - (lg_sl ([.ref b, .int p1])).length) Slot.unset).toArray = ls at hl ⊢
  have hl : lv_has ls 3 [(0, .ref b), (1, .int p1)] := hl
  have L123 : ∀  (x2 : Int32) (S : St) (H : Heap) (locs : List Loc) (ls : Array Slot), wp_remembers_l123 p1 post  x2 S → mW D cI cB b S H → va_S (mA b) s.heap H locs → lv_has ls 3 [(0, .ref b), (1, .int p1), (2, .int x2)] → W p l e (headSpec (ws_ yX7_remembers cX7_remembers 3 none) ({ frames := 1, cells := 0, slots := 0, locals := 22 } : Room)).room s m ([.ref b, .int p1] : List Value).toArray below meth c H locs 0 0 (MQ below (mQv D cI cB b post) ([.ref b, .int p1] : List Value).toArray s 0 0 (mA b)) (F0 m 123 ls []) := by
    intro  x2 S H locs ls h hP hS hl
    obtain ⟨I123, n123, hI, hstep123⟩ := h
    induction n123 using Nat.strongRecOn generalizing x2 S H locs ls with
    | ind n123 ih123 =>
      have h : wp_remembers_b123 p1 post (fun x2 S => ∃ mm, mm < n123 ∧ I123 mm (x2, S))  x2 S := hstep123 n123 _ hI
      clear hI
      have J160 : ∀ (x2 : Int32) (S : St) (H : Heap) (locs : List Loc) (ls : Array Slot), wp_remembers_j160 p1 post (fun x2 S => ∃ mm, mm < n123 ∧ I123 mm (x2, S)) x2 S → mW D cI cB b S H → va_S (mA b) s.heap H locs → lv_has ls 3 [(0, .ref b), (1, .int p1), (2, .int x2)] → W p l e (headSpec (ws_ yX7_remembers cX7_remembers 3 none) ({ frames := 1, cells := 0, slots := 0, locals := 22 } : Room)).room s m ([.ref b, .int p1] : List Value).toArray below meth c H locs 0 0 (MQ below (mQv D cI cB b post) ([.ref b, .int p1] : List Value).toArray s 0 0 (mA b)) (F0 m 160 ls []) := by
        intro x2 S H locs ls h hP hS hl
        unfold wp_remembers_j160 at h
        obtain ⟨x2_1, ex2_1⟩ : ∃ y : Int32, y = x2 + 1 := ⟨_, rfl⟩
        have h := h x2_1 ex2_1
        refine lv_iinc (v := x2_1) (lv' := [(2, .int x2_1), (0, .ref b), (1, .int p1)]) hx hb dX7_remembers_160 hl (k := 2) rfl (by rw [ex2_1]; rfl) (by decide) rfl (fun ls hl => ?_)
        refine lv_goto (tgt := 123) hx hb dX7_remembers_163 (by decide) ?_
        obtain ⟨mm, hmm, h⟩ := h
        exact ih123 mm hmm _ _ _ _ _ hP hS (lv_sub hl [1, 2, 0] rfl) h
      unfold wp_remembers_b123 at h
      refine lv_iload_n hx hb dX7_remembers_123 rfl (lv_at hl 2 rfl) ?_
      refine lv_sipush (v := 4096) hx hb dX7_remembers_124 (by decide) ?_
      refine lv_icmp_ge (tgt := 166) hx hb dX7_remembers_127 (by decide) (fun c_18 => ?_) (fun c_18 => ?_)
      · have h := h.1 c_18
        refine lv_aload_n hx hb dX7_remembers_166 rfl (lv_at hl 0 rfl) ?_
        refine m_get (v := .ref (b + 14)) hx hb hts hown hK hP 41 (by decide) q1251 rfl rfl dX7_remembers_167 ?_
        refine lv_aload_n hx hb dX7_remembers_170 rfl (lv_at hl 0 rfl) ?_
        refine m_get (v := .int (S 0 45)) hx hb hts hown hK hP 45 (by decide) q1255 rfl rfl dX7_remembers_171 ?_
        refine lv_iload_n hx hb dX7_remembers_174 rfl (lv_at hl 1 rfl) ?_
        obtain ⟨j_2, hj_2, ej_2, h⟩ := h
        obtain ⟨S_3, eS_3⟩ : ∃ z : St, z = bw S 14 j_2 p1 := ⟨_, rfl⟩
        have h := h S_3 eS_3
        refine m_iast hx hb hK hP hS (k := 14) mok_14 ej_2 hj_2 dX7_remembers_175 (fun H locs hP hS => ?_)
        rw [← eS_3] at hP
        refine lv_aload_n hx hb dX7_remembers_176 rfl (lv_at hl 0 rfl) ?_
        refine m_get (v := .ref (b + 15)) hx hb hts hown hK hP 42 (by decide) q1252 rfl rfl dX7_remembers_177 ?_
        refine lv_aload_n hx hb dX7_remembers_180 rfl (lv_at hl 0 rfl) ?_
        refine m_get (v := .int (S_3 0 45)) hx hb hts hown hK hP 45 (by decide) q1255 rfl rfl dX7_remembers_181 ?_
        refine lv_aload_n hx hb dX7_remembers_184 rfl (lv_at hl 0 rfl) ?_
        refine m_get (v := .int (S_3 0 6)) hx hb hts hown hK hP 6 (by decide) q1216 rfl rfl dX7_remembers_185 ?_
        obtain ⟨j_4, hj_4, ej_4, h⟩ := h
        obtain ⟨S_5, eS_5⟩ : ∃ z : St, z = bw S_3 15 j_4 (S_3 0 6) := ⟨_, rfl⟩
        have h := h S_5 eS_5
        refine m_iast hx hb hK hP hS (k := 15) mok_15 ej_4 hj_4 dX7_remembers_188 (fun H locs hP hS => ?_)
        rw [← eS_5] at hP
        refine lv_aload_n hx hb dX7_remembers_189 rfl (lv_at hl 0 rfl) ?_
        refine m_get (v := .ref (b + 16)) hx hb hts hown hK hP 43 (by decide) q1253 rfl rfl dX7_remembers_190 ?_
        refine lv_aload_n hx hb dX7_remembers_193 rfl (lv_at hl 0 rfl) ?_
        refine m_get (v := .int (S_5 0 45)) hx hb hts hown hK hP 45 (by decide) q1255 rfl rfl dX7_remembers_194 ?_
        refine lv_aload_n hx hb dX7_remembers_197 rfl (lv_at hl 0 rfl) ?_
        refine m_get (v := .int (S_5 0 7)) hx hb hts hown hK hP 7 (by decide) q1217 rfl rfl dX7_remembers_198 ?_
        obtain ⟨j_6, hj_6, ej_6, h⟩ := h
        obtain ⟨S_7, eS_7⟩ : ∃ z : St, z = bw S_5 16 j_6 (S_5 0 7) := ⟨_, rfl⟩
        have h := h S_7 eS_7
        refine m_iast hx hb hK hP hS (k := 16) mok_16 ej_6 hj_6 dX7_remembers_201 (fun H locs hP hS => ?_)
        rw [← eS_7] at hP
        refine lv_aload_n hx hb dX7_remembers_202 rfl (lv_at hl 0 rfl) ?_
        refine m_get (v := .ref (b + 17)) hx hb hts hown hK hP 44 (by decide) q1254 rfl rfl dX7_remembers_203 ?_
        refine lv_aload_n hx hb dX7_remembers_206 rfl (lv_at hl 0 rfl) ?_
        refine m_get (v := .int (S_7 0 45)) hx hb hts hown hK hP 45 (by decide) q1255 rfl rfl dX7_remembers_207 ?_
        refine lv_aload_n hx hb dX7_remembers_210 rfl (lv_at hl 0 rfl) ?_
        refine m_get (v := .int (S_7 0 8)) hx hb hts hown hK hP 8 (by decide) q1218 rfl rfl dX7_remembers_211 ?_
        obtain ⟨j_8, hj_8, ej_8, h⟩ := h
        obtain ⟨S_9, eS_9⟩ : ∃ z : St, z = bw S_7 17 j_8 (S_7 0 8) := ⟨_, rfl⟩
        have h := h S_9 eS_9
        refine m_iast hx hb hK hP hS (k := 17) mok_17 ej_8 hj_8 dX7_remembers_214 (fun H locs hP hS => ?_)
        rw [← eS_9] at hP
        refine lv_aload_n hx hb dX7_remembers_215 rfl (lv_at hl 0 rfl) ?_
        refine lv_dup hx hb dX7_remembers_216 rfl ?_
        refine m_get (v := .int (S_9 0 45)) hx hb hts hown hK hP 45 (by decide) q1255 rfl rfl dX7_remembers_217 ?_
        refine lv_iconst (v := 1) hx hb dX7_remembers_220 (by decide) ?_
        refine lv_iadd hx hb dX7_remembers_221 ?_
        obtain ⟨S_10, eS_10⟩ : ∃ z : St, z = bw S_9 0 45 ((S_9 0 45) + 1) := ⟨_, rfl⟩
        have h := h S_10 eS_10
        refine m_put (S1 := S_10) (v := .int ((S_9 0 45) + 1)) (ty := .int) hx hb hts hown hK hP hS 45 (by decide) q1255 rfl rfl (tyX7_ok 45 (by decide)) rfl rfl (by rw [eS_10]; exact mset_45 b S_9 ((S_9 0 45) + 1)) (by rw [eS_10]; exact bw_0) dX7_remembers_222 (fun H locs hP hS => ?_)
        exact W.vret hx hb hr (fun t ht hW => ⟨⟨S_10, rfl, h, by rw [ht]; exact hP, va_K.moved hW.alike hK⟩, hS.F ht⟩) hS.2.2 dX7_remembers_225
      · have h := h.2 c_18
        refine lv_aload_n hx hb dX7_remembers_130 rfl (lv_at hl 0 rfl) ?_
        refine m_get (v := .ref (b + 13)) hx hb hts hown hK hP 40 (by decide) q1250 rfl rfl dX7_remembers_131 ?_
        refine lv_sipush (v := 4096) hx hb dX7_remembers_134 (by decide) ?_
        refine lv_aload_n hx hb dX7_remembers_137 rfl (lv_at hl 0 rfl) ?_
        refine m_get (v := .int (S 0 45)) hx hb hts hown hK hP 45 (by decide) q1255 rfl rfl dX7_remembers_138 ?_
        refine lv_imul hx hb dX7_remembers_141 ?_
        refine lv_iload_n hx hb dX7_remembers_142 rfl (lv_at hl 2 rfl) ?_
        refine lv_iadd hx hb dX7_remembers_143 ?_
        refine lv_iload_n hx hb dX7_remembers_144 rfl (lv_at hl 1 rfl) ?_
        refine lv_iconst (v := (-1)) hx hb dX7_remembers_145 (by decide) ?_
        refine lv_icmp_ne (tgt := 153) hx hb dX7_remembers_146 (by decide) (fun c_17 => ?_) (fun c_17 => ?_)
        · have h := h.1 c_17
          refine lv_aload_n hx hb dX7_remembers_153 rfl (lv_at hl 0 rfl) ?_
          refine lv_iload_n hx hb dX7_remembers_154 rfl (lv_at hl 1 rfl) ?_
          refine lv_iload_n hx hb dX7_remembers_155 rfl (lv_at hl 2 rfl) ?_
          refine m_cVp (As := [.int p1, .int x2]) (rest := [.int ((4096 * (S 0 45)) + x2), .ref (b + 13)]) ⟨hx, hb, hml, hown, hts⟩ (met_coef l D cI cB b p1 x2  S _ h) (cwV 2 hts (lw_V q1526 q1528 qs80 q128 q1529) rfl rfl rfl cwd_coef ⟨Nat.le_of_ble_eq_true rfl, Nat.le_of_ble_eq_true rfl⟩) hK hP hS rfl hl.1 rfl (Nat.le_of_ble_eq_true rfl) dX7_remembers_156 ⟨Nat.zero_le _, Nat.zero_le _⟩ (fun r_11 H locs h hP hS => ?_)
          obtain ⟨j_13, hj_13, ej_13, h⟩ := h
          obtain ⟨S_14, eS_14⟩ : ∃ z : St, z = bw S 13 j_13 r_11 := ⟨_, rfl⟩
          have h := h S_14 eS_14
          refine m_iast hx hb hK hP hS (k := 13) mok_13 ej_13 hj_13 dX7_remembers_159 (fun H locs hP hS => ?_)
          rw [← eS_14] at hP
          exact J160 _ _ _ _ _ h hP hS (lv_sub hl [0, 1, 2] rfl)
        · have h := h.2 c_17
          refine lv_iconst (v := 0) hx hb dX7_remembers_149 (by decide) ?_
          refine lv_goto (tgt := 159) hx hb dX7_remembers_150 (by decide) ?_
          obtain ⟨j_15, hj_15, ej_15, h⟩ := h
          obtain ⟨S_16, eS_16⟩ : ∃ z : St, z = bw S 13 j_15 0 := ⟨_, rfl⟩
          have h := h S_16 eS_16
          refine m_iast hx hb hK hP hS (k := 13) mok_13 ej_15 hj_15 dX7_remembers_159 (fun H locs hP hS => ?_)
          rw [← eS_16] at hP
          exact J160 _ _ _ _ _ h hP hS (lv_sub hl [0, 1, 2] rfl)
  have J121 : ∀  (S : St) (H : Heap) (locs : List Loc) (ls : Array Slot), wp_remembers_j121 p1 post  S → mW D cI cB b S H → va_S (mA b) s.heap H locs → lv_has ls 3 [(0, .ref b), (1, .int p1)] → W p l e (headSpec (ws_ yX7_remembers cX7_remembers 3 none) ({ frames := 1, cells := 0, slots := 0, locals := 22 } : Room)).room s m ([.ref b, .int p1] : List Value).toArray below meth c H locs 0 0 (MQ below (mQv D cI cB b post) ([.ref b, .int p1] : List Value).toArray s 0 0 (mA b)) (F0 m 121 ls []) := by
    intro  S H locs ls h hP hS hl
    unfold wp_remembers_j121 at h
    refine lv_iconst (v := 0) hx hb dX7_remembers_121 (by decide) ?_
    refine lv_istore_n (lv' := [(2, .int 0), (0, .ref b), (1, .int p1)]) hx hb dX7_remembers_122 rfl hl (by decide) rfl (fun ls hl => ?_)
    exact L123 _ _ _ _ _ h hP hS (lv_sub hl [1, 2, 0] rfl)
  have L43 : ∀  (x2 : Int32) (S : St) (H : Heap) (locs : List Loc) (ls : Array Slot), wp_remembers_l43 p1 post  x2 S → mW D cI cB b S H → va_S (mA b) s.heap H locs → lv_has ls 3 [(0, .ref b), (1, .int p1), (2, .int x2)] → W p l e (headSpec (ws_ yX7_remembers cX7_remembers 3 none) ({ frames := 1, cells := 0, slots := 0, locals := 22 } : Room)).room s m ([.ref b, .int p1] : List Value).toArray below meth c H locs 0 0 (MQ below (mQv D cI cB b post) ([.ref b, .int p1] : List Value).toArray s 0 0 (mA b)) (F0 m 43 ls []) := by
    intro  x2 S H locs ls h hP hS hl
    obtain ⟨I43, n43, hI, hstep43⟩ := h
    induction n43 using Nat.strongRecOn generalizing x2 S H locs ls with
    | ind n43 ih43 =>
      have h : wp_remembers_b43 p1 post (fun x2 S => ∃ mm, mm < n43 ∧ I43 mm (x2, S))  x2 S := hstep43 n43 _ hI
      clear hI
      unfold wp_remembers_b43 at h
      refine lv_iload_n hx hb dX7_remembers_43 rfl (lv_at hl 2 rfl) ?_
      refine lv_bipush (v := 8) hx hb dX7_remembers_44 (by decide) ?_
      refine lv_icmp_ge (tgt := 111) hx hb dX7_remembers_46 (by decide) (fun c_33 => ?_) (fun c_33 => ?_)
      · have h := h.1 c_33
        refine lv_aload_n hx hb dX7_remembers_111 rfl (lv_at hl 0 rfl) ?_
        refine lv_dup hx hb dX7_remembers_112 rfl ?_
        refine m_get (v := .int (S 0 45)) hx hb hts hown hK hP 45 (by decide) q1255 rfl rfl dX7_remembers_113 ?_
        refine lv_iconst (v := 1) hx hb dX7_remembers_116 (by decide) ?_
        refine lv_isub hx hb dX7_remembers_117 ?_
        obtain ⟨S_19, eS_19⟩ : ∃ z : St, z = bw S 0 45 ((S 0 45) - 1) := ⟨_, rfl⟩
        have h := h S_19 eS_19
        refine m_put (S1 := S_19) (v := .int ((S 0 45) - 1)) (ty := .int) hx hb hts hown hK hP hS 45 (by decide) q1255 rfl rfl (tyX7_ok 45 (by decide)) rfl rfl (by rw [eS_19]; exact mset_45 b S ((S 0 45) - 1)) (by rw [eS_19]; exact bw_0) dX7_remembers_118 (fun H locs hP hS => ?_)
        exact J121  _ _ _ _ h hP hS (lv_sub hl [0, 1] rfl)
      · have h := h.2 c_33
        refine lv_aload_n hx hb dX7_remembers_49 rfl (lv_at hl 0 rfl) ?_
        refine m_get (v := .ref (b + 14)) hx hb hts hown hK hP 41 (by decide) q1251 rfl rfl dX7_remembers_50 ?_
        refine lv_iload_n hx hb dX7_remembers_53 rfl (lv_at hl 2 rfl) ?_
        refine lv_iconst (v := 1) hx hb dX7_remembers_54 (by decide) ?_
        refine lv_isub hx hb dX7_remembers_55 ?_
        refine lv_aload_n hx hb dX7_remembers_56 rfl (lv_at hl 0 rfl) ?_
        refine m_get (v := .ref (b + 14)) hx hb hts hown hK hP 41 (by decide) q1251 rfl rfl dX7_remembers_57 ?_
        refine lv_iload_n hx hb dX7_remembers_60 rfl (lv_at hl 2 rfl) ?_
        obtain ⟨j_20, hj_20, ej_20, h⟩ := h
        refine m_iald hx hb hK hP (k := 14) mok_14 ej_20 hj_20 dX7_remembers_61 ?_
        obtain ⟨j_21, hj_21, ej_21, h⟩ := h
        obtain ⟨S_22, eS_22⟩ : ∃ z : St, z = bw S 14 j_21 (S 14 j_20) := ⟨_, rfl⟩
        have h := h S_22 eS_22
        refine m_iast hx hb hK hP hS (k := 14) mok_14 ej_21 hj_21 dX7_remembers_62 (fun H locs hP hS => ?_)
        rw [← eS_22] at hP
        refine lv_aload_n hx hb dX7_remembers_63 rfl (lv_at hl 0 rfl) ?_
        refine m_get (v := .ref (b + 15)) hx hb hts hown hK hP 42 (by decide) q1252 rfl rfl dX7_remembers_64 ?_
        refine lv_iload_n hx hb dX7_remembers_67 rfl (lv_at hl 2 rfl) ?_
        refine lv_iconst (v := 1) hx hb dX7_remembers_68 (by decide) ?_
        refine lv_isub hx hb dX7_remembers_69 ?_
        refine lv_aload_n hx hb dX7_remembers_70 rfl (lv_at hl 0 rfl) ?_
        refine m_get (v := .ref (b + 15)) hx hb hts hown hK hP 42 (by decide) q1252 rfl rfl dX7_remembers_71 ?_
        refine lv_iload_n hx hb dX7_remembers_74 rfl (lv_at hl 2 rfl) ?_
        obtain ⟨j_23, hj_23, ej_23, h⟩ := h
        refine m_iald hx hb hK hP (k := 15) mok_15 ej_23 hj_23 dX7_remembers_75 ?_
        obtain ⟨j_24, hj_24, ej_24, h⟩ := h
        obtain ⟨S_25, eS_25⟩ : ∃ z : St, z = bw S_22 15 j_24 (S_22 15 j_23) := ⟨_, rfl⟩
        have h := h S_25 eS_25
        refine m_iast hx hb hK hP hS (k := 15) mok_15 ej_24 hj_24 dX7_remembers_76 (fun H locs hP hS => ?_)
        rw [← eS_25] at hP
        refine lv_aload_n hx hb dX7_remembers_77 rfl (lv_at hl 0 rfl) ?_
        refine m_get (v := .ref (b + 16)) hx hb hts hown hK hP 43 (by decide) q1253 rfl rfl dX7_remembers_78 ?_
        refine lv_iload_n hx hb dX7_remembers_81 rfl (lv_at hl 2 rfl) ?_
        refine lv_iconst (v := 1) hx hb dX7_remembers_82 (by decide) ?_
        refine lv_isub hx hb dX7_remembers_83 ?_
        refine lv_aload_n hx hb dX7_remembers_84 rfl (lv_at hl 0 rfl) ?_
        refine m_get (v := .ref (b + 16)) hx hb hts hown hK hP 43 (by decide) q1253 rfl rfl dX7_remembers_85 ?_
        refine lv_iload_n hx hb dX7_remembers_88 rfl (lv_at hl 2 rfl) ?_
        obtain ⟨j_26, hj_26, ej_26, h⟩ := h
        refine m_iald hx hb hK hP (k := 16) mok_16 ej_26 hj_26 dX7_remembers_89 ?_
        obtain ⟨j_27, hj_27, ej_27, h⟩ := h
        obtain ⟨S_28, eS_28⟩ : ∃ z : St, z = bw S_25 16 j_27 (S_25 16 j_26) := ⟨_, rfl⟩
        have h := h S_28 eS_28
        refine m_iast hx hb hK hP hS (k := 16) mok_16 ej_27 hj_27 dX7_remembers_90 (fun H locs hP hS => ?_)
        rw [← eS_28] at hP
        refine lv_aload_n hx hb dX7_remembers_91 rfl (lv_at hl 0 rfl) ?_
        refine m_get (v := .ref (b + 17)) hx hb hts hown hK hP 44 (by decide) q1254 rfl rfl dX7_remembers_92 ?_
        refine lv_iload_n hx hb dX7_remembers_95 rfl (lv_at hl 2 rfl) ?_
        refine lv_iconst (v := 1) hx hb dX7_remembers_96 (by decide) ?_
        refine lv_isub hx hb dX7_remembers_97 ?_
        refine lv_aload_n hx hb dX7_remembers_98 rfl (lv_at hl 0 rfl) ?_
        refine m_get (v := .ref (b + 17)) hx hb hts hown hK hP 44 (by decide) q1254 rfl rfl dX7_remembers_99 ?_
        refine lv_iload_n hx hb dX7_remembers_102 rfl (lv_at hl 2 rfl) ?_
        obtain ⟨j_29, hj_29, ej_29, h⟩ := h
        refine m_iald hx hb hK hP (k := 17) mok_17 ej_29 hj_29 dX7_remembers_103 ?_
        obtain ⟨j_30, hj_30, ej_30, h⟩ := h
        obtain ⟨S_31, eS_31⟩ : ∃ z : St, z = bw S_28 17 j_30 (S_28 17 j_29) := ⟨_, rfl⟩
        have h := h S_31 eS_31
        refine m_iast hx hb hK hP hS (k := 17) mok_17 ej_30 hj_30 dX7_remembers_104 (fun H locs hP hS => ?_)
        rw [← eS_31] at hP
        obtain ⟨x2_32, ex2_32⟩ : ∃ y : Int32, y = x2 + 1 := ⟨_, rfl⟩
        have h := h x2_32 ex2_32
        refine lv_iinc (v := x2_32) (lv' := [(2, .int x2_32), (0, .ref b), (1, .int p1)]) hx hb dX7_remembers_105 hl (k := 2) rfl (by rw [ex2_32]; rfl) (by decide) rfl (fun ls hl => ?_)
        refine lv_goto (tgt := 43) hx hb dX7_remembers_108 (by decide) ?_
        obtain ⟨mm, hmm, h⟩ := h
        exact ih43 mm hmm _ _ _ _ _ hP hS (lv_sub hl [1, 2, 0] rfl) h
  have L13 : ∀  (x2 : Int32) (S : St) (H : Heap) (locs : List Loc) (ls : Array Slot), wp_remembers_l13 p1 post  x2 S → mW D cI cB b S H → va_S (mA b) s.heap H locs → lv_has ls 3 [(0, .ref b), (1, .int p1), (2, .int x2)] → W p l e (headSpec (ws_ yX7_remembers cX7_remembers 3 none) ({ frames := 1, cells := 0, slots := 0, locals := 22 } : Room)).room s m ([.ref b, .int p1] : List Value).toArray below meth c H locs 0 0 (MQ below (mQv D cI cB b post) ([.ref b, .int p1] : List Value).toArray s 0 0 (mA b)) (F0 m 13 ls []) := by
    intro  x2 S H locs ls h hP hS hl
    obtain ⟨I13, n13, hI, hstep13⟩ := h
    induction n13 using Nat.strongRecOn generalizing x2 S H locs ls with
    | ind n13 ih13 =>
      have h : wp_remembers_b13 p1 post (fun x2 S => ∃ mm, mm < n13 ∧ I13 mm (x2, S))  x2 S := hstep13 n13 _ hI
      clear hI
      unfold wp_remembers_b13 at h
      refine lv_iload_n hx hb dX7_remembers_13 rfl (lv_at hl 2 rfl) ?_
      refine lv_ldc (v := 32768) hx hb hown (hts _ q1208) dX7_remembers_14 ?_
      refine lv_icmp_ge (tgt := 41) hx hb dX7_remembers_16 (by decide) (fun c_38 => ?_) (fun c_38 => ?_)
      · have h := h.1 c_38
        refine lv_iconst (v := 1) hx hb dX7_remembers_41 (by decide) ?_
        refine lv_istore_n (lv' := [(2, .int 1), (0, .ref b), (1, .int p1)]) hx hb dX7_remembers_42 rfl hl (by decide) rfl (fun ls hl => ?_)
        exact L43 _ _ _ _ _ h hP hS (lv_sub hl [1, 2, 0] rfl)
      · have h := h.2 c_38
        refine lv_aload_n hx hb dX7_remembers_19 rfl (lv_at hl 0 rfl) ?_
        refine m_get (v := .ref (b + 13)) hx hb hts hown hK hP 40 (by decide) q1250 rfl rfl dX7_remembers_20 ?_
        refine lv_iload_n hx hb dX7_remembers_23 rfl (lv_at hl 2 rfl) ?_
        refine lv_sipush (v := 4096) hx hb dX7_remembers_24 (by decide) ?_
        refine lv_isub hx hb dX7_remembers_27 ?_
        refine lv_aload_n hx hb dX7_remembers_28 rfl (lv_at hl 0 rfl) ?_
        refine m_get (v := .ref (b + 13)) hx hb hts hown hK hP 40 (by decide) q1250 rfl rfl dX7_remembers_29 ?_
        refine lv_iload_n hx hb dX7_remembers_32 rfl (lv_at hl 2 rfl) ?_
        obtain ⟨j_34, hj_34, ej_34, h⟩ := h
        refine m_iald hx hb hK hP (k := 13) mok_13 ej_34 hj_34 dX7_remembers_33 ?_
        obtain ⟨j_35, hj_35, ej_35, h⟩ := h
        obtain ⟨S_36, eS_36⟩ : ∃ z : St, z = bw S 13 j_35 (S 13 j_34) := ⟨_, rfl⟩
        have h := h S_36 eS_36
        refine m_iast hx hb hK hP hS (k := 13) mok_13 ej_35 hj_35 dX7_remembers_34 (fun H locs hP hS => ?_)
        rw [← eS_36] at hP
        obtain ⟨x2_37, ex2_37⟩ : ∃ y : Int32, y = x2 + 1 := ⟨_, rfl⟩
        have h := h x2_37 ex2_37
        refine lv_iinc (v := x2_37) (lv' := [(2, .int x2_37), (0, .ref b), (1, .int p1)]) hx hb dX7_remembers_35 hl (k := 2) rfl (by rw [ex2_37]; rfl) (by decide) rfl (fun ls hl => ?_)
        refine lv_goto (tgt := 13) hx hb dX7_remembers_38 (by decide) ?_
        obtain ⟨mm, hmm, h⟩ := h
        exact ih13 mm hmm _ _ _ _ _ hP hS (lv_sub hl [1, 2, 0] rfl) h
  unfold wp_remembers at h
  refine lv_aload_n hx hb dX7_remembers_0 rfl (lv_at hl 0 rfl) ?_
  refine m_get (v := .int (S 0 45)) hx hb hts hown hK hP 45 (by decide) q1255 rfl rfl dX7_remembers_1 ?_
  refine lv_bipush (v := 8) hx hb dX7_remembers_4 (by decide) ?_
  refine lv_icmp_ne (tgt := 121) hx hb dX7_remembers_6 (by decide) (fun c_39 => ?_) (fun c_39 => ?_)
  · have h := h.1 c_39
    exact J121  _ _ _ _ h hP hS (lv_sub hl [0, 1] rfl)
  · have h := h.2 c_39
    refine lv_sipush (v := 4096) hx hb dX7_remembers_9 (by decide) ?_
    refine lv_istore_n (lv' := [(2, .int 4096), (0, .ref b), (1, .int p1)]) hx hb dX7_remembers_12 rfl hl (by decide) rfl (fun ls hl => ?_)
    exact L13 _ _ _ _ _ h hP hS (lv_sub hl [1, 2, 0] rfl)
def wp_lays_j16 (p1 : Int32) (post : Int32 → St → Prop)  (S : St) : Prop :=
    wp_refused 3 S (fun r_1 S_2 =>
    post r_1 S_2)
def wp_lays_b29 (p1 : Int32) (post : Int32 → St → Prop) (R29 : Int32 → St → Prop)  (x2 : Int32) (S : St) : Prop :=
      ((4096 ≤ x2 →
        wp_workTerms  S (fun r_3 =>
        wp_good r_3 S (fun r_5 S_6 =>
        post r_5 S_6))) ∧
       (¬ (4096 ≤ x2) →
        ∃ j_7 : Nat, j_7 < 4096 ∧ x2 = nI j_7 ∧
        ∃ j_8 : Nat, j_8 < 32768 ∧ ((4096 * p1) + x2) = nI j_8 ∧ ∀ S_9 : St, S_9 = bw S 1 j_8 (S 6 j_7) →
        ∀ x2_10 : Int32, x2_10 = x2 + 1 →
        R29 x2_10 S_9))
def wp_lays_l29 (p1 : Int32) (post : Int32 → St → Prop)  (x2 : Int32) (S : St) : Prop := wLoop (fun (R : (Int32 × St) → Prop) (v : Int32 × St) => wp_lays_b29 p1 post (fun x2 S => R (x2, S))  v.1 v.2) (x2, S)
def wp_lays (p1 : Int32) (S : St) (post : Int32 → St → Prop) : Prop :=
  (((S 0 29) = 0 →
    wp_lays_j16 p1 post  S) ∧
   (¬ ((S 0 29) = 0) →
    wp_workTerms  S (fun r_12 =>
    ((r_12 ≤ 60 →
      wp_remembers p1 S (fun S_15 =>
      wp_lays_l29 p1 post 0 S_15)) ∧
     (¬ (r_12 ≤ 60) →
      wp_lays_j16 p1 post  S)))))
set_option maxHeartbeats 4000000 in
theorem met_lays (l : Launch) (D : va_G) (cI cB : ClassId) (b : Nat) (p1 : Int32)  (S : St) (post : Int32 → St → Prop) (h : wp_lays p1 S post) : Met l yX7_lays (ws_ yX7_lays cX7_lays 3 (some .int)) ({ frames := 2, cells := 0, slots := 0, locals := 44 } : Room) (mPc D cI cB b [.ref b, .int p1] S) (mQi D cI cB b post) 0 0 (mA b) := by
  refine Met.ofW (cc := cX7_lays) (maxL := 3) (ret := (some .int)) (by decide) rfl ?_
  intro p e s m args below meth c s₁ B hml hv
  obtain ⟨rfl, hP, hK⟩ := hv
  have hx := B.exec
  have hb := B.bytes
  have hr := B.returns
  have hts := atoms_spec (ws := ws_ yX7_lays cX7_lays 3 (some .int)) B.pre
  have hts : ∀ w ∈ lw_all, w.before _ s = true := fun w h => hts w (List.mem_cons_of_mem _ h)
  have hown : s.vm.findClass RX7 = some m.cls := findClass_of_methodNamed B.named
  have hlocks := B.notSynchronized
  have hS : va_S (mA b) s.heap s.heap [] := va_S.rf
  have hl := lv_entry ([.ref b, .int p1]) (n := 3) (Nat.le_of_ble_eq_true rfl)
  rw [lg_entry_eq]
  generalize (lg_sl ([.ref b, .int p1]) ++ List.replicate (3 - (lg_sl ([.ref b, .int p1])).length) Slot.unset).toArray = ls at hl ⊢
  have hl : lv_has ls 3 [(0, .ref b), (1, .int p1)] := hl
  have J16 : ∀  (S : St) (H : Heap) (locs : List Loc) (ls : Array Slot), wp_lays_j16 p1 post  S → mW D cI cB b S H → va_S (mA b) s.heap H locs → lv_has ls 3 [(0, .ref b)] → W p l e (headSpec (ws_ yX7_lays cX7_lays 3 (some .int)) ({ frames := 2, cells := 0, slots := 0, locals := 44 } : Room)).room s m ([.ref b, .int p1] : List Value).toArray below meth c H locs 0 0 (MQ below (mQi D cI cB b post) ([.ref b, .int p1] : List Value).toArray s 0 0 (mA b)) (F0 m 16 ls []) := by
    intro  S H locs ls h hP hS hl
    unfold wp_lays_j16 at h
    refine lv_aload_n hx hb dX7_lays_16 rfl (lv_at hl 0 rfl) ?_
    refine lv_iconst (v := 3) hx hb dX7_lays_17 (by decide) ?_
    refine m_cVi (As := [.int 3]) (rest := []) ⟨hx, hb, hml, hown, hts⟩ (met_refused l D cI cB b 3  S _ h) (cwV 1 hts (lw_V q1382 q1384 qs58 q128 q1385) rfl rfl rfl cwd_refused ⟨Nat.le_of_ble_eq_true rfl, Nat.le_of_ble_eq_true rfl⟩) hK hP hS rfl hl.1 rfl (Nat.le_of_ble_eq_true rfl) dX7_lays_18 ⟨Nat.zero_le _, Nat.zero_le _⟩ (fun r_1 S_2 H locs h hP hS => ?_)
    exact W.iret (v := r_1) hx hb hr (fun t ht hW => ⟨⟨r_1, S_2, rfl, h, by rw [ht]; exact hP, va_K.moved hW.alike hK⟩, hS.F ht⟩) hS.2.2 dX7_lays_21
  have L29 : ∀  (x2 : Int32) (S : St) (H : Heap) (locs : List Loc) (ls : Array Slot), wp_lays_l29 p1 post  x2 S → mW D cI cB b S H → va_S (mA b) s.heap H locs → lv_has ls 3 [(0, .ref b), (1, .int p1), (2, .int x2)] → W p l e (headSpec (ws_ yX7_lays cX7_lays 3 (some .int)) ({ frames := 2, cells := 0, slots := 0, locals := 44 } : Room)).room s m ([.ref b, .int p1] : List Value).toArray below meth c H locs 0 0 (MQ below (mQi D cI cB b post) ([.ref b, .int p1] : List Value).toArray s 0 0 (mA b)) (F0 m 29 ls []) := by
    intro  x2 S H locs ls h hP hS hl
    obtain ⟨I29, n29, hI, hstep29⟩ := h
    induction n29 using Nat.strongRecOn generalizing x2 S H locs ls with
    | ind n29 ih29 =>
      have h : wp_lays_b29 p1 post (fun x2 S => ∃ mm, mm < n29 ∧ I29 mm (x2, S))  x2 S := hstep29 n29 _ hI
      clear hI
      unfold wp_lays_b29 at h
      refine lv_iload_n hx hb dX7_lays_29 rfl (lv_at hl 2 rfl) ?_
      refine lv_sipush (v := 4096) hx hb dX7_lays_30 (by decide) ?_
      refine lv_icmp_ge (tgt := 60) hx hb dX7_lays_33 (by decide) (fun c_11 => ?_) (fun c_11 => ?_)
      · have h := h.1 c_11
        refine lv_aload_n hx hb dX7_lays_60 rfl (lv_at hl 0 rfl) ?_
        refine lv_aload_n hx hb dX7_lays_61 rfl (lv_at hl 0 rfl) ?_
        refine m_cVp (As := []) (rest := [.ref b]) ⟨hx, hb, hml, hown, hts⟩ (met_workTerms l D cI cB b   S _ h) (cwV 0 hts (lw_V q1681 q1683 qs99 q128 q1684) rfl rfl rfl cwd_workTerms ⟨Nat.le_of_ble_eq_true rfl, Nat.le_of_ble_eq_true rfl⟩) hK hP hS rfl hl.1 rfl (Nat.le_of_ble_eq_true rfl) dX7_lays_62 ⟨Nat.zero_le _, Nat.zero_le _⟩ (fun r_3 H locs h hP hS => ?_)
        refine m_cVi (As := [.int r_3]) (rest := []) ⟨hx, hb, hml, hown, hts⟩ (met_good l D cI cB b r_3  S _ h) (cwV 1 hts (lw_V q1498 q1500 qs76 q128 q1501) rfl rfl rfl cwd_good ⟨Nat.le_of_ble_eq_true rfl, Nat.le_of_ble_eq_true rfl⟩) hK hP hS rfl hl.1 rfl (Nat.le_of_ble_eq_true rfl) dX7_lays_65 ⟨Nat.zero_le _, Nat.zero_le _⟩ (fun r_5 S_6 H locs h hP hS => ?_)
        exact W.iret (v := r_5) hx hb hr (fun t ht hW => ⟨⟨r_5, S_6, rfl, h, by rw [ht]; exact hP, va_K.moved hW.alike hK⟩, hS.F ht⟩) hS.2.2 dX7_lays_68
      · have h := h.2 c_11
        refine lv_aload_n hx hb dX7_lays_36 rfl (lv_at hl 0 rfl) ?_
        refine m_get (v := .ref (b + 1)) hx hb hts hown hK hP 3 (by decide) q1213 rfl rfl dX7_lays_37 ?_
        refine lv_sipush (v := 4096) hx hb dX7_lays_40 (by decide) ?_
        refine lv_iload_n hx hb dX7_lays_43 rfl (lv_at hl 1 rfl) ?_
        refine lv_imul hx hb dX7_lays_44 ?_
        refine lv_iload_n hx hb dX7_lays_45 rfl (lv_at hl 2 rfl) ?_
        refine lv_iadd hx hb dX7_lays_46 ?_
        refine lv_aload_n hx hb dX7_lays_47 rfl (lv_at hl 0 rfl) ?_
        refine m_get (v := .ref (b + 6)) hx hb hts hown hK hP 28 (by decide) q1238 rfl rfl dX7_lays_48 ?_
        refine lv_iload_n hx hb dX7_lays_51 rfl (lv_at hl 2 rfl) ?_
        obtain ⟨j_7, hj_7, ej_7, h⟩ := h
        refine m_iald hx hb hK hP (k := 6) mok_6 ej_7 hj_7 dX7_lays_52 ?_
        obtain ⟨j_8, hj_8, ej_8, h⟩ := h
        obtain ⟨S_9, eS_9⟩ : ∃ z : St, z = bw S 1 j_8 (S 6 j_7) := ⟨_, rfl⟩
        have h := h S_9 eS_9
        refine m_iast hx hb hK hP hS (k := 1) mok_1 ej_8 hj_8 dX7_lays_53 (fun H locs hP hS => ?_)
        rw [← eS_9] at hP
        obtain ⟨x2_10, ex2_10⟩ : ∃ y : Int32, y = x2 + 1 := ⟨_, rfl⟩
        have h := h x2_10 ex2_10
        refine lv_iinc (v := x2_10) (lv' := [(2, .int x2_10), (0, .ref b), (1, .int p1)]) hx hb dX7_lays_54 hl (k := 2) rfl (by rw [ex2_10]; rfl) (by decide) rfl (fun ls hl => ?_)
        refine lv_goto (tgt := 29) hx hb dX7_lays_57 (by decide) ?_
        obtain ⟨mm, hmm, h⟩ := h
        exact ih29 mm hmm _ _ _ _ _ hP hS (lv_sub hl [1, 2, 0] rfl) h
  unfold wp_lays at h
  refine lv_aload_n hx hb dX7_lays_0 rfl (lv_at hl 0 rfl) ?_
  refine m_get (v := .int (S 0 29)) hx hb hts hown hK hP 29 (by decide) q1239 rfl rfl dX7_lays_1 ?_
  refine lv_if_eq (tgt := 16) hx hb dX7_lays_4 (by decide) (fun c_17 => ?_) (fun c_17 => ?_)
  · have h := h.1 c_17
    exact J16  _ _ _ _ h hP hS (lv_sub hl [0] rfl)
  · have h := h.2 c_17
    refine lv_aload_n hx hb dX7_lays_7 rfl (lv_at hl 0 rfl) ?_
    refine m_cVp (As := []) (rest := []) ⟨hx, hb, hml, hown, hts⟩ (met_workTerms l D cI cB b   S _ h) (cwV 0 hts (lw_V q1681 q1683 qs99 q128 q1684) rfl rfl rfl cwd_workTerms ⟨Nat.le_of_ble_eq_true rfl, Nat.le_of_ble_eq_true rfl⟩) hK hP hS rfl hl.1 rfl (Nat.le_of_ble_eq_true rfl) dX7_lays_8 ⟨Nat.zero_le _, Nat.zero_le _⟩ (fun r_12 H locs h hP hS => ?_)
    refine lv_bipush (v := 60) hx hb dX7_lays_11 (by decide) ?_
    refine lv_icmp_le (tgt := 22) hx hb dX7_lays_13 (by decide) (fun c_16 => ?_) (fun c_16 => ?_)
    · have h := h.1 c_16
      refine lv_aload_n hx hb dX7_lays_22 rfl (lv_at hl 0 rfl) ?_
      refine lv_iload_n hx hb dX7_lays_23 rfl (lv_at hl 1 rfl) ?_
      refine m_cVv (As := [.int p1]) (rest := []) ⟨hx, hb, hml, hown, hts⟩ (met_remembers l D cI cB b p1  S _ h) (cwV 1 hts (lw_V q1697 q1699 qs102 q128 q1700) rfl rfl rfl cwd_remembers ⟨Nat.le_of_ble_eq_true rfl, Nat.le_of_ble_eq_true rfl⟩) hK hP hS rfl hl.1 rfl (Nat.le_of_ble_eq_true rfl) dX7_lays_24 ⟨Nat.zero_le _, Nat.zero_le _⟩ (fun S_15 H locs h hP hS => ?_)
      refine lv_iconst (v := 0) hx hb dX7_lays_27 (by decide) ?_
      refine lv_istore_n (lv' := [(2, .int 0), (0, .ref b), (1, .int p1)]) hx hb dX7_lays_28 rfl hl (by decide) rfl (fun ls hl => ?_)
      exact L29 _ _ _ _ _ h hP hS (lv_sub hl [1, 2, 0] rfl)
    · have h := h.2 c_16
      exact J16  _ _ _ _ h hP hS (lv_sub hl [0] rfl)
def wp_add (p1 : Int32) (p2 : Int32) (p3 : Int32) (S : St) (post : Int32 → St → Prop) : Prop :=
  ∀ S_1 : St, S_1 = bw S 0 0 0 →
  wp_areRegs p1 p2 p3 S_1 (fun r_2 =>
  ((¬ r_2 = 0 →
    wp_clears  S_1 (fun S_5 =>
    wp_puts p1 1 0 S_5 (fun S_7 =>
    wp_puts p2 1 0 S_7 (fun S_9 =>
    wp_lays p3 S_9 (fun r_10 S_11 =>
    post r_10 S_11))))) ∧
   (r_2 = 0 →
    wp_refused 1 S_1 (fun r_12 S_13 =>
    post r_12 S_13))))
set_option maxHeartbeats 4000000 in
theorem met_add (l : Launch) (D : va_G) (cI cB : ClassId) (b : Nat) (p1 : Int32) (p2 : Int32) (p3 : Int32)  (S : St) (post : Int32 → St → Prop) (h : wp_add p1 p2 p3 S post) : Met l yX7_add (ws_ yX7_add cX7_add 4 (some .int)) ({ frames := 3, cells := 0, slots := 0, locals := 70 } : Room) (mPc D cI cB b [.ref b, .int p1, .int p2, .int p3] S) (mQi D cI cB b post) 0 0 (mA b) := by
  refine Met.ofW (cc := cX7_add) (maxL := 4) (ret := (some .int)) (by decide) rfl ?_
  intro p e s m args below meth c s₁ B hml hv
  obtain ⟨rfl, hP, hK⟩ := hv
  have hx := B.exec
  have hb := B.bytes
  have hr := B.returns
  have hts := atoms_spec (ws := ws_ yX7_add cX7_add 4 (some .int)) B.pre
  have hts : ∀ w ∈ lw_all, w.before _ s = true := fun w h => hts w (List.mem_cons_of_mem _ h)
  have hown : s.vm.findClass RX7 = some m.cls := findClass_of_methodNamed B.named
  have hlocks := B.notSynchronized
  have hS : va_S (mA b) s.heap s.heap [] := va_S.rf
  have hl := lv_entry ([.ref b, .int p1, .int p2, .int p3]) (n := 4) (Nat.le_of_ble_eq_true rfl)
  rw [lg_entry_eq]
  generalize (lg_sl ([.ref b, .int p1, .int p2, .int p3]) ++ List.replicate (4 - (lg_sl ([.ref b, .int p1, .int p2, .int p3])).length) Slot.unset).toArray = ls at hl ⊢
  have hl : lv_has ls 4 [(0, .ref b), (1, .int p1), (2, .int p2), (3, .int p3)] := hl
  unfold wp_add at h
  refine lv_aload_n hx hb dX7_add_0 rfl (lv_at hl 0 rfl) ?_
  refine lv_iconst (v := 0) hx hb dX7_add_1 (by decide) ?_
  obtain ⟨S_1, eS_1⟩ : ∃ z : St, z = bw S 0 0 0 := ⟨_, rfl⟩
  have h := h S_1 eS_1
  refine m_put (S1 := S_1) (v := .int 0) (ty := .int) hx hb hts hown hK hP hS 0 (by decide) q1210 rfl rfl (tyX7_ok 0 (by decide)) rfl rfl (by rw [eS_1]; exact mset_0 b S 0) (by rw [eS_1]; exact bw_0) dX7_add_2 (fun H locs hP hS => ?_)
  refine lv_aload_n hx hb dX7_add_5 rfl (lv_at hl 0 rfl) ?_
  refine lv_iload_n hx hb dX7_add_6 rfl (lv_at hl 1 rfl) ?_
  refine lv_iload_n hx hb dX7_add_7 rfl (lv_at hl 2 rfl) ?_
  refine lv_iload_n hx hb dX7_add_8 rfl (lv_at hl 3 rfl) ?_
  refine m_cVp (As := [.int p1, .int p2, .int p3]) (rest := []) ⟨hx, hb, hml, hown, hts⟩ (met_areRegs l D cI cB b p1 p2 p3  S_1 _ h) (cwV 3 hts (lw_V q1689 q1691 qs100 q128 q1692) rfl rfl rfl cwd_areRegs ⟨Nat.le_of_ble_eq_true rfl, Nat.le_of_ble_eq_true rfl⟩) hK hP hS rfl hl.1 rfl (Nat.le_of_ble_eq_true rfl) dX7_add_9 ⟨Nat.zero_le _, Nat.zero_le _⟩ (fun r_2 H locs h hP hS => ?_)
  refine lv_if_ne (tgt := 21) hx hb dX7_add_12 (by decide) (fun c_14 => ?_) (fun c_14 => ?_)
  · have h := h.1 c_14
    refine lv_aload_n hx hb dX7_add_21 rfl (lv_at hl 0 rfl) ?_
    refine m_cVv (As := []) (rest := []) ⟨hx, hb, hml, hown, hts⟩ (met_clears l D cI cB b   S_1 _ h) (cwV 0 hts (lw_V q1673 q1675 qs97 q128 q1676) rfl rfl rfl cwd_clears ⟨Nat.le_of_ble_eq_true rfl, Nat.le_of_ble_eq_true rfl⟩) hK hP hS rfl hl.1 rfl (Nat.le_of_ble_eq_true rfl) dX7_add_22 ⟨Nat.zero_le _, Nat.zero_le _⟩ (fun S_5 H locs h hP hS => ?_)
    refine lv_aload_n hx hb dX7_add_25 rfl (lv_at hl 0 rfl) ?_
    refine lv_iload_n hx hb dX7_add_26 rfl (lv_at hl 1 rfl) ?_
    refine lv_iconst (v := 1) hx hb dX7_add_27 (by decide) ?_
    refine lv_iconst (v := 0) hx hb dX7_add_28 (by decide) ?_
    refine m_cVv (As := [.int p1, .int 1, .int 0]) (rest := []) ⟨hx, hb, hml, hown, hts⟩ (met_puts l D cI cB b p1 1 0  S_5 _ h) (cwV 3 hts (lw_V q1677 q1679 qs98 q128 q1680) rfl rfl rfl cwd_puts ⟨Nat.le_of_ble_eq_true rfl, Nat.le_of_ble_eq_true rfl⟩) hK hP hS rfl hl.1 rfl (Nat.le_of_ble_eq_true rfl) dX7_add_29 ⟨Nat.zero_le _, Nat.zero_le _⟩ (fun S_7 H locs h hP hS => ?_)
    refine lv_aload_n hx hb dX7_add_32 rfl (lv_at hl 0 rfl) ?_
    refine lv_iload_n hx hb dX7_add_33 rfl (lv_at hl 2 rfl) ?_
    refine lv_iconst (v := 1) hx hb dX7_add_34 (by decide) ?_
    refine lv_iconst (v := 0) hx hb dX7_add_35 (by decide) ?_
    refine m_cVv (As := [.int p2, .int 1, .int 0]) (rest := []) ⟨hx, hb, hml, hown, hts⟩ (met_puts l D cI cB b p2 1 0  S_7 _ h) (cwV 3 hts (lw_V q1677 q1679 qs98 q128 q1680) rfl rfl rfl cwd_puts ⟨Nat.le_of_ble_eq_true rfl, Nat.le_of_ble_eq_true rfl⟩) hK hP hS rfl hl.1 rfl (Nat.le_of_ble_eq_true rfl) dX7_add_36 ⟨Nat.zero_le _, Nat.zero_le _⟩ (fun S_9 H locs h hP hS => ?_)
    refine lv_aload_n hx hb dX7_add_39 rfl (lv_at hl 0 rfl) ?_
    refine lv_iload_n hx hb dX7_add_40 rfl (lv_at hl 3 rfl) ?_
    refine m_cVi (As := [.int p3]) (rest := []) ⟨hx, hb, hml, hown, hts⟩ (met_lays l D cI cB b p3  S_9 _ h) (cwV 1 hts (lw_V q1693 q1695 qs101 q128 q1696) rfl rfl rfl cwd_lays ⟨Nat.le_of_ble_eq_true rfl, Nat.le_of_ble_eq_true rfl⟩) hK hP hS rfl hl.1 rfl (Nat.le_of_ble_eq_true rfl) dX7_add_41 ⟨Nat.zero_le _, Nat.zero_le _⟩ (fun r_10 S_11 H locs h hP hS => ?_)
    exact W.iret (v := r_10) hx hb hr (fun t ht hW => ⟨⟨r_10, S_11, rfl, h, by rw [ht]; exact hP, va_K.moved hW.alike hK⟩, hS.F ht⟩) hS.2.2 dX7_add_44
  · have h := h.2 c_14
    refine lv_aload_n hx hb dX7_add_15 rfl (lv_at hl 0 rfl) ?_
    refine lv_iconst (v := 1) hx hb dX7_add_16 (by decide) ?_
    refine m_cVi (As := [.int 1]) (rest := []) ⟨hx, hb, hml, hown, hts⟩ (met_refused l D cI cB b 1  S_1 _ h) (cwV 1 hts (lw_V q1382 q1384 qs58 q128 q1385) rfl rfl rfl cwd_refused ⟨Nat.le_of_ble_eq_true rfl, Nat.le_of_ble_eq_true rfl⟩) hK hP hS rfl hl.1 rfl (Nat.le_of_ble_eq_true rfl) dX7_add_17 ⟨Nat.zero_le _, Nat.zero_le _⟩ (fun r_12 S_13 H locs h hP hS => ?_)
    exact W.iret (v := r_12) hx hb hr (fun t ht hW => ⟨⟨r_12, S_13, rfl, h, by rw [ht]; exact hP, va_K.moved hW.alike hK⟩, hS.F ht⟩) hS.2.2 dX7_add_20
def wp_less (p1 : Int32) (p2 : Int32) (p3 : Int32) (S : St) (post : Int32 → St → Prop) : Prop :=
  ∀ S_1 : St, S_1 = bw S 0 0 0 →
  wp_areRegs p1 p2 p3 S_1 (fun r_2 =>
  ((¬ r_2 = 0 →
    wp_clears  S_1 (fun S_5 =>
    wp_puts p1 1 0 S_5 (fun S_7 =>
    wp_puts p2 ((S_7 0 5) - 1) 0 S_7 (fun S_9 =>
    wp_lays p3 S_9 (fun r_10 S_11 =>
    post r_10 S_11))))) ∧
   (r_2 = 0 →
    wp_refused 1 S_1 (fun r_12 S_13 =>
    post r_12 S_13))))
set_option maxHeartbeats 4000000 in
theorem met_less (l : Launch) (D : va_G) (cI cB : ClassId) (b : Nat) (p1 : Int32) (p2 : Int32) (p3 : Int32)  (S : St) (post : Int32 → St → Prop) (h : wp_less p1 p2 p3 S post) : Met l yX7_less (ws_ yX7_less cX7_less 4 (some .int)) ({ frames := 3, cells := 0, slots := 0, locals := 70 } : Room) (mPc D cI cB b [.ref b, .int p1, .int p2, .int p3] S) (mQi D cI cB b post) 0 0 (mA b) := by
  refine Met.ofW (cc := cX7_less) (maxL := 4) (ret := (some .int)) (by decide) rfl ?_
  intro p e s m args below meth c s₁ B hml hv
  obtain ⟨rfl, hP, hK⟩ := hv
  have hx := B.exec
  have hb := B.bytes
  have hr := B.returns
  have hts := atoms_spec (ws := ws_ yX7_less cX7_less 4 (some .int)) B.pre
  have hts : ∀ w ∈ lw_all, w.before _ s = true := fun w h => hts w (List.mem_cons_of_mem _ h)
  have hown : s.vm.findClass RX7 = some m.cls := findClass_of_methodNamed B.named
  have hlocks := B.notSynchronized
  have hS : va_S (mA b) s.heap s.heap [] := va_S.rf
  have hl := lv_entry ([.ref b, .int p1, .int p2, .int p3]) (n := 4) (Nat.le_of_ble_eq_true rfl)
  rw [lg_entry_eq]
  generalize (lg_sl ([.ref b, .int p1, .int p2, .int p3]) ++ List.replicate (4 - (lg_sl ([.ref b, .int p1, .int p2, .int p3])).length) Slot.unset).toArray = ls at hl ⊢
  have hl : lv_has ls 4 [(0, .ref b), (1, .int p1), (2, .int p2), (3, .int p3)] := hl
  unfold wp_less at h
  refine lv_aload_n hx hb dX7_less_0 rfl (lv_at hl 0 rfl) ?_
  refine lv_iconst (v := 0) hx hb dX7_less_1 (by decide) ?_
  obtain ⟨S_1, eS_1⟩ : ∃ z : St, z = bw S 0 0 0 := ⟨_, rfl⟩
  have h := h S_1 eS_1
  refine m_put (S1 := S_1) (v := .int 0) (ty := .int) hx hb hts hown hK hP hS 0 (by decide) q1210 rfl rfl (tyX7_ok 0 (by decide)) rfl rfl (by rw [eS_1]; exact mset_0 b S 0) (by rw [eS_1]; exact bw_0) dX7_less_2 (fun H locs hP hS => ?_)
  refine lv_aload_n hx hb dX7_less_5 rfl (lv_at hl 0 rfl) ?_
  refine lv_iload_n hx hb dX7_less_6 rfl (lv_at hl 1 rfl) ?_
  refine lv_iload_n hx hb dX7_less_7 rfl (lv_at hl 2 rfl) ?_
  refine lv_iload_n hx hb dX7_less_8 rfl (lv_at hl 3 rfl) ?_
  refine m_cVp (As := [.int p1, .int p2, .int p3]) (rest := []) ⟨hx, hb, hml, hown, hts⟩ (met_areRegs l D cI cB b p1 p2 p3  S_1 _ h) (cwV 3 hts (lw_V q1689 q1691 qs100 q128 q1692) rfl rfl rfl cwd_areRegs ⟨Nat.le_of_ble_eq_true rfl, Nat.le_of_ble_eq_true rfl⟩) hK hP hS rfl hl.1 rfl (Nat.le_of_ble_eq_true rfl) dX7_less_9 ⟨Nat.zero_le _, Nat.zero_le _⟩ (fun r_2 H locs h hP hS => ?_)
  refine lv_if_ne (tgt := 21) hx hb dX7_less_12 (by decide) (fun c_14 => ?_) (fun c_14 => ?_)
  · have h := h.1 c_14
    refine lv_aload_n hx hb dX7_less_21 rfl (lv_at hl 0 rfl) ?_
    refine m_cVv (As := []) (rest := []) ⟨hx, hb, hml, hown, hts⟩ (met_clears l D cI cB b   S_1 _ h) (cwV 0 hts (lw_V q1673 q1675 qs97 q128 q1676) rfl rfl rfl cwd_clears ⟨Nat.le_of_ble_eq_true rfl, Nat.le_of_ble_eq_true rfl⟩) hK hP hS rfl hl.1 rfl (Nat.le_of_ble_eq_true rfl) dX7_less_22 ⟨Nat.zero_le _, Nat.zero_le _⟩ (fun S_5 H locs h hP hS => ?_)
    refine lv_aload_n hx hb dX7_less_25 rfl (lv_at hl 0 rfl) ?_
    refine lv_iload_n hx hb dX7_less_26 rfl (lv_at hl 1 rfl) ?_
    refine lv_iconst (v := 1) hx hb dX7_less_27 (by decide) ?_
    refine lv_iconst (v := 0) hx hb dX7_less_28 (by decide) ?_
    refine m_cVv (As := [.int p1, .int 1, .int 0]) (rest := []) ⟨hx, hb, hml, hown, hts⟩ (met_puts l D cI cB b p1 1 0  S_5 _ h) (cwV 3 hts (lw_V q1677 q1679 qs98 q128 q1680) rfl rfl rfl cwd_puts ⟨Nat.le_of_ble_eq_true rfl, Nat.le_of_ble_eq_true rfl⟩) hK hP hS rfl hl.1 rfl (Nat.le_of_ble_eq_true rfl) dX7_less_29 ⟨Nat.zero_le _, Nat.zero_le _⟩ (fun S_7 H locs h hP hS => ?_)
    refine lv_aload_n hx hb dX7_less_32 rfl (lv_at hl 0 rfl) ?_
    refine lv_iload_n hx hb dX7_less_33 rfl (lv_at hl 2 rfl) ?_
    refine lv_aload_n hx hb dX7_less_34 rfl (lv_at hl 0 rfl) ?_
    refine m_get (v := .int (S_7 0 5)) hx hb hts hown hK hP 5 (by decide) q1215 rfl rfl dX7_less_35 ?_
    refine lv_iconst (v := 1) hx hb dX7_less_38 (by decide) ?_
    refine lv_isub hx hb dX7_less_39 ?_
    refine lv_iconst (v := 0) hx hb dX7_less_40 (by decide) ?_
    refine m_cVv (As := [.int p2, .int ((S_7 0 5) - 1), .int 0]) (rest := []) ⟨hx, hb, hml, hown, hts⟩ (met_puts l D cI cB b p2 ((S_7 0 5) - 1) 0  S_7 _ h) (cwV 3 hts (lw_V q1677 q1679 qs98 q128 q1680) rfl rfl rfl cwd_puts ⟨Nat.le_of_ble_eq_true rfl, Nat.le_of_ble_eq_true rfl⟩) hK hP hS rfl hl.1 rfl (Nat.le_of_ble_eq_true rfl) dX7_less_41 ⟨Nat.zero_le _, Nat.zero_le _⟩ (fun S_9 H locs h hP hS => ?_)
    refine lv_aload_n hx hb dX7_less_44 rfl (lv_at hl 0 rfl) ?_
    refine lv_iload_n hx hb dX7_less_45 rfl (lv_at hl 3 rfl) ?_
    refine m_cVi (As := [.int p3]) (rest := []) ⟨hx, hb, hml, hown, hts⟩ (met_lays l D cI cB b p3  S_9 _ h) (cwV 1 hts (lw_V q1693 q1695 qs101 q128 q1696) rfl rfl rfl cwd_lays ⟨Nat.le_of_ble_eq_true rfl, Nat.le_of_ble_eq_true rfl⟩) hK hP hS rfl hl.1 rfl (Nat.le_of_ble_eq_true rfl) dX7_less_46 ⟨Nat.zero_le _, Nat.zero_le _⟩ (fun r_10 S_11 H locs h hP hS => ?_)
    exact W.iret (v := r_10) hx hb hr (fun t ht hW => ⟨⟨r_10, S_11, rfl, h, by rw [ht]; exact hP, va_K.moved hW.alike hK⟩, hS.F ht⟩) hS.2.2 dX7_less_49
  · have h := h.2 c_14
    refine lv_aload_n hx hb dX7_less_15 rfl (lv_at hl 0 rfl) ?_
    refine lv_iconst (v := 1) hx hb dX7_less_16 (by decide) ?_
    refine m_cVi (As := [.int 1]) (rest := []) ⟨hx, hb, hml, hown, hts⟩ (met_refused l D cI cB b 1  S_1 _ h) (cwV 1 hts (lw_V q1382 q1384 qs58 q128 q1385) rfl rfl rfl cwd_refused ⟨Nat.le_of_ble_eq_true rfl, Nat.le_of_ble_eq_true rfl⟩) hK hP hS rfl hl.1 rfl (Nat.le_of_ble_eq_true rfl) dX7_less_17 ⟨Nat.zero_le _, Nat.zero_le _⟩ (fun r_12 S_13 H locs h hP hS => ?_)
    exact W.iret (v := r_12) hx hb hr (fun t ht hW => ⟨⟨r_12, S_13, rfl, h, by rw [ht]; exact hP, va_K.moved hW.alike hK⟩, hS.F ht⟩) hS.2.2 dX7_less_20
def wp_times_j60 (p1 : Int32) (p2 : Int32) (p3 : Int32) (post : Int32 → St → Prop) (R28 : Int32 → St → Prop) (x4 : Int32) (S : St) : Prop :=
        ∀ x4_1 : Int32, x4_1 = x4 + 1 →
        R28 x4_1 S
def wp_times_b28 (p1 : Int32) (p2 : Int32) (p3 : Int32) (post : Int32 → St → Prop) (R28 : Int32 → St → Prop)  (x4 : Int32) (S : St) : Prop :=
      ((4096 ≤ x4 →
        wp_lays p3 S (fun r_2 S_3 =>
        post r_2 S_3)) ∧
       (¬ (4096 ≤ x4) →
        wp_coef p2 x4 S (fun r_4 =>
        ((r_4 = 0 →
          wp_times_j60 p1 p2 p3 post R28 x4 S) ∧
         (¬ (r_4 = 0) →
          wp_coef p2 x4 S (fun r_6 =>
          wp_puts p1 r_6 x4 S (fun S_9 =>
          wp_times_j60 p1 p2 p3 post R28 x4 S_9)))))))
def wp_times_l28 (p1 : Int32) (p2 : Int32) (p3 : Int32) (post : Int32 → St → Prop)  (x4 : Int32) (S : St) : Prop := wLoop (fun (R : (Int32 × St) → Prop) (v : Int32 × St) => wp_times_b28 p1 p2 p3 post (fun x4 S => R (x4, S))  v.1 v.2) (x4, S)
def wp_times (p1 : Int32) (p2 : Int32) (p3 : Int32) (S : St) (post : Int32 → St → Prop) : Prop :=
  ∀ S_12 : St, S_12 = bw S 0 0 0 →
  wp_areRegs p1 p2 p3 S_12 (fun r_13 =>
  ((¬ r_13 = 0 →
    wp_clears  S_12 (fun S_16 =>
    wp_times_l28 p1 p2 p3 post 0 S_16)) ∧
   (r_13 = 0 →
    wp_refused 1 S_12 (fun r_17 S_18 =>
    post r_17 S_18))))
set_option maxHeartbeats 4000000 in
theorem met_times (l : Launch) (D : va_G) (cI cB : ClassId) (b : Nat) (p1 : Int32) (p2 : Int32) (p3 : Int32)  (S : St) (post : Int32 → St → Prop) (h : wp_times p1 p2 p3 S post) : Met l yX7_times (ws_ yX7_times cX7_times 5 (some .int)) ({ frames := 3, cells := 0, slots := 0, locals := 70 } : Room) (mPc D cI cB b [.ref b, .int p1, .int p2, .int p3] S) (mQi D cI cB b post) 0 0 (mA b) := by
  refine Met.ofW (cc := cX7_times) (maxL := 5) (ret := (some .int)) (by decide) rfl ?_
  intro p e s m args below meth c s₁ B hml hv
  obtain ⟨rfl, hP, hK⟩ := hv
  have hx := B.exec
  have hb := B.bytes
  have hr := B.returns
  have hts := atoms_spec (ws := ws_ yX7_times cX7_times 5 (some .int)) B.pre
  have hts : ∀ w ∈ lw_all, w.before _ s = true := fun w h => hts w (List.mem_cons_of_mem _ h)
  have hown : s.vm.findClass RX7 = some m.cls := findClass_of_methodNamed B.named
  have hlocks := B.notSynchronized
  have hS : va_S (mA b) s.heap s.heap [] := va_S.rf
  have hl := lv_entry ([.ref b, .int p1, .int p2, .int p3]) (n := 5) (Nat.le_of_ble_eq_true rfl)
  rw [lg_entry_eq]
  generalize (lg_sl ([.ref b, .int p1, .int p2, .int p3]) ++ List.replicate (5 - (lg_sl ([.ref b, .int p1, .int p2, .int p3])).length) Slot.unset).toArray = ls at hl ⊢
  have hl : lv_has ls 5 [(0, .ref b), (1, .int p1), (2, .int p2), (3, .int p3)] := hl
  have L28 : ∀  (x4 : Int32) (S : St) (H : Heap) (locs : List Loc) (ls : Array Slot), wp_times_l28 p1 p2 p3 post  x4 S → mW D cI cB b S H → va_S (mA b) s.heap H locs → lv_has ls 5 [(0, .ref b), (1, .int p1), (2, .int p2), (3, .int p3), (4, .int x4)] → W p l e (headSpec (ws_ yX7_times cX7_times 5 (some .int)) ({ frames := 3, cells := 0, slots := 0, locals := 70 } : Room)).room s m ([.ref b, .int p1, .int p2, .int p3] : List Value).toArray below meth c H locs 0 0 (MQ below (mQi D cI cB b post) ([.ref b, .int p1, .int p2, .int p3] : List Value).toArray s 0 0 (mA b)) (F0 m 28 ls []) := by
    intro  x4 S H locs ls h hP hS hl
    obtain ⟨I28, n28, hI, hstep28⟩ := h
    induction n28 using Nat.strongRecOn generalizing x4 S H locs ls with
    | ind n28 ih28 =>
      have h : wp_times_b28 p1 p2 p3 post (fun x4 S => ∃ mm, mm < n28 ∧ I28 mm (x4, S))  x4 S := hstep28 n28 _ hI
      clear hI
      have J60 : ∀ (x4 : Int32) (S : St) (H : Heap) (locs : List Loc) (ls : Array Slot), wp_times_j60 p1 p2 p3 post (fun x4 S => ∃ mm, mm < n28 ∧ I28 mm (x4, S)) x4 S → mW D cI cB b S H → va_S (mA b) s.heap H locs → lv_has ls 5 [(0, .ref b), (1, .int p1), (2, .int p2), (3, .int p3), (4, .int x4)] → W p l e (headSpec (ws_ yX7_times cX7_times 5 (some .int)) ({ frames := 3, cells := 0, slots := 0, locals := 70 } : Room)).room s m ([.ref b, .int p1, .int p2, .int p3] : List Value).toArray below meth c H locs 0 0 (MQ below (mQi D cI cB b post) ([.ref b, .int p1, .int p2, .int p3] : List Value).toArray s 0 0 (mA b)) (F0 m 60 ls []) := by
        intro x4 S H locs ls h hP hS hl
        unfold wp_times_j60 at h
        obtain ⟨x4_1, ex4_1⟩ : ∃ y : Int32, y = x4 + 1 := ⟨_, rfl⟩
        have h := h x4_1 ex4_1
        refine lv_iinc (v := x4_1) (lv' := [(4, .int x4_1), (0, .ref b), (1, .int p1), (2, .int p2), (3, .int p3)]) hx hb dX7_times_60 hl (k := 4) rfl (by rw [ex4_1]; rfl) (by decide) rfl (fun ls hl => ?_)
        refine lv_goto (tgt := 28) hx hb dX7_times_63 (by decide) ?_
        obtain ⟨mm, hmm, h⟩ := h
        exact ih28 mm hmm _ _ _ _ _ hP hS (lv_sub hl [1, 2, 3, 4, 0] rfl) h
      unfold wp_times_b28 at h
      refine lv_iload hx hb dX7_times_28 (lv_at hl 4 rfl) ?_
      refine lv_sipush (v := 4096) hx hb dX7_times_30 (by decide) ?_
      refine lv_icmp_ge (tgt := 66) hx hb dX7_times_33 (by decide) (fun c_11 => ?_) (fun c_11 => ?_)
      · have h := h.1 c_11
        refine lv_aload_n hx hb dX7_times_66 rfl (lv_at hl 0 rfl) ?_
        refine lv_iload_n hx hb dX7_times_67 rfl (lv_at hl 3 rfl) ?_
        refine m_cVi (As := [.int p3]) (rest := []) ⟨hx, hb, hml, hown, hts⟩ (met_lays l D cI cB b p3  S _ h) (cwV 1 hts (lw_V q1693 q1695 qs101 q128 q1696) rfl rfl rfl cwd_lays ⟨Nat.le_of_ble_eq_true rfl, Nat.le_of_ble_eq_true rfl⟩) hK hP hS rfl hl.1 rfl (Nat.le_of_ble_eq_true rfl) dX7_times_68 ⟨Nat.zero_le _, Nat.zero_le _⟩ (fun r_2 S_3 H locs h hP hS => ?_)
        exact W.iret (v := r_2) hx hb hr (fun t ht hW => ⟨⟨r_2, S_3, rfl, h, by rw [ht]; exact hP, va_K.moved hW.alike hK⟩, hS.F ht⟩) hS.2.2 dX7_times_71
      · have h := h.2 c_11
        refine lv_aload_n hx hb dX7_times_36 rfl (lv_at hl 0 rfl) ?_
        refine lv_iload_n hx hb dX7_times_37 rfl (lv_at hl 2 rfl) ?_
        refine lv_iload hx hb dX7_times_38 (lv_at hl 4 rfl) ?_
        refine m_cVp (As := [.int p2, .int x4]) (rest := []) ⟨hx, hb, hml, hown, hts⟩ (met_coef l D cI cB b p2 x4  S _ h) (cwV 2 hts (lw_V q1526 q1528 qs80 q128 q1529) rfl rfl rfl cwd_coef ⟨Nat.le_of_ble_eq_true rfl, Nat.le_of_ble_eq_true rfl⟩) hK hP hS rfl hl.1 rfl (Nat.le_of_ble_eq_true rfl) dX7_times_40 ⟨Nat.zero_le _, Nat.zero_le _⟩ (fun r_4 H locs h hP hS => ?_)
        refine lv_if_eq (tgt := 60) hx hb dX7_times_43 (by decide) (fun c_10 => ?_) (fun c_10 => ?_)
        · have h := h.1 c_10
          exact J60 _ _ _ _ _ h hP hS (lv_sub hl [0, 1, 2, 3, 4] rfl)
        · have h := h.2 c_10
          refine lv_aload_n hx hb dX7_times_46 rfl (lv_at hl 0 rfl) ?_
          refine lv_iload_n hx hb dX7_times_47 rfl (lv_at hl 1 rfl) ?_
          refine lv_aload_n hx hb dX7_times_48 rfl (lv_at hl 0 rfl) ?_
          refine lv_iload_n hx hb dX7_times_49 rfl (lv_at hl 2 rfl) ?_
          refine lv_iload hx hb dX7_times_50 (lv_at hl 4 rfl) ?_
          refine m_cVp (As := [.int p2, .int x4]) (rest := [.int p1, .ref b]) ⟨hx, hb, hml, hown, hts⟩ (met_coef l D cI cB b p2 x4  S _ h) (cwV 2 hts (lw_V q1526 q1528 qs80 q128 q1529) rfl rfl rfl cwd_coef ⟨Nat.le_of_ble_eq_true rfl, Nat.le_of_ble_eq_true rfl⟩) hK hP hS rfl hl.1 rfl (Nat.le_of_ble_eq_true rfl) dX7_times_52 ⟨Nat.zero_le _, Nat.zero_le _⟩ (fun r_6 H locs h hP hS => ?_)
          refine lv_iload hx hb dX7_times_55 (lv_at hl 4 rfl) ?_
          refine m_cVv (As := [.int p1, .int r_6, .int x4]) (rest := []) ⟨hx, hb, hml, hown, hts⟩ (met_puts l D cI cB b p1 r_6 x4  S _ h) (cwV 3 hts (lw_V q1677 q1679 qs98 q128 q1680) rfl rfl rfl cwd_puts ⟨Nat.le_of_ble_eq_true rfl, Nat.le_of_ble_eq_true rfl⟩) hK hP hS rfl hl.1 rfl (Nat.le_of_ble_eq_true rfl) dX7_times_57 ⟨Nat.zero_le _, Nat.zero_le _⟩ (fun S_9 H locs h hP hS => ?_)
          exact J60 _ _ _ _ _ h hP hS (lv_sub hl [0, 1, 2, 3, 4] rfl)
  unfold wp_times at h
  refine lv_aload_n hx hb dX7_times_0 rfl (lv_at hl 0 rfl) ?_
  refine lv_iconst (v := 0) hx hb dX7_times_1 (by decide) ?_
  obtain ⟨S_12, eS_12⟩ : ∃ z : St, z = bw S 0 0 0 := ⟨_, rfl⟩
  have h := h S_12 eS_12
  refine m_put (S1 := S_12) (v := .int 0) (ty := .int) hx hb hts hown hK hP hS 0 (by decide) q1210 rfl rfl (tyX7_ok 0 (by decide)) rfl rfl (by rw [eS_12]; exact mset_0 b S 0) (by rw [eS_12]; exact bw_0) dX7_times_2 (fun H locs hP hS => ?_)
  refine lv_aload_n hx hb dX7_times_5 rfl (lv_at hl 0 rfl) ?_
  refine lv_iload_n hx hb dX7_times_6 rfl (lv_at hl 1 rfl) ?_
  refine lv_iload_n hx hb dX7_times_7 rfl (lv_at hl 2 rfl) ?_
  refine lv_iload_n hx hb dX7_times_8 rfl (lv_at hl 3 rfl) ?_
  refine m_cVp (As := [.int p1, .int p2, .int p3]) (rest := []) ⟨hx, hb, hml, hown, hts⟩ (met_areRegs l D cI cB b p1 p2 p3  S_12 _ h) (cwV 3 hts (lw_V q1689 q1691 qs100 q128 q1692) rfl rfl rfl cwd_areRegs ⟨Nat.le_of_ble_eq_true rfl, Nat.le_of_ble_eq_true rfl⟩) hK hP hS rfl hl.1 rfl (Nat.le_of_ble_eq_true rfl) dX7_times_9 ⟨Nat.zero_le _, Nat.zero_le _⟩ (fun r_13 H locs h hP hS => ?_)
  refine lv_if_ne (tgt := 21) hx hb dX7_times_12 (by decide) (fun c_19 => ?_) (fun c_19 => ?_)
  · have h := h.1 c_19
    refine lv_aload_n hx hb dX7_times_21 rfl (lv_at hl 0 rfl) ?_
    refine m_cVv (As := []) (rest := []) ⟨hx, hb, hml, hown, hts⟩ (met_clears l D cI cB b   S_12 _ h) (cwV 0 hts (lw_V q1673 q1675 qs97 q128 q1676) rfl rfl rfl cwd_clears ⟨Nat.le_of_ble_eq_true rfl, Nat.le_of_ble_eq_true rfl⟩) hK hP hS rfl hl.1 rfl (Nat.le_of_ble_eq_true rfl) dX7_times_22 ⟨Nat.zero_le _, Nat.zero_le _⟩ (fun S_16 H locs h hP hS => ?_)
    refine lv_iconst (v := 0) hx hb dX7_times_25 (by decide) ?_
    refine lv_istore (lv' := [(4, .int 0), (0, .ref b), (1, .int p1), (2, .int p2), (3, .int p3)]) hx hb dX7_times_26 hl (by decide) rfl (fun ls hl => ?_)
    exact L28 _ _ _ _ _ h hP hS (lv_sub hl [1, 2, 3, 4, 0] rfl)
  · have h := h.2 c_19
    refine lv_aload_n hx hb dX7_times_15 rfl (lv_at hl 0 rfl) ?_
    refine lv_iconst (v := 1) hx hb dX7_times_16 (by decide) ?_
    refine m_cVi (As := [.int 1]) (rest := []) ⟨hx, hb, hml, hown, hts⟩ (met_refused l D cI cB b 1  S_12 _ h) (cwV 1 hts (lw_V q1382 q1384 qs58 q128 q1385) rfl rfl rfl cwd_refused ⟨Nat.le_of_ble_eq_true rfl, Nat.le_of_ble_eq_true rfl⟩) hK hP hS rfl hl.1 rfl (Nat.le_of_ble_eq_true rfl) dX7_times_17 ⟨Nat.zero_le _, Nat.zero_le _⟩ (fun r_17 S_18 H locs h hP hS => ?_)
    exact W.iret (v := r_17) hx hb hr (fun t ht hW => ⟨⟨r_17, S_18, rfl, h, by rw [ht]; exact hP, va_K.moved hW.alike hK⟩, hS.F ht⟩) hS.2.2 dX7_times_20
