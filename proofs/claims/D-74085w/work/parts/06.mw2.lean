set_option maxRecDepth 100000
def wp_termsOf_j28 (p1 : Int32) (post : Int32 → Prop) (R4 : Int32 → Int32 → Prop) (x2 : Int32) (x3 : Int32) (S : St) : Prop :=
        ∀ x3_1 : Int32, x3_1 = x3 + 1 →
        R4 x2 x3_1
def wp_termsOf_b4 (p1 : Int32) (post : Int32 → Prop) (R4 : Int32 → Int32 → Prop)  (x2 : Int32) (x3 : Int32) (S : St) : Prop :=
      ((4096 ≤ x3 →
        post x2) ∧
       (¬ (4096 ≤ x3) →
        wp_coef p1 x3 S (fun r_2 =>
        ((r_2 = 0 →
          ∀ x2_4 : Int32, x2_4 = (x2 + 0) →
          wp_termsOf_j28 p1 post R4 x2_4 x3 S) ∧
         (¬ (r_2 = 0) →
          ∀ x2_5 : Int32, x2_5 = (x2 + 1) →
          wp_termsOf_j28 p1 post R4 x2_5 x3 S)))))
def wp_termsOf_l4 (p1 : Int32) (post : Int32 → Prop)  (x2 : Int32) (x3 : Int32) (S : St) : Prop := wLoop (fun (R : (Int32 × Int32) → Prop) (v : Int32 × Int32) => wp_termsOf_b4 p1 post (fun x2 x3 => R (x2, x3))  v.1 v.2 S) (x2, x3)
def wp_termsOf (p1 : Int32) (S : St) (post : Int32 → Prop) : Prop :=
  wp_termsOf_l4 p1 post 0 0 S
set_option maxHeartbeats 4000000 in
theorem met_termsOf (l : Launch) (D : va_G) (cI cB : ClassId) (b : Nat) (p1 : Int32)  (S : St) (post : Int32 → Prop) (h : wp_termsOf p1 S post) : Met l yX7_termsOf (ws_ yX7_termsOf cX7_termsOf 4 (some .int)) ({ frames := 1, cells := 0, slots := 0, locals := 22 } : Room) (mPc D cI cB b [.ref b, .int p1] S) (mQp D cI cB b S post) 0 0 (mA b) := by
  refine Met.ofW (cc := cX7_termsOf) (maxL := 4) (ret := (some .int)) (by decide) rfl ?_
  intro p e s m args below meth c s₁ B hml hv
  obtain ⟨rfl, hP, hK⟩ := hv
  have hx := B.exec
  have hb := B.bytes
  have hr := B.returns
  have hts := atoms_spec (ws := ws_ yX7_termsOf cX7_termsOf 4 (some .int)) B.pre
  have hts : ∀ w ∈ lw_all, w.before _ s = true := fun w h => hts w (List.mem_cons_of_mem _ h)
  have hown : s.vm.findClass RX7 = some m.cls := findClass_of_methodNamed B.named
  have hlocks := B.notSynchronized
  have hS : va_S (mA b) s.heap s.heap [] := va_S.rf
  have hl := lv_entry ([.ref b, .int p1]) (n := 4) (Nat.le_of_ble_eq_true rfl)
  rw [lg_entry_eq]
  generalize (lg_sl ([.ref b, .int p1]) ++ List.replicate (4 - (lg_sl ([.ref b, .int p1])).length) Slot.unset).toArray = ls at hl ⊢
  have hl : lv_has ls 4 [(0, .ref b), (1, .int p1)] := hl
  have L4 : ∀  (x2 : Int32) (x3 : Int32) (H : Heap) (locs : List Loc) (ls : Array Slot), wp_termsOf_l4 p1 post  x2 x3 S → mW D cI cB b S H → va_S (mA b) s.heap H locs → lv_has ls 4 [(0, .ref b), (1, .int p1), (2, .int x2), (3, .int x3)] → W p l e (headSpec (ws_ yX7_termsOf cX7_termsOf 4 (some .int)) ({ frames := 1, cells := 0, slots := 0, locals := 22 } : Room)).room s m ([.ref b, .int p1] : List Value).toArray below meth c H locs 0 0 (MQ below (mQp D cI cB b S post) ([.ref b, .int p1] : List Value).toArray s 0 0 (mA b)) (F0 m 4 ls []) := by
    intro  x2 x3  H locs ls h hP hS hl
    obtain ⟨I4, n4, hI, hstep4⟩ := h
    induction n4 using Nat.strongRecOn generalizing x2 x3 H locs ls with
    | ind n4 ih4 =>
      have h : wp_termsOf_b4 p1 post (fun x2 x3 => ∃ mm, mm < n4 ∧ I4 mm (x2, x3))  x2 x3 S := hstep4 n4 _ hI
      clear hI
      have J28 : ∀ (x2 : Int32) (x3 : Int32) (H : Heap) (locs : List Loc) (ls : Array Slot), wp_termsOf_j28 p1 post (fun x2 x3 => ∃ mm, mm < n4 ∧ I4 mm (x2, x3)) x2 x3 S → mW D cI cB b S H → va_S (mA b) s.heap H locs → lv_has ls 4 [(0, .ref b), (1, .int p1), (2, .int x2), (3, .int x3)] → W p l e (headSpec (ws_ yX7_termsOf cX7_termsOf 4 (some .int)) ({ frames := 1, cells := 0, slots := 0, locals := 22 } : Room)).room s m ([.ref b, .int p1] : List Value).toArray below meth c H locs 0 0 (MQ below (mQp D cI cB b S post) ([.ref b, .int p1] : List Value).toArray s 0 0 (mA b)) (F0 m 28 ls []) := by
        intro x2 x3  H locs ls h hP hS hl
        unfold wp_termsOf_j28 at h
        obtain ⟨x3_1, ex3_1⟩ : ∃ y : Int32, y = x3 + 1 := ⟨_, rfl⟩
        have h := h x3_1 ex3_1
        refine lv_iinc (v := x3_1) (lv' := [(3, .int x3_1), (0, .ref b), (1, .int p1), (2, .int x2)]) hx hb dX7_termsOf_28 hl (k := 3) rfl (by rw [ex3_1]; rfl) (by decide) rfl (fun ls hl => ?_)
        refine lv_goto (tgt := 4) hx hb dX7_termsOf_31 (by decide) ?_
        obtain ⟨mm, hmm, h⟩ := h
        exact ih4 mm hmm _ _ _ _ _ hP hS (lv_sub hl [1, 2, 3, 0] rfl) h
      unfold wp_termsOf_b4 at h
      refine lv_iload_n hx hb dX7_termsOf_4 rfl (lv_at hl 3 rfl) ?_
      refine lv_sipush (v := 4096) hx hb dX7_termsOf_5 (by decide) ?_
      refine lv_icmp_ge (tgt := 34) hx hb dX7_termsOf_8 (by decide) (fun c_7 => ?_) (fun c_7 => ?_)
      · have h := h.1 c_7
        refine lv_iload_n hx hb dX7_termsOf_34 rfl (lv_at hl 2 rfl) ?_
        exact W.iret (v := x2) hx hb hr (fun t ht hW => ⟨⟨x2, (), rfl, h, by rw [ht]; exact hP, va_K.moved hW.alike hK⟩, hS.F ht⟩) hS.2.2 dX7_termsOf_35
      · have h := h.2 c_7
        refine lv_iload_n hx hb dX7_termsOf_11 rfl (lv_at hl 2 rfl) ?_
        refine lv_aload_n hx hb dX7_termsOf_12 rfl (lv_at hl 0 rfl) ?_
        refine lv_iload_n hx hb dX7_termsOf_13 rfl (lv_at hl 1 rfl) ?_
        refine lv_iload_n hx hb dX7_termsOf_14 rfl (lv_at hl 3 rfl) ?_
        refine m_cVp (As := [.int p1, .int x3]) (rest := [.int x2]) ⟨hx, hb, hml, hown, hts⟩ (met_coef l D cI cB b p1 x3  S _ h) (cwV 2 hts (lw_V q1526 q1528 qs80 q128 q1529) rfl rfl rfl cwd_coef ⟨Nat.le_of_ble_eq_true rfl, Nat.le_of_ble_eq_true rfl⟩) hK hP hS rfl hl.1 rfl (Nat.le_of_ble_eq_true rfl) dX7_termsOf_15 ⟨Nat.zero_le _, Nat.zero_le _⟩ (fun r_2 H locs h hP hS => ?_)
        refine lv_if_eq (tgt := 25) hx hb dX7_termsOf_18 (by decide) (fun c_6 => ?_) (fun c_6 => ?_)
        · have h := h.1 c_6
          refine lv_iconst (v := 0) hx hb dX7_termsOf_25 (by decide) ?_
          refine lv_iadd hx hb dX7_termsOf_26 ?_
          refine lv_topi (fun x2_4 ex2_4 => ?_)
          have h := h x2_4 ex2_4
          refine lv_istore_n (lv' := [(2, .int x2_4), (0, .ref b), (1, .int p1), (3, .int x3)]) hx hb dX7_termsOf_27 rfl hl (by decide) rfl (fun ls hl => ?_)
          exact J28 _ _  _ _ _ h hP hS (lv_sub hl [1, 2, 0, 3] rfl)
        · have h := h.2 c_6
          refine lv_iconst (v := 1) hx hb dX7_termsOf_21 (by decide) ?_
          refine lv_goto (tgt := 26) hx hb dX7_termsOf_22 (by decide) ?_
          refine lv_iadd hx hb dX7_termsOf_26 ?_
          refine lv_topi (fun x2_5 ex2_5 => ?_)
          have h := h x2_5 ex2_5
          refine lv_istore_n (lv' := [(2, .int x2_5), (0, .ref b), (1, .int p1), (3, .int x3)]) hx hb dX7_termsOf_27 rfl hl (by decide) rfl (fun ls hl => ?_)
          exact J28 _ _  _ _ _ h hP hS (lv_sub hl [1, 2, 0, 3] rfl)
  unfold wp_termsOf at h
  refine lv_iconst (v := 0) hx hb dX7_termsOf_0 (by decide) ?_
  refine lv_istore_n (lv' := [(2, .int 0), (0, .ref b), (1, .int p1)]) hx hb dX7_termsOf_1 rfl hl (by decide) rfl (fun ls hl => ?_)
  refine lv_iconst (v := 0) hx hb dX7_termsOf_2 (by decide) ?_
  refine lv_istore_n (lv' := [(3, .int 0), (2, .int 0), (0, .ref b), (1, .int p1)]) hx hb dX7_termsOf_3 rfl hl (by decide) rfl (fun ls hl => ?_)
  exact L4 _ _  _ _ _ h hP hS (lv_sub hl [2, 3, 1, 0] rfl)
def wp_isZero (p1 : Int32) (S : St) (post : Int32 → Prop) : Prop :=
  wp_termsOf p1 S (fun r_1 =>
  ((¬ r_1 = 0 →
    post 0) ∧
   (r_1 = 0 →
    post 1)))
set_option maxHeartbeats 4000000 in
theorem met_isZero (l : Launch) (D : va_G) (cI cB : ClassId) (b : Nat) (p1 : Int32)  (S : St) (post : Int32 → Prop) (h : wp_isZero p1 S post) : Met l yX7_isZero (ws_ yX7_isZero cX7_isZero 2 (some .boolean)) ({ frames := 2, cells := 0, slots := 0, locals := 45 } : Room) (mPc D cI cB b [.ref b, .int p1] S) (mQp D cI cB b S post) 0 0 (mA b) := by
  refine Met.ofW (cc := cX7_isZero) (maxL := 2) (ret := (some .boolean)) (by decide) rfl ?_
  intro p e s m args below meth c s₁ B hml hv
  obtain ⟨rfl, hP, hK⟩ := hv
  have hx := B.exec
  have hb := B.bytes
  have hr := B.returns
  have hts := atoms_spec (ws := ws_ yX7_isZero cX7_isZero 2 (some .boolean)) B.pre
  have hts : ∀ w ∈ lw_all, w.before _ s = true := fun w h => hts w (List.mem_cons_of_mem _ h)
  have hown : s.vm.findClass RX7 = some m.cls := findClass_of_methodNamed B.named
  have hlocks := B.notSynchronized
  have hS : va_S (mA b) s.heap s.heap [] := va_S.rf
  have hl := lv_entry ([.ref b, .int p1]) (n := 2) (Nat.le_of_ble_eq_true rfl)
  rw [lg_entry_eq]
  generalize (lg_sl ([.ref b, .int p1]) ++ List.replicate (2 - (lg_sl ([.ref b, .int p1])).length) Slot.unset).toArray = ls at hl ⊢
  have hl : lv_has ls 2 [(0, .ref b), (1, .int p1)] := hl
  unfold wp_isZero at h
  refine lv_aload_n hx hb dX7_isZero_0 rfl (lv_at hl 0 rfl) ?_
  refine lv_iload_n hx hb dX7_isZero_1 rfl (lv_at hl 1 rfl) ?_
  refine m_cVp (As := [.int p1]) (rest := []) ⟨hx, hb, hml, hown, hts⟩ (met_termsOf l D cI cB b p1  S _ h) (cwV 1 hts (lw_V q1522 q1524 qs79 q128 q1525) rfl rfl rfl cwd_termsOf ⟨Nat.le_of_ble_eq_true rfl, Nat.le_of_ble_eq_true rfl⟩) hK hP hS rfl hl.1 rfl (Nat.le_of_ble_eq_true rfl) dX7_isZero_2 ⟨Nat.zero_le _, Nat.zero_le _⟩ (fun r_1 H locs h hP hS => ?_)
  refine lv_if_ne (tgt := 12) hx hb dX7_isZero_5 (by decide) (fun c_3 => ?_) (fun c_3 => ?_)
  · have h := h.1 c_3
    refine lv_iconst (v := 0) hx hb dX7_isZero_12 (by decide) ?_
    exact W.zret (v := 0) hx hb hr rfl (fun t ht hW => ⟨⟨0, (), rfl, h, by rw [ht]; exact hP, va_K.moved hW.alike hK⟩, hS.F ht⟩) hS.2.2 dX7_isZero_13
  · have h := h.2 c_3
    refine lv_iconst (v := 1) hx hb dX7_isZero_8 (by decide) ?_
    refine lv_goto (tgt := 13) hx hb dX7_isZero_9 (by decide) ?_
    exact W.zret (v := 1) hx hb hr rfl (fun t ht hW => ⟨⟨1, (), rfl, h, by rw [ht]; exact hP, va_K.moved hW.alike hK⟩, hS.F ht⟩) hS.2.2 dX7_isZero_13
def wp_notZero_j26  (post : Int32 → Prop) (R4 : Int32 → Int32 → Prop) (x1 : Int32) (x2 : Int32) (S : St) : Prop :=
        ∀ x2_1 : Int32, x2_1 = x2 + 1 →
        R4 x1 x2_1
def wp_notZero_b4  (post : Int32 → Prop) (R4 : Int32 → Int32 → Prop)  (x1 : Int32) (x2 : Int32) (S : St) : Prop :=
      ((8 ≤ x2 →
        post x1) ∧
       (¬ (8 ≤ x2) →
        wp_isZero x2 S (fun r_2 =>
        ((r_2 = 0 →
          ∀ x1_4 : Int32, x1_4 = (x1 + 1) →
          wp_notZero_j26  post R4 x1_4 x2 S) ∧
         (¬ (r_2 = 0) →
          ∀ x1_5 : Int32, x1_5 = (x1 + 0) →
          wp_notZero_j26  post R4 x1_5 x2 S)))))
def wp_notZero_l4  (post : Int32 → Prop)  (x1 : Int32) (x2 : Int32) (S : St) : Prop := wLoop (fun (R : (Int32 × Int32) → Prop) (v : Int32 × Int32) => wp_notZero_b4  post (fun x1 x2 => R (x1, x2))  v.1 v.2 S) (x1, x2)
def wp_notZero  (S : St) (post : Int32 → Prop) : Prop :=
  wp_notZero_l4  post 0 0 S
set_option maxHeartbeats 4000000 in
theorem met_notZero (l : Launch) (D : va_G) (cI cB : ClassId) (b : Nat)   (S : St) (post : Int32 → Prop) (h : wp_notZero  S post) : Met l yX7_notZero (ws_ yX7_notZero cX7_notZero 3 (some .int)) ({ frames := 3, cells := 0, slots := 0, locals := 66 } : Room) (mPc D cI cB b [.ref b] S) (mQp D cI cB b S post) 0 0 (mA b) := by
  refine Met.ofW (cc := cX7_notZero) (maxL := 3) (ret := (some .int)) (by decide) rfl ?_
  intro p e s m args below meth c s₁ B hml hv
  obtain ⟨rfl, hP, hK⟩ := hv
  have hx := B.exec
  have hb := B.bytes
  have hr := B.returns
  have hts := atoms_spec (ws := ws_ yX7_notZero cX7_notZero 3 (some .int)) B.pre
  have hts : ∀ w ∈ lw_all, w.before _ s = true := fun w h => hts w (List.mem_cons_of_mem _ h)
  have hown : s.vm.findClass RX7 = some m.cls := findClass_of_methodNamed B.named
  have hlocks := B.notSynchronized
  have hS : va_S (mA b) s.heap s.heap [] := va_S.rf
  have hl := lv_entry ([.ref b]) (n := 3) (Nat.le_of_ble_eq_true rfl)
  rw [lg_entry_eq]
  generalize (lg_sl ([.ref b]) ++ List.replicate (3 - (lg_sl ([.ref b])).length) Slot.unset).toArray = ls at hl ⊢
  have hl : lv_has ls 3 [(0, .ref b)] := hl
  have L4 : ∀  (x1 : Int32) (x2 : Int32) (H : Heap) (locs : List Loc) (ls : Array Slot), wp_notZero_l4  post  x1 x2 S → mW D cI cB b S H → va_S (mA b) s.heap H locs → lv_has ls 3 [(0, .ref b), (1, .int x1), (2, .int x2)] → W p l e (headSpec (ws_ yX7_notZero cX7_notZero 3 (some .int)) ({ frames := 3, cells := 0, slots := 0, locals := 66 } : Room)).room s m ([.ref b] : List Value).toArray below meth c H locs 0 0 (MQ below (mQp D cI cB b S post) ([.ref b] : List Value).toArray s 0 0 (mA b)) (F0 m 4 ls []) := by
    intro  x1 x2  H locs ls h hP hS hl
    obtain ⟨I4, n4, hI, hstep4⟩ := h
    induction n4 using Nat.strongRecOn generalizing x1 x2 H locs ls with
    | ind n4 ih4 =>
      have h : wp_notZero_b4  post (fun x1 x2 => ∃ mm, mm < n4 ∧ I4 mm (x1, x2))  x1 x2 S := hstep4 n4 _ hI
      clear hI
      have J26 : ∀ (x1 : Int32) (x2 : Int32) (H : Heap) (locs : List Loc) (ls : Array Slot), wp_notZero_j26  post (fun x1 x2 => ∃ mm, mm < n4 ∧ I4 mm (x1, x2)) x1 x2 S → mW D cI cB b S H → va_S (mA b) s.heap H locs → lv_has ls 3 [(0, .ref b), (1, .int x1), (2, .int x2)] → W p l e (headSpec (ws_ yX7_notZero cX7_notZero 3 (some .int)) ({ frames := 3, cells := 0, slots := 0, locals := 66 } : Room)).room s m ([.ref b] : List Value).toArray below meth c H locs 0 0 (MQ below (mQp D cI cB b S post) ([.ref b] : List Value).toArray s 0 0 (mA b)) (F0 m 26 ls []) := by
        intro x1 x2  H locs ls h hP hS hl
        unfold wp_notZero_j26 at h
        obtain ⟨x2_1, ex2_1⟩ : ∃ y : Int32, y = x2 + 1 := ⟨_, rfl⟩
        have h := h x2_1 ex2_1
        refine lv_iinc (v := x2_1) (lv' := [(2, .int x2_1), (0, .ref b), (1, .int x1)]) hx hb dX7_notZero_26 hl (k := 2) rfl (by rw [ex2_1]; rfl) (by decide) rfl (fun ls hl => ?_)
        refine lv_goto (tgt := 4) hx hb dX7_notZero_29 (by decide) ?_
        obtain ⟨mm, hmm, h⟩ := h
        exact ih4 mm hmm _ _ _ _ _ hP hS (lv_sub hl [1, 2, 0] rfl) h
      unfold wp_notZero_b4 at h
      refine lv_iload_n hx hb dX7_notZero_4 rfl (lv_at hl 2 rfl) ?_
      refine lv_bipush (v := 8) hx hb dX7_notZero_5 (by decide) ?_
      refine lv_icmp_ge (tgt := 32) hx hb dX7_notZero_7 (by decide) (fun c_7 => ?_) (fun c_7 => ?_)
      · have h := h.1 c_7
        refine lv_iload_n hx hb dX7_notZero_32 rfl (lv_at hl 1 rfl) ?_
        exact W.iret (v := x1) hx hb hr (fun t ht hW => ⟨⟨x1, (), rfl, h, by rw [ht]; exact hP, va_K.moved hW.alike hK⟩, hS.F ht⟩) hS.2.2 dX7_notZero_33
      · have h := h.2 c_7
        refine lv_iload_n hx hb dX7_notZero_10 rfl (lv_at hl 1 rfl) ?_
        refine lv_aload_n hx hb dX7_notZero_11 rfl (lv_at hl 0 rfl) ?_
        refine lv_iload_n hx hb dX7_notZero_12 rfl (lv_at hl 2 rfl) ?_
        refine m_cVp (As := [.int x2]) (rest := [.int x1]) ⟨hx, hb, hml, hown, hts⟩ (met_isZero l D cI cB b x2  S _ h) (cwV 1 hts (lw_V q1518 q1520 qs78 q128 q1521) rfl rfl rfl cwd_isZero ⟨Nat.le_of_ble_eq_true rfl, Nat.le_of_ble_eq_true rfl⟩) hK hP hS rfl hl.1 rfl (Nat.le_of_ble_eq_true rfl) dX7_notZero_13 ⟨Nat.zero_le _, Nat.zero_le _⟩ (fun r_2 H locs h hP hS => ?_)
        refine lv_if_eq (tgt := 23) hx hb dX7_notZero_16 (by decide) (fun c_6 => ?_) (fun c_6 => ?_)
        · have h := h.1 c_6
          refine lv_iconst (v := 1) hx hb dX7_notZero_23 (by decide) ?_
          refine lv_iadd hx hb dX7_notZero_24 ?_
          refine lv_topi (fun x1_4 ex1_4 => ?_)
          have h := h x1_4 ex1_4
          refine lv_istore_n (lv' := [(1, .int x1_4), (0, .ref b), (2, .int x2)]) hx hb dX7_notZero_25 rfl hl (by decide) rfl (fun ls hl => ?_)
          exact J26 _ _  _ _ _ h hP hS (lv_sub hl [1, 0, 2] rfl)
        · have h := h.2 c_6
          refine lv_iconst (v := 0) hx hb dX7_notZero_19 (by decide) ?_
          refine lv_goto (tgt := 24) hx hb dX7_notZero_20 (by decide) ?_
          refine lv_iadd hx hb dX7_notZero_24 ?_
          refine lv_topi (fun x1_5 ex1_5 => ?_)
          have h := h x1_5 ex1_5
          refine lv_istore_n (lv' := [(1, .int x1_5), (0, .ref b), (2, .int x2)]) hx hb dX7_notZero_25 rfl hl (by decide) rfl (fun ls hl => ?_)
          exact J26 _ _  _ _ _ h hP hS (lv_sub hl [1, 0, 2] rfl)
  unfold wp_notZero at h
  refine lv_iconst (v := 0) hx hb dX7_notZero_0 (by decide) ?_
  refine lv_istore_n (lv' := [(1, .int 0), (0, .ref b)]) hx hb dX7_notZero_1 rfl hl (by decide) rfl (fun ls hl => ?_)
  refine lv_iconst (v := 0) hx hb dX7_notZero_2 (by decide) ?_
  refine lv_istore_n (lv' := [(2, .int 0), (1, .int 0), (0, .ref b)]) hx hb dX7_notZero_3 rfl hl (by decide) rfl (fun ls hl => ?_)
  exact L4 _ _  _ _ _ h hP hS (lv_sub hl [2, 1, 0] rfl)
def wp_about (p1 : Int32) (S : St) (post : Int32 → St → Prop) : Prop :=
  ∀ S_1 : St, S_1 = bw S 0 0 0 →
  ((¬ (S_1 0 14) = 0 →
    ((p1.toInt = 0 →
      wp_good (S_1 0 5) S_1 (fun r_2 S_3 =>
      post r_2 S_3)) ∧
     (p1.toInt = 1 →
      wp_good (S_1 0 6) S_1 (fun r_4 S_5 =>
      post r_4 S_5)) ∧
     (p1.toInt = 2 →
      wp_good (S_1 0 7) S_1 (fun r_6 S_7 =>
      post r_6 S_7)) ∧
     (p1.toInt = 3 →
      wp_good (S_1 0 8) S_1 (fun r_8 S_9 =>
      post r_8 S_9)) ∧
     (p1.toInt = 4 →
      wp_third  S_1 (fun r_10 =>
      wp_good r_10 S_1 (fun r_12 S_13 =>
      post r_12 S_13))) ∧
     (p1.toInt = 5 →
      wp_notZero  S_1 (fun r_14 =>
      wp_good r_14 S_1 (fun r_16 S_17 =>
      post r_16 S_17))) ∧
     (p1.toInt < 0 ∨ 5 < p1.toInt →
      wp_refused 1 S_1 (fun r_18 S_19 =>
      post r_18 S_19)))) ∧
   ((S_1 0 14) = 0 →
    wp_refused 1 S_1 (fun r_21 S_22 =>
    post r_21 S_22)))
set_option maxHeartbeats 4000000 in
theorem met_about (l : Launch) (D : va_G) (cI cB : ClassId) (b : Nat) (p1 : Int32)  (S : St) (post : Int32 → St → Prop) (h : wp_about p1 S post) : Met l yX7_about (ws_ yX7_about cX7_about 2 (some .int)) ({ frames := 4, cells := 0, slots := 0, locals := 88 } : Room) (mPc D cI cB b [.ref b, .int p1] S) (mQi D cI cB b post) 0 0 (mA b) := by
  refine Met.ofW (cc := cX7_about) (maxL := 2) (ret := (some .int)) (by decide) rfl ?_
  intro p e s m args below meth c s₁ B hml hv
  obtain ⟨rfl, hP, hK⟩ := hv
  have hx := B.exec
  have hb := B.bytes
  have hr := B.returns
  have hts := atoms_spec (ws := ws_ yX7_about cX7_about 2 (some .int)) B.pre
  have hts : ∀ w ∈ lw_all, w.before _ s = true := fun w h => hts w (List.mem_cons_of_mem _ h)
  have hown : s.vm.findClass RX7 = some m.cls := findClass_of_methodNamed B.named
  have hlocks := B.notSynchronized
  have hS : va_S (mA b) s.heap s.heap [] := va_S.rf
  have hl := lv_entry ([.ref b, .int p1]) (n := 2) (Nat.le_of_ble_eq_true rfl)
  rw [lg_entry_eq]
  generalize (lg_sl ([.ref b, .int p1]) ++ List.replicate (2 - (lg_sl ([.ref b, .int p1])).length) Slot.unset).toArray = ls at hl ⊢
  have hl : lv_has ls 2 [(0, .ref b), (1, .int p1)] := hl
  unfold wp_about at h
  refine lv_aload_n hx hb dX7_about_0 rfl (lv_at hl 0 rfl) ?_
  refine lv_iconst (v := 0) hx hb dX7_about_1 (by decide) ?_
  obtain ⟨S_1, eS_1⟩ : ∃ z : St, z = bw S 0 0 0 := ⟨_, rfl⟩
  have h := h S_1 eS_1
  refine m_put (S1 := S_1) (v := .int 0) (ty := .int) hx hb hts hown hK hP hS 0 (by decide) q1210 rfl rfl (tyX7_ok 0 (by decide)) rfl rfl (by rw [eS_1]; exact mset_0 b S 0) (by rw [eS_1]; exact bw_0) dX7_about_2 (fun H locs hP hS => ?_)
  refine lv_aload_n hx hb dX7_about_5 rfl (lv_at hl 0 rfl) ?_
  refine m_get (v := .int (S_1 0 14)) hx hb hts hown hK hP 14 (by decide) q1224 rfl rfl dX7_about_6 ?_
  refine lv_if_ne (tgt := 18) hx hb dX7_about_9 (by decide) (fun c_23 => ?_) (fun c_23 => ?_)
  · have h := h.1 c_23
    refine lv_iload_n hx hb dX7_about_18 rfl (lv_at hl 1 rfl) ?_
    obtain ⟨ht0, ht1, ht2, ht3, ht4, ht5, ht6⟩ := h
    by_cases c_20 : p1.toInt < 0 ∨ 5 < p1.toInt
    · have h := ht6 c_20
      refine lv_tableOut (tgt := 110) hx hb dX7_about_19 c_20 (by decide) ?_
      refine lv_aload_n hx hb dX7_about_110 rfl (lv_at hl 0 rfl) ?_
      refine lv_iconst (v := 1) hx hb dX7_about_111 (by decide) ?_
      refine m_cVi (As := [.int 1]) (rest := []) ⟨hx, hb, hml, hown, hts⟩ (met_refused l D cI cB b 1  S_1 _ h) (cwV 1 hts (lw_V q1382 q1384 qs58 q128 q1385) rfl rfl rfl cwd_refused ⟨Nat.le_of_ble_eq_true rfl, Nat.le_of_ble_eq_true rfl⟩) hK hP hS rfl hl.1 rfl (Nat.le_of_ble_eq_true rfl) dX7_about_112 ⟨Nat.zero_le _, Nat.zero_le _⟩ (fun r_18 S_19 H locs h hP hS => ?_)
      exact W.iret (v := r_18) hx hb hr (fun t ht hW => ⟨⟨r_18, S_19, rfl, h, by rw [ht]; exact hP, va_K.moved hW.alike hK⟩, hS.F ht⟩) hS.2.2 dX7_about_115
    have c_20x : p1.toInt = 0 ∨ p1.toInt = 1 ∨ p1.toInt = 2 ∨ p1.toInt = 3 ∨ p1.toInt = 4 ∨ p1.toInt = 5 := by omega
    rcases c_20x with c_20x | c_20x | c_20x | c_20x | c_20x | c_20x
    · have h := ht0 c_20x
      refine lv_tableIn (off := 37) (tgt := 56) hx hb dX7_about_19 (by omega) (by omega) (by rw [c_20x]; rfl) (by decide) ?_
      refine lv_aload_n hx hb dX7_about_56 rfl (lv_at hl 0 rfl) ?_
      refine lv_aload_n hx hb dX7_about_57 rfl (lv_at hl 0 rfl) ?_
      refine m_get (v := .int (S_1 0 5)) hx hb hts hown hK hP 5 (by decide) q1215 rfl rfl dX7_about_58 ?_
      refine m_cVi (As := [.int (S_1 0 5)]) (rest := []) ⟨hx, hb, hml, hown, hts⟩ (met_good l D cI cB b (S_1 0 5)  S_1 _ h) (cwV 1 hts (lw_V q1498 q1500 qs76 q128 q1501) rfl rfl rfl cwd_good ⟨Nat.le_of_ble_eq_true rfl, Nat.le_of_ble_eq_true rfl⟩) hK hP hS rfl hl.1 rfl (Nat.le_of_ble_eq_true rfl) dX7_about_61 ⟨Nat.zero_le _, Nat.zero_le _⟩ (fun r_2 S_3 H locs h hP hS => ?_)
      exact W.iret (v := r_2) hx hb hr (fun t ht hW => ⟨⟨r_2, S_3, rfl, h, by rw [ht]; exact hP, va_K.moved hW.alike hK⟩, hS.F ht⟩) hS.2.2 dX7_about_64
    · have h := ht1 c_20x
      refine lv_tableIn (off := 46) (tgt := 65) hx hb dX7_about_19 (by omega) (by omega) (by rw [c_20x]; rfl) (by decide) ?_
      refine lv_aload_n hx hb dX7_about_65 rfl (lv_at hl 0 rfl) ?_
      refine lv_aload_n hx hb dX7_about_66 rfl (lv_at hl 0 rfl) ?_
      refine m_get (v := .int (S_1 0 6)) hx hb hts hown hK hP 6 (by decide) q1216 rfl rfl dX7_about_67 ?_
      refine m_cVi (As := [.int (S_1 0 6)]) (rest := []) ⟨hx, hb, hml, hown, hts⟩ (met_good l D cI cB b (S_1 0 6)  S_1 _ h) (cwV 1 hts (lw_V q1498 q1500 qs76 q128 q1501) rfl rfl rfl cwd_good ⟨Nat.le_of_ble_eq_true rfl, Nat.le_of_ble_eq_true rfl⟩) hK hP hS rfl hl.1 rfl (Nat.le_of_ble_eq_true rfl) dX7_about_70 ⟨Nat.zero_le _, Nat.zero_le _⟩ (fun r_4 S_5 H locs h hP hS => ?_)
      exact W.iret (v := r_4) hx hb hr (fun t ht hW => ⟨⟨r_4, S_5, rfl, h, by rw [ht]; exact hP, va_K.moved hW.alike hK⟩, hS.F ht⟩) hS.2.2 dX7_about_73
    · have h := ht2 c_20x
      refine lv_tableIn (off := 55) (tgt := 74) hx hb dX7_about_19 (by omega) (by omega) (by rw [c_20x]; rfl) (by decide) ?_
      refine lv_aload_n hx hb dX7_about_74 rfl (lv_at hl 0 rfl) ?_
      refine lv_aload_n hx hb dX7_about_75 rfl (lv_at hl 0 rfl) ?_
      refine m_get (v := .int (S_1 0 7)) hx hb hts hown hK hP 7 (by decide) q1217 rfl rfl dX7_about_76 ?_
      refine m_cVi (As := [.int (S_1 0 7)]) (rest := []) ⟨hx, hb, hml, hown, hts⟩ (met_good l D cI cB b (S_1 0 7)  S_1 _ h) (cwV 1 hts (lw_V q1498 q1500 qs76 q128 q1501) rfl rfl rfl cwd_good ⟨Nat.le_of_ble_eq_true rfl, Nat.le_of_ble_eq_true rfl⟩) hK hP hS rfl hl.1 rfl (Nat.le_of_ble_eq_true rfl) dX7_about_79 ⟨Nat.zero_le _, Nat.zero_le _⟩ (fun r_6 S_7 H locs h hP hS => ?_)
      exact W.iret (v := r_6) hx hb hr (fun t ht hW => ⟨⟨r_6, S_7, rfl, h, by rw [ht]; exact hP, va_K.moved hW.alike hK⟩, hS.F ht⟩) hS.2.2 dX7_about_82
    · have h := ht3 c_20x
      refine lv_tableIn (off := 64) (tgt := 83) hx hb dX7_about_19 (by omega) (by omega) (by rw [c_20x]; rfl) (by decide) ?_
      refine lv_aload_n hx hb dX7_about_83 rfl (lv_at hl 0 rfl) ?_
      refine lv_aload_n hx hb dX7_about_84 rfl (lv_at hl 0 rfl) ?_
      refine m_get (v := .int (S_1 0 8)) hx hb hts hown hK hP 8 (by decide) q1218 rfl rfl dX7_about_85 ?_
      refine m_cVi (As := [.int (S_1 0 8)]) (rest := []) ⟨hx, hb, hml, hown, hts⟩ (met_good l D cI cB b (S_1 0 8)  S_1 _ h) (cwV 1 hts (lw_V q1498 q1500 qs76 q128 q1501) rfl rfl rfl cwd_good ⟨Nat.le_of_ble_eq_true rfl, Nat.le_of_ble_eq_true rfl⟩) hK hP hS rfl hl.1 rfl (Nat.le_of_ble_eq_true rfl) dX7_about_88 ⟨Nat.zero_le _, Nat.zero_le _⟩ (fun r_8 S_9 H locs h hP hS => ?_)
      exact W.iret (v := r_8) hx hb hr (fun t ht hW => ⟨⟨r_8, S_9, rfl, h, by rw [ht]; exact hP, va_K.moved hW.alike hK⟩, hS.F ht⟩) hS.2.2 dX7_about_91
    · have h := ht4 c_20x
      refine lv_tableIn (off := 73) (tgt := 92) hx hb dX7_about_19 (by omega) (by omega) (by rw [c_20x]; rfl) (by decide) ?_
      refine lv_aload_n hx hb dX7_about_92 rfl (lv_at hl 0 rfl) ?_
      refine lv_aload_n hx hb dX7_about_93 rfl (lv_at hl 0 rfl) ?_
      refine m_cVp (As := []) (rest := [.ref b]) ⟨hx, hb, hml, hown, hts⟩ (met_third l D cI cB b   S_1 _ h) (cwV 0 hts (lw_V q1494 q1496 qs75 q128 q1497) rfl rfl rfl cwd_third ⟨Nat.le_of_ble_eq_true rfl, Nat.le_of_ble_eq_true rfl⟩) hK hP hS rfl hl.1 rfl (Nat.le_of_ble_eq_true rfl) dX7_about_94 ⟨Nat.zero_le _, Nat.zero_le _⟩ (fun r_10 H locs h hP hS => ?_)
      refine m_cVi (As := [.int r_10]) (rest := []) ⟨hx, hb, hml, hown, hts⟩ (met_good l D cI cB b r_10  S_1 _ h) (cwV 1 hts (lw_V q1498 q1500 qs76 q128 q1501) rfl rfl rfl cwd_good ⟨Nat.le_of_ble_eq_true rfl, Nat.le_of_ble_eq_true rfl⟩) hK hP hS rfl hl.1 rfl (Nat.le_of_ble_eq_true rfl) dX7_about_97 ⟨Nat.zero_le _, Nat.zero_le _⟩ (fun r_12 S_13 H locs h hP hS => ?_)
      exact W.iret (v := r_12) hx hb hr (fun t ht hW => ⟨⟨r_12, S_13, rfl, h, by rw [ht]; exact hP, va_K.moved hW.alike hK⟩, hS.F ht⟩) hS.2.2 dX7_about_100
    · have h := ht5 c_20x
      refine lv_tableIn (off := 82) (tgt := 101) hx hb dX7_about_19 (by omega) (by omega) (by rw [c_20x]; rfl) (by decide) ?_
      refine lv_aload_n hx hb dX7_about_101 rfl (lv_at hl 0 rfl) ?_
      refine lv_aload_n hx hb dX7_about_102 rfl (lv_at hl 0 rfl) ?_
      refine m_cVp (As := []) (rest := [.ref b]) ⟨hx, hb, hml, hown, hts⟩ (met_notZero l D cI cB b   S_1 _ h) (cwV 0 hts (lw_V q1514 q1516 qs77 q128 q1517) rfl rfl rfl cwd_notZero ⟨Nat.le_of_ble_eq_true rfl, Nat.le_of_ble_eq_true rfl⟩) hK hP hS rfl hl.1 rfl (Nat.le_of_ble_eq_true rfl) dX7_about_103 ⟨Nat.zero_le _, Nat.zero_le _⟩ (fun r_14 H locs h hP hS => ?_)
      refine m_cVi (As := [.int r_14]) (rest := []) ⟨hx, hb, hml, hown, hts⟩ (met_good l D cI cB b r_14  S_1 _ h) (cwV 1 hts (lw_V q1498 q1500 qs76 q128 q1501) rfl rfl rfl cwd_good ⟨Nat.le_of_ble_eq_true rfl, Nat.le_of_ble_eq_true rfl⟩) hK hP hS rfl hl.1 rfl (Nat.le_of_ble_eq_true rfl) dX7_about_106 ⟨Nat.zero_le _, Nat.zero_le _⟩ (fun r_16 S_17 H locs h hP hS => ?_)
      exact W.iret (v := r_16) hx hb hr (fun t ht hW => ⟨⟨r_16, S_17, rfl, h, by rw [ht]; exact hP, va_K.moved hW.alike hK⟩, hS.F ht⟩) hS.2.2 dX7_about_109
  · have h := h.2 c_23
    refine lv_aload_n hx hb dX7_about_12 rfl (lv_at hl 0 rfl) ?_
    refine lv_iconst (v := 1) hx hb dX7_about_13 (by decide) ?_
    refine m_cVi (As := [.int 1]) (rest := []) ⟨hx, hb, hml, hown, hts⟩ (met_refused l D cI cB b 1  S_1 _ h) (cwV 1 hts (lw_V q1382 q1384 qs58 q128 q1385) rfl rfl rfl cwd_refused ⟨Nat.le_of_ble_eq_true rfl, Nat.le_of_ble_eq_true rfl⟩) hK hP hS rfl hl.1 rfl (Nat.le_of_ble_eq_true rfl) dX7_about_14 ⟨Nat.zero_le _, Nat.zero_le _⟩ (fun r_21 S_22 H locs h hP hS => ?_)
    exact W.iret (v := r_21) hx hb hr (fun t ht hW => ⟨⟨r_21, S_22, rfl, h, by rw [ht]; exact hP, va_K.moved hW.alike hK⟩, hS.F ht⟩) hS.2.2 dX7_about_17
def wp_isReg (p1 : Int32) (S : St) (post : Int32 → Prop) : Prop :=
  (((S 0 14) = 0 →
    post 0) ∧
   (¬ ((S 0 14) = 0) →
    wp_in p1 0 7 S (fun r_1 =>
    ((r_1 = 0 →
      post 0) ∧
     (¬ (r_1 = 0) →
      post 1)))))
set_option maxHeartbeats 4000000 in
theorem met_isReg (l : Launch) (D : va_G) (cI cB : ClassId) (b : Nat) (p1 : Int32)  (S : St) (post : Int32 → Prop) (h : wp_isReg p1 S post) : Met l yX7_isReg (ws_ yX7_isReg cX7_isReg 2 (some .boolean)) ({ frames := 1, cells := 0, slots := 0, locals := 22 } : Room) (mPc D cI cB b [.ref b, .int p1] S) (mQp D cI cB b S post) 0 0 (mA b) := by
  refine Met.ofW (cc := cX7_isReg) (maxL := 2) (ret := (some .boolean)) (by decide) rfl ?_
  intro p e s m args below meth c s₁ B hml hv
  obtain ⟨rfl, hP, hK⟩ := hv
  have hx := B.exec
  have hb := B.bytes
  have hr := B.returns
  have hts := atoms_spec (ws := ws_ yX7_isReg cX7_isReg 2 (some .boolean)) B.pre
  have hts : ∀ w ∈ lw_all, w.before _ s = true := fun w h => hts w (List.mem_cons_of_mem _ h)
  have hown : s.vm.findClass RX7 = some m.cls := findClass_of_methodNamed B.named
  have hlocks := B.notSynchronized
  have hS : va_S (mA b) s.heap s.heap [] := va_S.rf
  have hl := lv_entry ([.ref b, .int p1]) (n := 2) (Nat.le_of_ble_eq_true rfl)
  rw [lg_entry_eq]
  generalize (lg_sl ([.ref b, .int p1]) ++ List.replicate (2 - (lg_sl ([.ref b, .int p1])).length) Slot.unset).toArray = ls at hl ⊢
  have hl : lv_has ls 2 [(0, .ref b), (1, .int p1)] := hl
  unfold wp_isReg at h
  refine lv_aload_n hx hb dX7_isReg_0 rfl (lv_at hl 0 rfl) ?_
  refine m_get (v := .int (S 0 14)) hx hb hts hown hK hP 14 (by decide) q1224 rfl rfl dX7_isReg_1 ?_
  refine lv_if_eq (tgt := 21) hx hb dX7_isReg_4 (by decide) (fun c_4 => ?_) (fun c_4 => ?_)
  · have h := h.1 c_4
    refine lv_iconst (v := 0) hx hb dX7_isReg_21 (by decide) ?_
    exact W.zret (v := 0) hx hb hr rfl (fun t ht hW => ⟨⟨0, (), rfl, h, by rw [ht]; exact hP, va_K.moved hW.alike hK⟩, hS.F ht⟩) hS.2.2 dX7_isReg_22
  · have h := h.2 c_4
    refine lv_iload_n hx hb dX7_isReg_7 rfl (lv_at hl 1 rfl) ?_
    refine lv_iconst (v := 0) hx hb dX7_isReg_8 (by decide) ?_
    refine lv_bipush (v := 7) hx hb dX7_isReg_9 (by decide) ?_
    refine m_cSp (As := [.int p1, .int 0, .int 7]) (rest := []) ⟨hx, hb, hml, hown, hts⟩ (met_in l D cI cB b p1 0 7  S _ h) (va_cwS 3 hts (lw_S q1398 q1399 q128 q1400) rfl rfl rfl cwd_in ⟨Nat.le_of_ble_eq_true rfl, Nat.le_of_ble_eq_true rfl⟩) hK hP hS rfl hl.1 rfl (Nat.le_of_ble_eq_true rfl) dX7_isReg_11 ⟨Nat.zero_le _, Nat.zero_le _⟩ (fun r_1 H locs h hP hS => ?_)
    refine lv_if_eq (tgt := 21) hx hb dX7_isReg_14 (by decide) (fun c_3 => ?_) (fun c_3 => ?_)
    · have h := h.1 c_3
      refine lv_iconst (v := 0) hx hb dX7_isReg_21 (by decide) ?_
      exact W.zret (v := 0) hx hb hr rfl (fun t ht hW => ⟨⟨0, (), rfl, h, by rw [ht]; exact hP, va_K.moved hW.alike hK⟩, hS.F ht⟩) hS.2.2 dX7_isReg_22
    · have h := h.2 c_3
      refine lv_iconst (v := 1) hx hb dX7_isReg_17 (by decide) ?_
      refine lv_goto (tgt := 22) hx hb dX7_isReg_18 (by decide) ?_
      exact W.zret (v := 1) hx hb hr rfl (fun t ht hW => ⟨⟨1, (), rfl, h, by rw [ht]; exact hP, va_K.moved hW.alike hK⟩, hS.F ht⟩) hS.2.2 dX7_isReg_22
def wp_terms (p1 : Int32) (S : St) (post : Int32 → St → Prop) : Prop :=
  ∀ S_1 : St, S_1 = bw S 0 0 0 →
  wp_isReg p1 S_1 (fun r_2 =>
  ((r_2 = 0 →
    wp_refused 1 S_1 (fun r_4 S_5 =>
    post r_4 S_5)) ∧
   (¬ (r_2 = 0) →
    wp_termsOf p1 S_1 (fun r_6 =>
    wp_good r_6 S_1 (fun r_8 S_9 =>
    post r_8 S_9)))))
set_option maxHeartbeats 4000000 in
theorem met_terms (l : Launch) (D : va_G) (cI cB : ClassId) (b : Nat) (p1 : Int32)  (S : St) (post : Int32 → St → Prop) (h : wp_terms p1 S post) : Met l yX7_terms (ws_ yX7_terms cX7_terms 2 (some .int)) ({ frames := 2, cells := 0, slots := 0, locals := 45 } : Room) (mPc D cI cB b [.ref b, .int p1] S) (mQi D cI cB b post) 0 0 (mA b) := by
  refine Met.ofW (cc := cX7_terms) (maxL := 2) (ret := (some .int)) (by decide) rfl ?_
  intro p e s m args below meth c s₁ B hml hv
  obtain ⟨rfl, hP, hK⟩ := hv
  have hx := B.exec
  have hb := B.bytes
  have hr := B.returns
  have hts := atoms_spec (ws := ws_ yX7_terms cX7_terms 2 (some .int)) B.pre
  have hts : ∀ w ∈ lw_all, w.before _ s = true := fun w h => hts w (List.mem_cons_of_mem _ h)
  have hown : s.vm.findClass RX7 = some m.cls := findClass_of_methodNamed B.named
  have hlocks := B.notSynchronized
  have hS : va_S (mA b) s.heap s.heap [] := va_S.rf
  have hl := lv_entry ([.ref b, .int p1]) (n := 2) (Nat.le_of_ble_eq_true rfl)
  rw [lg_entry_eq]
  generalize (lg_sl ([.ref b, .int p1]) ++ List.replicate (2 - (lg_sl ([.ref b, .int p1])).length) Slot.unset).toArray = ls at hl ⊢
  have hl : lv_has ls 2 [(0, .ref b), (1, .int p1)] := hl
  unfold wp_terms at h
  refine lv_aload_n hx hb dX7_terms_0 rfl (lv_at hl 0 rfl) ?_
  refine lv_iconst (v := 0) hx hb dX7_terms_1 (by decide) ?_
  obtain ⟨S_1, eS_1⟩ : ∃ z : St, z = bw S 0 0 0 := ⟨_, rfl⟩
  have h := h S_1 eS_1
  refine m_put (S1 := S_1) (v := .int 0) (ty := .int) hx hb hts hown hK hP hS 0 (by decide) q1210 rfl rfl (tyX7_ok 0 (by decide)) rfl rfl (by rw [eS_1]; exact mset_0 b S 0) (by rw [eS_1]; exact bw_0) dX7_terms_2 (fun H locs hP hS => ?_)
  refine lv_aload_n hx hb dX7_terms_5 rfl (lv_at hl 0 rfl) ?_
  refine lv_iload_n hx hb dX7_terms_6 rfl (lv_at hl 1 rfl) ?_
  refine m_cVp (As := [.int p1]) (rest := []) ⟨hx, hb, hml, hown, hts⟩ (met_isReg l D cI cB b p1  S_1 _ h) (cwV 1 hts (lw_V q1534 q1536 qs81 q128 q1537) rfl rfl rfl cwd_isReg ⟨Nat.le_of_ble_eq_true rfl, Nat.le_of_ble_eq_true rfl⟩) hK hP hS rfl hl.1 rfl (Nat.le_of_ble_eq_true rfl) dX7_terms_7 ⟨Nat.zero_le _, Nat.zero_le _⟩ (fun r_2 H locs h hP hS => ?_)
  refine lv_if_eq (tgt := 25) hx hb dX7_terms_10 (by decide) (fun c_10 => ?_) (fun c_10 => ?_)
  · have h := h.1 c_10
    refine lv_aload_n hx hb dX7_terms_25 rfl (lv_at hl 0 rfl) ?_
    refine lv_iconst (v := 1) hx hb dX7_terms_26 (by decide) ?_
    refine m_cVi (As := [.int 1]) (rest := []) ⟨hx, hb, hml, hown, hts⟩ (met_refused l D cI cB b 1  S_1 _ h) (cwV 1 hts (lw_V q1382 q1384 qs58 q128 q1385) rfl rfl rfl cwd_refused ⟨Nat.le_of_ble_eq_true rfl, Nat.le_of_ble_eq_true rfl⟩) hK hP hS rfl hl.1 rfl (Nat.le_of_ble_eq_true rfl) dX7_terms_27 ⟨Nat.zero_le _, Nat.zero_le _⟩ (fun r_4 S_5 H locs h hP hS => ?_)
    exact W.iret (v := r_4) hx hb hr (fun t ht hW => ⟨⟨r_4, S_5, rfl, h, by rw [ht]; exact hP, va_K.moved hW.alike hK⟩, hS.F ht⟩) hS.2.2 dX7_terms_30
  · have h := h.2 c_10
    refine lv_aload_n hx hb dX7_terms_13 rfl (lv_at hl 0 rfl) ?_
    refine lv_aload_n hx hb dX7_terms_14 rfl (lv_at hl 0 rfl) ?_
    refine lv_iload_n hx hb dX7_terms_15 rfl (lv_at hl 1 rfl) ?_
    refine m_cVp (As := [.int p1]) (rest := [.ref b]) ⟨hx, hb, hml, hown, hts⟩ (met_termsOf l D cI cB b p1  S_1 _ h) (cwV 1 hts (lw_V q1522 q1524 qs79 q128 q1525) rfl rfl rfl cwd_termsOf ⟨Nat.le_of_ble_eq_true rfl, Nat.le_of_ble_eq_true rfl⟩) hK hP hS rfl hl.1 rfl (Nat.le_of_ble_eq_true rfl) dX7_terms_16 ⟨Nat.zero_le _, Nat.zero_le _⟩ (fun r_6 H locs h hP hS => ?_)
    refine m_cVi (As := [.int r_6]) (rest := []) ⟨hx, hb, hml, hown, hts⟩ (met_good l D cI cB b r_6  S_1 _ h) (cwV 1 hts (lw_V q1498 q1500 qs76 q128 q1501) rfl rfl rfl cwd_good ⟨Nat.le_of_ble_eq_true rfl, Nat.le_of_ble_eq_true rfl⟩) hK hP hS rfl hl.1 rfl (Nat.le_of_ble_eq_true rfl) dX7_terms_19 ⟨Nat.zero_le _, Nat.zero_le _⟩ (fun r_8 S_9 H locs h hP hS => ?_)
    refine lv_goto (tgt := 30) hx hb dX7_terms_22 (by decide) ?_
    exact W.iret (v := r_8) hx hb hr (fun t ht hW => ⟨⟨r_8, S_9, rfl, h, by rw [ht]; exact hP, va_K.moved hW.alike hK⟩, hS.F ht⟩) hS.2.2 dX7_terms_30
def wp_exponent (p1 : Int32) (p2 : Int32) (S : St) (post : Int32 → Prop) : Prop :=
  post ((jshr p1 (4 * p2)) &&& 15)
set_option maxHeartbeats 4000000 in
theorem met_exponent (l : Launch) (D : va_G) (cI cB : ClassId) (b : Nat) (p1 : Int32) (p2 : Int32)  (S : St) (post : Int32 → Prop) (h : wp_exponent p1 p2 S post) : Met l yX7_exponent (ws_ yX7_exponent cX7_exponent 2 (some .int)) ({ frames := 0, cells := 0, slots := 0, locals := 0 } : Room) (mPc D cI cB b [.int p1, .int p2] S) (mQp D cI cB b S post) 0 0 (mA b) := by
  refine Met.ofW (cc := cX7_exponent) (maxL := 2) (ret := (some .int)) (by decide) rfl ?_
  intro p e s m args below meth c s₁ B hml hv
  obtain ⟨rfl, hP, hK⟩ := hv
  have hx := B.exec
  have hb := B.bytes
  have hr := B.returns
  have hts := atoms_spec (ws := ws_ yX7_exponent cX7_exponent 2 (some .int)) B.pre
  have hts : ∀ w ∈ lw_all, w.before _ s = true := fun w h => hts w (List.mem_cons_of_mem _ h)
  have hown : s.vm.findClass RX7 = some m.cls := findClass_of_methodNamed B.named
  have hlocks := B.notSynchronized
  have hS : va_S (mA b) s.heap s.heap [] := va_S.rf
  have hl := lv_entry ([.int p1, .int p2]) (n := 2) (Nat.le_of_ble_eq_true rfl)
  rw [lg_entry_eq]
  generalize (lg_sl ([.int p1, .int p2]) ++ List.replicate (2 - (lg_sl ([.int p1, .int p2])).length) Slot.unset).toArray = ls at hl ⊢
  have hl : lv_has ls 2 [(0, .int p1), (1, .int p2)] := hl
  unfold wp_exponent at h
  refine lv_iload_n hx hb dX7_exponent_0 rfl (lv_at hl 0 rfl) ?_
  refine lv_iconst (v := 4) hx hb dX7_exponent_1 (by decide) ?_
  refine lv_iload_n hx hb dX7_exponent_2 rfl (lv_at hl 1 rfl) ?_
  refine lv_imul hx hb dX7_exponent_3 ?_
  refine m_ishr hx hb dX7_exponent_4 ?_
  refine lv_bipush (v := 15) hx hb dX7_exponent_5 (by decide) ?_
  refine lv_iand hx hb dX7_exponent_7 ?_
  exact W.iret (v := ((jshr p1 (4 * p2)) &&& 15)) hx hb hr (fun t ht hW => ⟨⟨((jshr p1 (4 * p2)) &&& 15), (), rfl, h, by rw [ht]; exact hP, va_K.moved hW.alike hK⟩, hS.F ht⟩) hS.2.2 dX7_exponent_8
def wp_degreeOf (p1 : Int32) (S : St) (post : Int32 → Prop) : Prop :=
  wp_exponent p1 0 S (fun r_1 =>
  wp_exponent p1 1 S (fun r_3 =>
  wp_exponent p1 2 S (fun r_5 =>
  post ((r_1 + r_3) + r_5))))
set_option maxHeartbeats 4000000 in
theorem met_degreeOf (l : Launch) (D : va_G) (cI cB : ClassId) (b : Nat) (p1 : Int32)  (S : St) (post : Int32 → Prop) (h : wp_degreeOf p1 S post) : Met l yX7_degreeOf (ws_ yX7_degreeOf cX7_degreeOf 1 (some .int)) ({ frames := 1, cells := 0, slots := 0, locals := 21 } : Room) (mPc D cI cB b [.int p1] S) (mQp D cI cB b S post) 0 0 (mA b) := by
  refine Met.ofW (cc := cX7_degreeOf) (maxL := 1) (ret := (some .int)) (by decide) rfl ?_
  intro p e s m args below meth c s₁ B hml hv
  obtain ⟨rfl, hP, hK⟩ := hv
  have hx := B.exec
  have hb := B.bytes
  have hr := B.returns
  have hts := atoms_spec (ws := ws_ yX7_degreeOf cX7_degreeOf 1 (some .int)) B.pre
  have hts : ∀ w ∈ lw_all, w.before _ s = true := fun w h => hts w (List.mem_cons_of_mem _ h)
  have hown : s.vm.findClass RX7 = some m.cls := findClass_of_methodNamed B.named
  have hlocks := B.notSynchronized
  have hS : va_S (mA b) s.heap s.heap [] := va_S.rf
  have hl := lv_entry ([.int p1]) (n := 1) (Nat.le_of_ble_eq_true rfl)
  rw [lg_entry_eq]
  generalize (lg_sl ([.int p1]) ++ List.replicate (1 - (lg_sl ([.int p1])).length) Slot.unset).toArray = ls at hl ⊢
  have hl : lv_has ls 1 [(0, .int p1)] := hl
  unfold wp_degreeOf at h
  refine lv_iload_n hx hb dX7_degreeOf_0 rfl (lv_at hl 0 rfl) ?_
  refine lv_iconst (v := 0) hx hb dX7_degreeOf_1 (by decide) ?_
  refine m_cSp (As := [.int p1, .int 0]) (rest := []) ⟨hx, hb, hml, hown, hts⟩ (met_exponent l D cI cB b p1 0  S _ h) (va_cwS 2 hts (lw_S q1545 q1546 q128 q1547) rfl rfl rfl cwd_exponent ⟨Nat.le_of_ble_eq_true rfl, Nat.le_of_ble_eq_true rfl⟩) hK hP hS rfl hl.1 rfl (Nat.le_of_ble_eq_true rfl) dX7_degreeOf_2 ⟨Nat.zero_le _, Nat.zero_le _⟩ (fun r_1 H locs h hP hS => ?_)
  refine lv_iload_n hx hb dX7_degreeOf_5 rfl (lv_at hl 0 rfl) ?_
  refine lv_iconst (v := 1) hx hb dX7_degreeOf_6 (by decide) ?_
  refine m_cSp (As := [.int p1, .int 1]) (rest := [.int r_1]) ⟨hx, hb, hml, hown, hts⟩ (met_exponent l D cI cB b p1 1  S _ h) (va_cwS 2 hts (lw_S q1545 q1546 q128 q1547) rfl rfl rfl cwd_exponent ⟨Nat.le_of_ble_eq_true rfl, Nat.le_of_ble_eq_true rfl⟩) hK hP hS rfl hl.1 rfl (Nat.le_of_ble_eq_true rfl) dX7_degreeOf_7 ⟨Nat.zero_le _, Nat.zero_le _⟩ (fun r_3 H locs h hP hS => ?_)
  refine lv_iadd hx hb dX7_degreeOf_10 ?_
  refine lv_iload_n hx hb dX7_degreeOf_11 rfl (lv_at hl 0 rfl) ?_
  refine lv_iconst (v := 2) hx hb dX7_degreeOf_12 (by decide) ?_
  refine m_cSp (As := [.int p1, .int 2]) (rest := [.int (r_1 + r_3)]) ⟨hx, hb, hml, hown, hts⟩ (met_exponent l D cI cB b p1 2  S _ h) (va_cwS 2 hts (lw_S q1545 q1546 q128 q1547) rfl rfl rfl cwd_exponent ⟨Nat.le_of_ble_eq_true rfl, Nat.le_of_ble_eq_true rfl⟩) hK hP hS rfl hl.1 rfl (Nat.le_of_ble_eq_true rfl) dX7_degreeOf_13 ⟨Nat.zero_le _, Nat.zero_le _⟩ (fun r_5 H locs h hP hS => ?_)
  refine lv_iadd hx hb dX7_degreeOf_16 ?_
  exact W.iret (v := ((r_1 + r_3) + r_5)) hx hb hr (fun t ht hW => ⟨⟨((r_1 + r_3) + r_5), (), rfl, h, by rw [ht]; exact hP, va_K.moved hW.alike hK⟩, hS.F ht⟩) hS.2.2 dX7_degreeOf_17
def wp_term_j37 (p1 : Int32) (p2 : Int32) (p3 : Int32) (post : Int32 → St → Prop)  (S : St) : Prop :=
    wp_refused 1 S (fun r_1 S_2 =>
    post r_1 S_2)
def wp_term_j94 (p1 : Int32) (p2 : Int32) (p3 : Int32) (post : Int32 → St → Prop) (R49 : Int32 → Int32 → Prop) (x4 : Int32) (x5 : Int32) (S : St) : Prop :=
        ∀ x4_3 : Int32, x4_3 = x4 + 1 →
        R49 x4_3 x5
def wp_term_j69 (p1 : Int32) (p2 : Int32) (p3 : Int32) (post : Int32 → St → Prop) (R49 : Int32 → Int32 → Prop) (x4 : Int32) (x5 : Int32) (S : St) : Prop :=
        ∃ j_4 : Nat, j_4 < 4096 ∧ x4 = nI j_4 ∧
        wp_coef p1 (S 4 j_4) S (fun r_5 =>
        ((r_5 = 0 →
          ∀ x5_7 : Int32, x5_7 = (x5 - 0) →
          wp_term_j94 p1 p2 p3 post R49 x4 x5_7 S) ∧
         (¬ (r_5 = 0) →
          ∀ x5_8 : Int32, x5_8 = (x5 - 1) →
          wp_term_j94 p1 p2 p3 post R49 x4 x5_8 S)))
def wp_term_b49 (p1 : Int32) (p2 : Int32) (p3 : Int32) (post : Int32 → St → Prop) (R49 : Int32 → Int32 → Prop)  (x4 : Int32) (x5 : Int32) (S : St) : Prop :=
      ((0 < x5 →
        wp_term_j69 p1 p2 p3 post R49 x4 x5 S) ∧
       (¬ (0 < x5) →
        ∃ j_10 : Nat, j_10 < 4096 ∧ x4 = nI j_10 ∧
        wp_coef p1 (S 4 j_10) S (fun r_11 =>
        ((¬ r_11 = 0 →
          ∃ j_13 : Nat, j_13 < 4096 ∧ x4 = nI j_13 ∧
          ((¬ p3 = 0 →
            ((¬ p3 = 4 →
              wp_exponent (S 4 j_13) (p3 - 1) S (fun r_14 =>
              wp_good r_14 S (fun r_16 S_17 =>
              post r_16 S_17))) ∧
             (p3 = 4 →
              wp_degreeOf (S 4 j_13) S (fun r_18 =>
              wp_good r_18 S (fun r_20 S_21 =>
              post r_20 S_21))))) ∧
           (p3 = 0 →
            wp_coef p1 (S 4 j_13) S (fun r_23 =>
            wp_good r_23 S (fun r_25 S_26 =>
            post r_25 S_26))))) ∧
         (r_11 = 0 →
          wp_term_j69 p1 p2 p3 post R49 x4 x5 S)))))
def wp_term_l49 (p1 : Int32) (p2 : Int32) (p3 : Int32) (post : Int32 → St → Prop)  (x4 : Int32) (x5 : Int32) (S : St) : Prop := wLoop (fun (R : (Int32 × Int32) → Prop) (v : Int32 × Int32) => wp_term_b49 p1 p2 p3 post (fun x4 x5 => R (x4, x5))  v.1 v.2 S) (x4, x5)
def wp_term (p1 : Int32) (p2 : Int32) (p3 : Int32) (S : St) (post : Int32 → St → Prop) : Prop :=
  ∀ S_30 : St, S_30 = bw S 0 0 0 →
  wp_isReg p1 S_30 (fun r_31 =>
  ((r_31 = 0 →
    wp_term_j37 p1 p2 p3 post  S_30) ∧
   (¬ (r_31 = 0) →
    wp_termsOf p1 S_30 (fun r_33 =>
    wp_in p2 0 (r_33 - 1) S_30 (fun r_35 =>
    ((r_35 = 0 →
      wp_term_j37 p1 p2 p3 post  S_30) ∧
     (¬ (r_35 = 0) →
      wp_in p3 0 4 S_30 (fun r_37 =>
      ((¬ r_37 = 0 →
        wp_term_l49 p1 p2 p3 post 0 p2 S_30) ∧
       (r_37 = 0 →
        wp_term_j37 p1 p2 p3 post  S_30))))))))))
set_option maxHeartbeats 4000000 in
theorem met_term (l : Launch) (D : va_G) (cI cB : ClassId) (b : Nat) (p1 : Int32) (p2 : Int32) (p3 : Int32)  (S : St) (post : Int32 → St → Prop) (h : wp_term p1 p2 p3 S post) : Met l yX7_term (ws_ yX7_term cX7_term 7 (some .int)) ({ frames := 2, cells := 0, slots := 0, locals := 45 } : Room) (mPc D cI cB b [.ref b, .int p1, .int p2, .int p3] S) (mQi D cI cB b post) 0 0 (mA b) := by
  refine Met.ofW (cc := cX7_term) (maxL := 7) (ret := (some .int)) (by decide) rfl ?_
  intro p e s m args below meth c s₁ B hml hv
  obtain ⟨rfl, hP, hK⟩ := hv
  have hx := B.exec
  have hb := B.bytes
  have hr := B.returns
  have hts := atoms_spec (ws := ws_ yX7_term cX7_term 7 (some .int)) B.pre
  have hts : ∀ w ∈ lw_all, w.before _ s = true := fun w h => hts w (List.mem_cons_of_mem _ h)
  have hown : s.vm.findClass RX7 = some m.cls := findClass_of_methodNamed B.named
  have hlocks := B.notSynchronized
  have hS : va_S (mA b) s.heap s.heap [] := va_S.rf
  have hl := lv_entry ([.ref b, .int p1, .int p2, .int p3]) (n := 7) (Nat.le_of_ble_eq_true rfl)
  rw [lg_entry_eq]
  generalize (lg_sl ([.ref b, .int p1, .int p2, .int p3]) ++ List.replicate (7 - (lg_sl ([.ref b, .int p1, .int p2, .int p3])).length) Slot.unset).toArray = ls at hl ⊢
  have hl : lv_has ls 7 [(0, .ref b), (1, .int p1), (2, .int p2), (3, .int p3)] := hl
  have J37 : ∀  (S : St) (H : Heap) (locs : List Loc) (ls : Array Slot), wp_term_j37 p1 p2 p3 post  S → mW D cI cB b S H → va_S (mA b) s.heap H locs → lv_has ls 7 [(0, .ref b)] → W p l e (headSpec (ws_ yX7_term cX7_term 7 (some .int)) ({ frames := 2, cells := 0, slots := 0, locals := 45 } : Room)).room s m ([.ref b, .int p1, .int p2, .int p3] : List Value).toArray below meth c H locs 0 0 (MQ below (mQi D cI cB b post) ([.ref b, .int p1, .int p2, .int p3] : List Value).toArray s 0 0 (mA b)) (F0 m 37 ls []) := by
    intro  S H locs ls h hP hS hl
    unfold wp_term_j37 at h
    refine lv_aload_n hx hb dX7_term_37 rfl (lv_at hl 0 rfl) ?_
    refine lv_iconst (v := 1) hx hb dX7_term_38 (by decide) ?_
    refine m_cVi (As := [.int 1]) (rest := []) ⟨hx, hb, hml, hown, hts⟩ (met_refused l D cI cB b 1  S _ h) (cwV 1 hts (lw_V q1382 q1384 qs58 q128 q1385) rfl rfl rfl cwd_refused ⟨Nat.le_of_ble_eq_true rfl, Nat.le_of_ble_eq_true rfl⟩) hK hP hS rfl hl.1 rfl (Nat.le_of_ble_eq_true rfl) dX7_term_39 ⟨Nat.zero_le _, Nat.zero_le _⟩ (fun r_1 S_2 H locs h hP hS => ?_)
    exact W.iret (v := r_1) hx hb hr (fun t ht hW => ⟨⟨r_1, S_2, rfl, h, by rw [ht]; exact hP, va_K.moved hW.alike hK⟩, hS.F ht⟩) hS.2.2 dX7_term_42
  have L49 : ∀  (x4 : Int32) (x5 : Int32) (S : St) (H : Heap) (locs : List Loc) (ls : Array Slot), wp_term_l49 p1 p2 p3 post  x4 x5 S → mW D cI cB b S H → va_S (mA b) s.heap H locs → lv_has ls 7 [(0, .ref b), (1, .int p1), (3, .int p3), (4, .int x4), (5, .int x5)] → W p l e (headSpec (ws_ yX7_term cX7_term 7 (some .int)) ({ frames := 2, cells := 0, slots := 0, locals := 45 } : Room)).room s m ([.ref b, .int p1, .int p2, .int p3] : List Value).toArray below meth c H locs 0 0 (MQ below (mQi D cI cB b post) ([.ref b, .int p1, .int p2, .int p3] : List Value).toArray s 0 0 (mA b)) (F0 m 49 ls []) := by
    intro  x4 x5 S H locs ls h hP hS hl
    obtain ⟨I49, n49, hI, hstep49⟩ := h
    induction n49 using Nat.strongRecOn generalizing x4 x5 H locs ls with
    | ind n49 ih49 =>
      have h : wp_term_b49 p1 p2 p3 post (fun x4 x5 => ∃ mm, mm < n49 ∧ I49 mm (x4, x5))  x4 x5 S := hstep49 n49 _ hI
      clear hI
      have J94 : ∀ (x4 : Int32) (x5 : Int32) (H : Heap) (locs : List Loc) (ls : Array Slot), wp_term_j94 p1 p2 p3 post (fun x4 x5 => ∃ mm, mm < n49 ∧ I49 mm (x4, x5)) x4 x5 S → mW D cI cB b S H → va_S (mA b) s.heap H locs → lv_has ls 7 [(0, .ref b), (1, .int p1), (3, .int p3), (4, .int x4), (5, .int x5)] → W p l e (headSpec (ws_ yX7_term cX7_term 7 (some .int)) ({ frames := 2, cells := 0, slots := 0, locals := 45 } : Room)).room s m ([.ref b, .int p1, .int p2, .int p3] : List Value).toArray below meth c H locs 0 0 (MQ below (mQi D cI cB b post) ([.ref b, .int p1, .int p2, .int p3] : List Value).toArray s 0 0 (mA b)) (F0 m 94 ls []) := by
        intro x4 x5  H locs ls h hP hS hl
        unfold wp_term_j94 at h
        obtain ⟨x4_3, ex4_3⟩ : ∃ y : Int32, y = x4 + 1 := ⟨_, rfl⟩
        have h := h x4_3 ex4_3
        refine lv_iinc (v := x4_3) (lv' := [(4, .int x4_3), (0, .ref b), (1, .int p1), (3, .int p3), (5, .int x5)]) hx hb dX7_term_94 hl (k := 3) rfl (by rw [ex4_3]; rfl) (by decide) rfl (fun ls hl => ?_)
        refine lv_goto (tgt := 49) hx hb dX7_term_97 (by decide) ?_
        obtain ⟨mm, hmm, h⟩ := h
        exact ih49 mm hmm _ _ _ _ _ hP hS (lv_sub hl [1, 2, 3, 0, 4] rfl) h
      have J69 : ∀ (x4 : Int32) (x5 : Int32) (H : Heap) (locs : List Loc) (ls : Array Slot), wp_term_j69 p1 p2 p3 post (fun x4 x5 => ∃ mm, mm < n49 ∧ I49 mm (x4, x5)) x4 x5 S → mW D cI cB b S H → va_S (mA b) s.heap H locs → lv_has ls 7 [(0, .ref b), (1, .int p1), (3, .int p3), (4, .int x4), (5, .int x5)] → W p l e (headSpec (ws_ yX7_term cX7_term 7 (some .int)) ({ frames := 2, cells := 0, slots := 0, locals := 45 } : Room)).room s m ([.ref b, .int p1, .int p2, .int p3] : List Value).toArray below meth c H locs 0 0 (MQ below (mQi D cI cB b post) ([.ref b, .int p1, .int p2, .int p3] : List Value).toArray s 0 0 (mA b)) (F0 m 69 ls []) := by
        intro x4 x5  H locs ls h hP hS hl
        unfold wp_term_j69 at h
        refine lv_iload hx hb dX7_term_69 (lv_at hl 4 rfl) ?_
        refine lv_aload_n hx hb dX7_term_71 rfl (lv_at hl 0 rfl) ?_
        refine lv_iload_n hx hb dX7_term_72 rfl (lv_at hl 1 rfl) ?_
        refine lv_aload_n hx hb dX7_term_73 rfl (lv_at hl 0 rfl) ?_
        refine m_get (v := .ref (b + 4)) hx hb hts hown hK hP 24 (by decide) q1234 rfl rfl dX7_term_74 ?_
        refine lv_iload hx hb dX7_term_77 (lv_at hl 3 rfl) ?_
        obtain ⟨j_4, hj_4, ej_4, h⟩ := h
        refine m_iald hx hb hK hP (k := 4) mok_4 ej_4 hj_4 dX7_term_79 ?_
        refine m_cVp (As := [.int p1, .int (S 4 j_4)]) (rest := [.int x5]) ⟨hx, hb, hml, hown, hts⟩ (met_coef l D cI cB b p1 (S 4 j_4)  S _ h) (cwV 2 hts (lw_V q1526 q1528 qs80 q128 q1529) rfl rfl rfl cwd_coef ⟨Nat.le_of_ble_eq_true rfl, Nat.le_of_ble_eq_true rfl⟩) hK hP hS rfl hl.1 rfl (Nat.le_of_ble_eq_true rfl) dX7_term_80 ⟨Nat.zero_le _, Nat.zero_le _⟩ (fun r_5 H locs h hP hS => ?_)
        refine lv_if_eq (tgt := 90) hx hb dX7_term_83 (by decide) (fun c_9 => ?_) (fun c_9 => ?_)
        · have h := h.1 c_9
          refine lv_iconst (v := 0) hx hb dX7_term_90 (by decide) ?_
          refine lv_isub hx hb dX7_term_91 ?_
          refine lv_topi (fun x5_7 ex5_7 => ?_)
          have h := h x5_7 ex5_7
          refine lv_istore (lv' := [(5, .int x5_7), (0, .ref b), (1, .int p1), (3, .int p3), (4, .int x4)]) hx hb dX7_term_92 hl (by decide) rfl (fun ls hl => ?_)
          exact J94 _ _  _ _ _ h hP hS (lv_sub hl [1, 2, 3, 4, 0] rfl)
        · have h := h.2 c_9
          refine lv_iconst (v := 1) hx hb dX7_term_86 (by decide) ?_
          refine lv_goto (tgt := 91) hx hb dX7_term_87 (by decide) ?_
          refine lv_isub hx hb dX7_term_91 ?_
          refine lv_topi (fun x5_8 ex5_8 => ?_)
          have h := h x5_8 ex5_8
          refine lv_istore (lv' := [(5, .int x5_8), (0, .ref b), (1, .int p1), (3, .int p3), (4, .int x4)]) hx hb dX7_term_92 hl (by decide) rfl (fun ls hl => ?_)
          exact J94 _ _  _ _ _ h hP hS (lv_sub hl [1, 2, 3, 4, 0] rfl)
      unfold wp_term_b49 at h
      refine lv_iload hx hb dX7_term_49 (lv_at hl 4 rfl) ?_
      refine lv_if_gt (tgt := 69) hx hb dX7_term_51 (by decide) (fun c_29 => ?_) (fun c_29 => ?_)
      · have h := h.1 c_29
        exact J69 _ _  _ _ _ h hP hS (lv_sub hl [0, 1, 2, 3, 4] rfl)
      · have h := h.2 c_29
        refine lv_aload_n hx hb dX7_term_54 rfl (lv_at hl 0 rfl) ?_
        refine lv_iload_n hx hb dX7_term_55 rfl (lv_at hl 1 rfl) ?_
        refine lv_aload_n hx hb dX7_term_56 rfl (lv_at hl 0 rfl) ?_
        refine m_get (v := .ref (b + 4)) hx hb hts hown hK hP 24 (by decide) q1234 rfl rfl dX7_term_57 ?_
        refine lv_iload hx hb dX7_term_60 (lv_at hl 3 rfl) ?_
        obtain ⟨j_10, hj_10, ej_10, h⟩ := h
        refine m_iald hx hb hK hP (k := 4) mok_4 ej_10 hj_10 dX7_term_62 ?_
        refine m_cVp (As := [.int p1, .int (S 4 j_10)]) (rest := []) ⟨hx, hb, hml, hown, hts⟩ (met_coef l D cI cB b p1 (S 4 j_10)  S _ h) (cwV 2 hts (lw_V q1526 q1528 qs80 q128 q1529) rfl rfl rfl cwd_coef ⟨Nat.le_of_ble_eq_true rfl, Nat.le_of_ble_eq_true rfl⟩) hK hP hS rfl hl.1 rfl (Nat.le_of_ble_eq_true rfl) dX7_term_63 ⟨Nat.zero_le _, Nat.zero_le _⟩ (fun r_11 H locs h hP hS => ?_)
        refine lv_if_ne (tgt := 100) hx hb dX7_term_66 (by decide) (fun c_28 => ?_) (fun c_28 => ?_)
        · have h := h.1 c_28
          refine lv_aload_n hx hb dX7_term_100 rfl (lv_at hl 0 rfl) ?_
          refine m_get (v := .ref (b + 4)) hx hb hts hown hK hP 24 (by decide) q1234 rfl rfl dX7_term_101 ?_
          refine lv_iload hx hb dX7_term_104 (lv_at hl 3 rfl) ?_
          obtain ⟨j_13, hj_13, ej_13, h⟩ := h
          refine m_iald hx hb hK hP (k := 4) mok_4 ej_13 hj_13 dX7_term_106 ?_
          refine lv_istore (lv' := [(6, .int (S 4 j_13)), (0, .ref b), (1, .int p1), (3, .int p3), (4, .int x4), (5, .int x5)]) hx hb dX7_term_107 hl (by decide) rfl (fun ls hl => ?_)
          refine lv_aload_n hx hb dX7_term_109 rfl (lv_at hl 1 rfl) ?_
          refine lv_iload_n hx hb dX7_term_110 rfl (lv_at hl 3 rfl) ?_
          refine lv_if_ne (tgt := 124) hx hb dX7_term_111 (by decide) (fun c_27 => ?_) (fun c_27 => ?_)
          · have h := h.1 c_27
            refine lv_iload_n hx hb dX7_term_124 rfl (lv_at hl 3 rfl) ?_
            refine lv_iconst (v := 4) hx hb dX7_term_125 (by decide) ?_
            refine lv_icmp_ne (tgt := 137) hx hb dX7_term_126 (by decide) (fun c_22 => ?_) (fun c_22 => ?_)
            · have h := h.1 c_22
              refine lv_iload hx hb dX7_term_137 (lv_at hl 0 rfl) ?_
              refine lv_iload_n hx hb dX7_term_139 rfl (lv_at hl 3 rfl) ?_
              refine lv_iconst (v := 1) hx hb dX7_term_140 (by decide) ?_
              refine lv_isub hx hb dX7_term_141 ?_
              refine m_cSp (As := [.int (S 4 j_13), .int (p3 - 1)]) (rest := [.ref b]) ⟨hx, hb, hml, hown, hts⟩ (met_exponent l D cI cB b (S 4 j_13) (p3 - 1)  S _ h) (va_cwS 2 hts (lw_S q1545 q1546 q128 q1547) rfl rfl rfl cwd_exponent ⟨Nat.le_of_ble_eq_true rfl, Nat.le_of_ble_eq_true rfl⟩) hK hP hS rfl hl.1 rfl (Nat.le_of_ble_eq_true rfl) dX7_term_142 ⟨Nat.zero_le _, Nat.zero_le _⟩ (fun r_14 H locs h hP hS => ?_)
              refine m_cVi (As := [.int r_14]) (rest := []) ⟨hx, hb, hml, hown, hts⟩ (met_good l D cI cB b r_14  S _ h) (cwV 1 hts (lw_V q1498 q1500 qs76 q128 q1501) rfl rfl rfl cwd_good ⟨Nat.le_of_ble_eq_true rfl, Nat.le_of_ble_eq_true rfl⟩) hK hP hS rfl hl.1 rfl (Nat.le_of_ble_eq_true rfl) dX7_term_145 ⟨Nat.zero_le _, Nat.zero_le _⟩ (fun r_16 S_17 H locs h hP hS => ?_)
              exact W.iret (v := r_16) hx hb hr (fun t ht hW => ⟨⟨r_16, S_17, rfl, h, by rw [ht]; exact hP, va_K.moved hW.alike hK⟩, hS.F ht⟩) hS.2.2 dX7_term_148
            · have h := h.2 c_22
              refine lv_iload hx hb dX7_term_129 (lv_at hl 0 rfl) ?_
              refine m_cSp (As := [.int (S 4 j_13)]) (rest := [.ref b]) ⟨hx, hb, hml, hown, hts⟩ (met_degreeOf l D cI cB b (S 4 j_13)  S _ h) (va_cwS 1 hts (lw_S q1542 q1543 q128 q1544) rfl rfl rfl cwd_degreeOf ⟨Nat.le_of_ble_eq_true rfl, Nat.le_of_ble_eq_true rfl⟩) hK hP hS rfl hl.1 rfl (Nat.le_of_ble_eq_true rfl) dX7_term_131 ⟨Nat.zero_le _, Nat.zero_le _⟩ (fun r_18 H locs h hP hS => ?_)
              refine lv_goto (tgt := 145) hx hb dX7_term_134 (by decide) ?_
              refine m_cVi (As := [.int r_18]) (rest := []) ⟨hx, hb, hml, hown, hts⟩ (met_good l D cI cB b r_18  S _ h) (cwV 1 hts (lw_V q1498 q1500 qs76 q128 q1501) rfl rfl rfl cwd_good ⟨Nat.le_of_ble_eq_true rfl, Nat.le_of_ble_eq_true rfl⟩) hK hP hS rfl hl.1 rfl (Nat.le_of_ble_eq_true rfl) dX7_term_145 ⟨Nat.zero_le _, Nat.zero_le _⟩ (fun r_20 S_21 H locs h hP hS => ?_)
              exact W.iret (v := r_20) hx hb hr (fun t ht hW => ⟨⟨r_20, S_21, rfl, h, by rw [ht]; exact hP, va_K.moved hW.alike hK⟩, hS.F ht⟩) hS.2.2 dX7_term_148
          · have h := h.2 c_27
            refine lv_aload_n hx hb dX7_term_114 rfl (lv_at hl 1 rfl) ?_
            refine lv_iload_n hx hb dX7_term_115 rfl (lv_at hl 2 rfl) ?_
            refine lv_iload hx hb dX7_term_116 (lv_at hl 0 rfl) ?_
            refine m_cVp (As := [.int p1, .int (S 4 j_13)]) (rest := [.ref b]) ⟨hx, hb, hml, hown, hts⟩ (met_coef l D cI cB b p1 (S 4 j_13)  S _ h) (cwV 2 hts (lw_V q1526 q1528 qs80 q128 q1529) rfl rfl rfl cwd_coef ⟨Nat.le_of_ble_eq_true rfl, Nat.le_of_ble_eq_true rfl⟩) hK hP hS rfl hl.1 rfl (Nat.le_of_ble_eq_true rfl) dX7_term_118 ⟨Nat.zero_le _, Nat.zero_le _⟩ (fun r_23 H locs h hP hS => ?_)
            refine lv_goto (tgt := 145) hx hb dX7_term_121 (by decide) ?_
            refine m_cVi (As := [.int r_23]) (rest := []) ⟨hx, hb, hml, hown, hts⟩ (met_good l D cI cB b r_23  S _ h) (cwV 1 hts (lw_V q1498 q1500 qs76 q128 q1501) rfl rfl rfl cwd_good ⟨Nat.le_of_ble_eq_true rfl, Nat.le_of_ble_eq_true rfl⟩) hK hP hS rfl hl.1 rfl (Nat.le_of_ble_eq_true rfl) dX7_term_145 ⟨Nat.zero_le _, Nat.zero_le _⟩ (fun r_25 S_26 H locs h hP hS => ?_)
            exact W.iret (v := r_25) hx hb hr (fun t ht hW => ⟨⟨r_25, S_26, rfl, h, by rw [ht]; exact hP, va_K.moved hW.alike hK⟩, hS.F ht⟩) hS.2.2 dX7_term_148
        · have h := h.2 c_28
          exact J69 _ _  _ _ _ h hP hS (lv_sub hl [0, 1, 2, 3, 4] rfl)
  unfold wp_term at h
  refine lv_aload_n hx hb dX7_term_0 rfl (lv_at hl 0 rfl) ?_
  refine lv_iconst (v := 0) hx hb dX7_term_1 (by decide) ?_
  obtain ⟨S_30, eS_30⟩ : ∃ z : St, z = bw S 0 0 0 := ⟨_, rfl⟩
  have h := h S_30 eS_30
  refine m_put (S1 := S_30) (v := .int 0) (ty := .int) hx hb hts hown hK hP hS 0 (by decide) q1210 rfl rfl (tyX7_ok 0 (by decide)) rfl rfl (by rw [eS_30]; exact mset_0 b S 0) (by rw [eS_30]; exact bw_0) dX7_term_2 (fun H locs hP hS => ?_)
  refine lv_aload_n hx hb dX7_term_5 rfl (lv_at hl 0 rfl) ?_
  refine lv_iload_n hx hb dX7_term_6 rfl (lv_at hl 1 rfl) ?_
  refine m_cVp (As := [.int p1]) (rest := []) ⟨hx, hb, hml, hown, hts⟩ (met_isReg l D cI cB b p1  S_30 _ h) (cwV 1 hts (lw_V q1534 q1536 qs81 q128 q1537) rfl rfl rfl cwd_isReg ⟨Nat.le_of_ble_eq_true rfl, Nat.le_of_ble_eq_true rfl⟩) hK hP hS rfl hl.1 rfl (Nat.le_of_ble_eq_true rfl) dX7_term_7 ⟨Nat.zero_le _, Nat.zero_le _⟩ (fun r_31 H locs h hP hS => ?_)
  refine lv_if_eq (tgt := 37) hx hb dX7_term_10 (by decide) (fun c_41 => ?_) (fun c_41 => ?_)
  · have h := h.1 c_41
    exact J37  _ _ _ _ h hP hS (lv_sub hl [0] rfl)
  · have h := h.2 c_41
    refine lv_iload_n hx hb dX7_term_13 rfl (lv_at hl 2 rfl) ?_
    refine lv_iconst (v := 0) hx hb dX7_term_14 (by decide) ?_
    refine lv_aload_n hx hb dX7_term_15 rfl (lv_at hl 0 rfl) ?_
    refine lv_iload_n hx hb dX7_term_16 rfl (lv_at hl 1 rfl) ?_
    refine m_cVp (As := [.int p1]) (rest := [.int 0, .int p2]) ⟨hx, hb, hml, hown, hts⟩ (met_termsOf l D cI cB b p1  S_30 _ h) (cwV 1 hts (lw_V q1522 q1524 qs79 q128 q1525) rfl rfl rfl cwd_termsOf ⟨Nat.le_of_ble_eq_true rfl, Nat.le_of_ble_eq_true rfl⟩) hK hP hS rfl hl.1 rfl (Nat.le_of_ble_eq_true rfl) dX7_term_17 ⟨Nat.zero_le _, Nat.zero_le _⟩ (fun r_33 H locs h hP hS => ?_)
    refine lv_iconst (v := 1) hx hb dX7_term_20 (by decide) ?_
    refine lv_isub hx hb dX7_term_21 ?_
    refine m_cSp (As := [.int p2, .int 0, .int (r_33 - 1)]) (rest := []) ⟨hx, hb, hml, hown, hts⟩ (met_in l D cI cB b p2 0 (r_33 - 1)  S_30 _ h) (va_cwS 3 hts (lw_S q1398 q1399 q128 q1400) rfl rfl rfl cwd_in ⟨Nat.le_of_ble_eq_true rfl, Nat.le_of_ble_eq_true rfl⟩) hK hP hS rfl hl.1 rfl (Nat.le_of_ble_eq_true rfl) dX7_term_22 ⟨Nat.zero_le _, Nat.zero_le _⟩ (fun r_35 H locs h hP hS => ?_)
    refine lv_if_eq (tgt := 37) hx hb dX7_term_25 (by decide) (fun c_40 => ?_) (fun c_40 => ?_)
    · have h := h.1 c_40
      exact J37  _ _ _ _ h hP hS (lv_sub hl [0] rfl)
    · have h := h.2 c_40
      refine lv_iload_n hx hb dX7_term_28 rfl (lv_at hl 3 rfl) ?_
      refine lv_iconst (v := 0) hx hb dX7_term_29 (by decide) ?_
      refine lv_iconst (v := 4) hx hb dX7_term_30 (by decide) ?_
      refine m_cSp (As := [.int p3, .int 0, .int 4]) (rest := []) ⟨hx, hb, hml, hown, hts⟩ (met_in l D cI cB b p3 0 4  S_30 _ h) (va_cwS 3 hts (lw_S q1398 q1399 q128 q1400) rfl rfl rfl cwd_in ⟨Nat.le_of_ble_eq_true rfl, Nat.le_of_ble_eq_true rfl⟩) hK hP hS rfl hl.1 rfl (Nat.le_of_ble_eq_true rfl) dX7_term_31 ⟨Nat.zero_le _, Nat.zero_le _⟩ (fun r_37 H locs h hP hS => ?_)
      refine lv_if_ne (tgt := 43) hx hb dX7_term_34 (by decide) (fun c_39 => ?_) (fun c_39 => ?_)
      · have h := h.1 c_39
        refine lv_iconst (v := 0) hx hb dX7_term_43 (by decide) ?_
        refine lv_istore (lv' := [(4, .int 0), (0, .ref b), (1, .int p1), (2, .int p2), (3, .int p3)]) hx hb dX7_term_44 hl (by decide) rfl (fun ls hl => ?_)
        refine lv_iload_n hx hb dX7_term_46 rfl (lv_at hl 3 rfl) ?_
        refine lv_istore (lv' := [(5, .int p2), (4, .int 0), (0, .ref b), (1, .int p1), (2, .int p2), (3, .int p3)]) hx hb dX7_term_47 hl (by decide) rfl (fun ls hl => ?_)
        exact L49 _ _ _ _ _ _ h hP hS (lv_sub hl [2, 3, 5, 1, 0] rfl)
      · have h := h.2 c_39
        exact J37  _ _ _ _ h hP hS (lv_sub hl [0] rfl)
def wp_degree_j53 (p1 : Int32) (post : Int32 → St → Prop) (R24 : Int32 → Int32 → Prop) (x2 : Int32) (x3 : Int32) (S : St) : Prop :=
        ∀ x3_1 : Int32, x3_1 = x3 + 1 →
        R24 x2 x3_1
def wp_degree_b24 (p1 : Int32) (post : Int32 → St → Prop) (R24 : Int32 → Int32 → Prop)  (x2 : Int32) (x3 : Int32) (S : St) : Prop :=
      ((4096 ≤ x3 →
        wp_good x2 S (fun r_2 S_3 =>
        post r_2 S_3)) ∧
       (¬ (4096 ≤ x3) →
        wp_coef p1 x3 S (fun r_4 =>
        ((r_4 = 0 →
          wp_degree_j53 p1 post R24 x2 x3 S) ∧
         (¬ (r_4 = 0) →
          wp_degreeOf x3 S (fun r_6 =>
          ((r_6 ≤ x2 →
            wp_degree_j53 p1 post R24 x2 x3 S) ∧
           (¬ (r_6 ≤ x2) →
            wp_degreeOf x3 S (fun r_8 =>
            wp_degree_j53 p1 post R24 r_8 x3 S)))))))))
def wp_degree_l24 (p1 : Int32) (post : Int32 → St → Prop)  (x2 : Int32) (x3 : Int32) (S : St) : Prop := wLoop (fun (R : (Int32 × Int32) → Prop) (v : Int32 × Int32) => wp_degree_b24 p1 post (fun x2 x3 => R (x2, x3))  v.1 v.2 S) (x2, x3)
def wp_degree (p1 : Int32) (S : St) (post : Int32 → St → Prop) : Prop :=
  ∀ S_13 : St, S_13 = bw S 0 0 0 →
  wp_isReg p1 S_13 (fun r_14 =>
  ((¬ r_14 = 0 →
    wp_degree_l24 p1 post (-2) 0 S_13) ∧
   (r_14 = 0 →
    wp_refused 1 S_13 (fun r_16 S_17 =>
    post r_16 S_17))))
set_option maxHeartbeats 4000000 in
theorem met_degree (l : Launch) (D : va_G) (cI cB : ClassId) (b : Nat) (p1 : Int32)  (S : St) (post : Int32 → St → Prop) (h : wp_degree p1 S post) : Met l yX7_degree (ws_ yX7_degree cX7_degree 4 (some .int)) ({ frames := 2, cells := 0, slots := 0, locals := 43 } : Room) (mPc D cI cB b [.ref b, .int p1] S) (mQi D cI cB b post) 0 0 (mA b) := by
  refine Met.ofW (cc := cX7_degree) (maxL := 4) (ret := (some .int)) (by decide) rfl ?_
  intro p e s m args below meth c s₁ B hml hv
  obtain ⟨rfl, hP, hK⟩ := hv
  have hx := B.exec
  have hb := B.bytes
  have hr := B.returns
  have hts := atoms_spec (ws := ws_ yX7_degree cX7_degree 4 (some .int)) B.pre
  have hts : ∀ w ∈ lw_all, w.before _ s = true := fun w h => hts w (List.mem_cons_of_mem _ h)
  have hown : s.vm.findClass RX7 = some m.cls := findClass_of_methodNamed B.named
  have hlocks := B.notSynchronized
  have hS : va_S (mA b) s.heap s.heap [] := va_S.rf
  have hl := lv_entry ([.ref b, .int p1]) (n := 4) (Nat.le_of_ble_eq_true rfl)
  rw [lg_entry_eq]
  generalize (lg_sl ([.ref b, .int p1]) ++ List.replicate (4 - (lg_sl ([.ref b, .int p1])).length) Slot.unset).toArray = ls at hl ⊢
  have hl : lv_has ls 4 [(0, .ref b), (1, .int p1)] := hl
  have L24 : ∀  (x2 : Int32) (x3 : Int32) (S : St) (H : Heap) (locs : List Loc) (ls : Array Slot), wp_degree_l24 p1 post  x2 x3 S → mW D cI cB b S H → va_S (mA b) s.heap H locs → lv_has ls 4 [(0, .ref b), (1, .int p1), (2, .int x2), (3, .int x3)] → W p l e (headSpec (ws_ yX7_degree cX7_degree 4 (some .int)) ({ frames := 2, cells := 0, slots := 0, locals := 43 } : Room)).room s m ([.ref b, .int p1] : List Value).toArray below meth c H locs 0 0 (MQ below (mQi D cI cB b post) ([.ref b, .int p1] : List Value).toArray s 0 0 (mA b)) (F0 m 24 ls []) := by
    intro  x2 x3 S H locs ls h hP hS hl
    obtain ⟨I24, n24, hI, hstep24⟩ := h
    induction n24 using Nat.strongRecOn generalizing x2 x3 H locs ls with
    | ind n24 ih24 =>
      have h : wp_degree_b24 p1 post (fun x2 x3 => ∃ mm, mm < n24 ∧ I24 mm (x2, x3))  x2 x3 S := hstep24 n24 _ hI
      clear hI
      have J53 : ∀ (x2 : Int32) (x3 : Int32) (H : Heap) (locs : List Loc) (ls : Array Slot), wp_degree_j53 p1 post (fun x2 x3 => ∃ mm, mm < n24 ∧ I24 mm (x2, x3)) x2 x3 S → mW D cI cB b S H → va_S (mA b) s.heap H locs → lv_has ls 4 [(0, .ref b), (1, .int p1), (2, .int x2), (3, .int x3)] → W p l e (headSpec (ws_ yX7_degree cX7_degree 4 (some .int)) ({ frames := 2, cells := 0, slots := 0, locals := 43 } : Room)).room s m ([.ref b, .int p1] : List Value).toArray below meth c H locs 0 0 (MQ below (mQi D cI cB b post) ([.ref b, .int p1] : List Value).toArray s 0 0 (mA b)) (F0 m 53 ls []) := by
        intro x2 x3  H locs ls h hP hS hl
        unfold wp_degree_j53 at h
        obtain ⟨x3_1, ex3_1⟩ : ∃ y : Int32, y = x3 + 1 := ⟨_, rfl⟩
        have h := h x3_1 ex3_1
        refine lv_iinc (v := x3_1) (lv' := [(3, .int x3_1), (0, .ref b), (1, .int p1), (2, .int x2)]) hx hb dX7_degree_53 hl (k := 3) rfl (by rw [ex3_1]; rfl) (by decide) rfl (fun ls hl => ?_)
        refine lv_goto (tgt := 24) hx hb dX7_degree_56 (by decide) ?_
        obtain ⟨mm, hmm, h⟩ := h
        exact ih24 mm hmm _ _ _ _ _ hP hS (lv_sub hl [1, 2, 3, 0] rfl) h
      unfold wp_degree_b24 at h
      refine lv_iload_n hx hb dX7_degree_24 rfl (lv_at hl 3 rfl) ?_
      refine lv_sipush (v := 4096) hx hb dX7_degree_25 (by decide) ?_
      refine lv_icmp_ge (tgt := 59) hx hb dX7_degree_28 (by decide) (fun c_12 => ?_) (fun c_12 => ?_)
      · have h := h.1 c_12
        refine lv_aload_n hx hb dX7_degree_59 rfl (lv_at hl 0 rfl) ?_
        refine lv_iload_n hx hb dX7_degree_60 rfl (lv_at hl 2 rfl) ?_
        refine m_cVi (As := [.int x2]) (rest := []) ⟨hx, hb, hml, hown, hts⟩ (met_good l D cI cB b x2  S _ h) (cwV 1 hts (lw_V q1498 q1500 qs76 q128 q1501) rfl rfl rfl cwd_good ⟨Nat.le_of_ble_eq_true rfl, Nat.le_of_ble_eq_true rfl⟩) hK hP hS rfl hl.1 rfl (Nat.le_of_ble_eq_true rfl) dX7_degree_61 ⟨Nat.zero_le _, Nat.zero_le _⟩ (fun r_2 S_3 H locs h hP hS => ?_)
        exact W.iret (v := r_2) hx hb hr (fun t ht hW => ⟨⟨r_2, S_3, rfl, h, by rw [ht]; exact hP, va_K.moved hW.alike hK⟩, hS.F ht⟩) hS.2.2 dX7_degree_64
      · have h := h.2 c_12
        refine lv_aload_n hx hb dX7_degree_31 rfl (lv_at hl 0 rfl) ?_
        refine lv_iload_n hx hb dX7_degree_32 rfl (lv_at hl 1 rfl) ?_
        refine lv_iload_n hx hb dX7_degree_33 rfl (lv_at hl 3 rfl) ?_
        refine m_cVp (As := [.int p1, .int x3]) (rest := []) ⟨hx, hb, hml, hown, hts⟩ (met_coef l D cI cB b p1 x3  S _ h) (cwV 2 hts (lw_V q1526 q1528 qs80 q128 q1529) rfl rfl rfl cwd_coef ⟨Nat.le_of_ble_eq_true rfl, Nat.le_of_ble_eq_true rfl⟩) hK hP hS rfl hl.1 rfl (Nat.le_of_ble_eq_true rfl) dX7_degree_34 ⟨Nat.zero_le _, Nat.zero_le _⟩ (fun r_4 H locs h hP hS => ?_)
        refine lv_if_eq (tgt := 53) hx hb dX7_degree_37 (by decide) (fun c_11 => ?_) (fun c_11 => ?_)
        · have h := h.1 c_11
          exact J53 _ _  _ _ _ h hP hS (lv_sub hl [0, 1, 2, 3] rfl)
        · have h := h.2 c_11
          refine lv_iload_n hx hb dX7_degree_40 rfl (lv_at hl 3 rfl) ?_
          refine m_cSp (As := [.int x3]) (rest := []) ⟨hx, hb, hml, hown, hts⟩ (met_degreeOf l D cI cB b x3  S _ h) (va_cwS 1 hts (lw_S q1542 q1543 q128 q1544) rfl rfl rfl cwd_degreeOf ⟨Nat.le_of_ble_eq_true rfl, Nat.le_of_ble_eq_true rfl⟩) hK hP hS rfl hl.1 rfl (Nat.le_of_ble_eq_true rfl) dX7_degree_41 ⟨Nat.zero_le _, Nat.zero_le _⟩ (fun r_6 H locs h hP hS => ?_)
          refine lv_iload_n hx hb dX7_degree_44 rfl (lv_at hl 2 rfl) ?_
          refine lv_icmp_le (tgt := 53) hx hb dX7_degree_45 (by decide) (fun c_10 => ?_) (fun c_10 => ?_)
          · have h := h.1 c_10
            exact J53 _ _  _ _ _ h hP hS (lv_sub hl [0, 1, 2, 3] rfl)
          · have h := h.2 c_10
            refine lv_iload_n hx hb dX7_degree_48 rfl (lv_at hl 3 rfl) ?_
            refine m_cSp (As := [.int x3]) (rest := []) ⟨hx, hb, hml, hown, hts⟩ (met_degreeOf l D cI cB b x3  S _ h) (va_cwS 1 hts (lw_S q1542 q1543 q128 q1544) rfl rfl rfl cwd_degreeOf ⟨Nat.le_of_ble_eq_true rfl, Nat.le_of_ble_eq_true rfl⟩) hK hP hS rfl hl.1 rfl (Nat.le_of_ble_eq_true rfl) dX7_degree_49 ⟨Nat.zero_le _, Nat.zero_le _⟩ (fun r_8 H locs h hP hS => ?_)
            refine lv_istore_n (lv' := [(2, .int r_8), (0, .ref b), (1, .int p1), (3, .int x3)]) hx hb dX7_degree_52 rfl hl (by decide) rfl (fun ls hl => ?_)
            exact J53 _ _  _ _ _ h hP hS (lv_sub hl [1, 2, 0, 3] rfl)
  unfold wp_degree at h
  refine lv_aload_n hx hb dX7_degree_0 rfl (lv_at hl 0 rfl) ?_
  refine lv_iconst (v := 0) hx hb dX7_degree_1 (by decide) ?_
  obtain ⟨S_13, eS_13⟩ : ∃ z : St, z = bw S 0 0 0 := ⟨_, rfl⟩
  have h := h S_13 eS_13
  refine m_put (S1 := S_13) (v := .int 0) (ty := .int) hx hb hts hown hK hP hS 0 (by decide) q1210 rfl rfl (tyX7_ok 0 (by decide)) rfl rfl (by rw [eS_13]; exact mset_0 b S 0) (by rw [eS_13]; exact bw_0) dX7_degree_2 (fun H locs hP hS => ?_)
  refine lv_aload_n hx hb dX7_degree_5 rfl (lv_at hl 0 rfl) ?_
  refine lv_iload_n hx hb dX7_degree_6 rfl (lv_at hl 1 rfl) ?_
  refine m_cVp (As := [.int p1]) (rest := []) ⟨hx, hb, hml, hown, hts⟩ (met_isReg l D cI cB b p1  S_13 _ h) (cwV 1 hts (lw_V q1534 q1536 qs81 q128 q1537) rfl rfl rfl cwd_isReg ⟨Nat.le_of_ble_eq_true rfl, Nat.le_of_ble_eq_true rfl⟩) hK hP hS rfl hl.1 rfl (Nat.le_of_ble_eq_true rfl) dX7_degree_7 ⟨Nat.zero_le _, Nat.zero_le _⟩ (fun r_14 H locs h hP hS => ?_)
  refine lv_if_ne (tgt := 19) hx hb dX7_degree_10 (by decide) (fun c_18 => ?_) (fun c_18 => ?_)
  · have h := h.1 c_18
    refine lv_bipush (v := (-2)) hx hb dX7_degree_19 (by decide) ?_
    refine lv_istore_n (lv' := [(2, .int (-2)), (0, .ref b), (1, .int p1)]) hx hb dX7_degree_21 rfl hl (by decide) rfl (fun ls hl => ?_)
    refine lv_iconst (v := 0) hx hb dX7_degree_22 (by decide) ?_
    refine lv_istore_n (lv' := [(3, .int 0), (2, .int (-2)), (0, .ref b), (1, .int p1)]) hx hb dX7_degree_23 rfl hl (by decide) rfl (fun ls hl => ?_)
    exact L24 _ _ _ _ _ _ h hP hS (lv_sub hl [2, 3, 1, 0] rfl)
  · have h := h.2 c_18
    refine lv_aload_n hx hb dX7_degree_13 rfl (lv_at hl 0 rfl) ?_
    refine lv_iconst (v := 1) hx hb dX7_degree_14 (by decide) ?_
    refine m_cVi (As := [.int 1]) (rest := []) ⟨hx, hb, hml, hown, hts⟩ (met_refused l D cI cB b 1  S_13 _ h) (cwV 1 hts (lw_V q1382 q1384 qs58 q128 q1385) rfl rfl rfl cwd_refused ⟨Nat.le_of_ble_eq_true rfl, Nat.le_of_ble_eq_true rfl⟩) hK hP hS rfl hl.1 rfl (Nat.le_of_ble_eq_true rfl) dX7_degree_15 ⟨Nat.zero_le _, Nat.zero_le _⟩ (fun r_16 S_17 H locs h hP hS => ?_)
    exact W.iret (v := r_16) hx hb hr (fun t ht hW => ⟨⟨r_16, S_17, rfl, h, by rw [ht]; exact hP, va_K.moved hW.alike hK⟩, hS.F ht⟩) hS.2.2 dX7_degree_18
def wp_isUnknown (p1 : Int32) (S : St) (post : Int32 → Prop) : Prop :=
  wp_in p1 0 2 S (fun r_1 =>
  r_1 &&& 1 = r_1 ∧ post r_1)
set_option maxHeartbeats 4000000 in
theorem met_isUnknown (l : Launch) (D : va_G) (cI cB : ClassId) (b : Nat) (p1 : Int32)  (S : St) (post : Int32 → Prop) (h : wp_isUnknown p1 S post) : Met l yX7_isUnknown (ws_ yX7_isUnknown cX7_isUnknown 1 (some .boolean)) ({ frames := 1, cells := 0, slots := 0, locals := 22 } : Room) (mPc D cI cB b [.int p1] S) (mQp D cI cB b S post) 0 0 (mA b) := by
  refine Met.ofW (cc := cX7_isUnknown) (maxL := 1) (ret := (some .boolean)) (by decide) rfl ?_
  intro p e s m args below meth c s₁ B hml hv
  obtain ⟨rfl, hP, hK⟩ := hv
  have hx := B.exec
  have hb := B.bytes
  have hr := B.returns
  have hts := atoms_spec (ws := ws_ yX7_isUnknown cX7_isUnknown 1 (some .boolean)) B.pre
  have hts : ∀ w ∈ lw_all, w.before _ s = true := fun w h => hts w (List.mem_cons_of_mem _ h)
  have hown : s.vm.findClass RX7 = some m.cls := findClass_of_methodNamed B.named
  have hlocks := B.notSynchronized
  have hS : va_S (mA b) s.heap s.heap [] := va_S.rf
  have hl := lv_entry ([.int p1]) (n := 1) (Nat.le_of_ble_eq_true rfl)
  rw [lg_entry_eq]
  generalize (lg_sl ([.int p1]) ++ List.replicate (1 - (lg_sl ([.int p1])).length) Slot.unset).toArray = ls at hl ⊢
  have hl : lv_has ls 1 [(0, .int p1)] := hl
  unfold wp_isUnknown at h
  refine lv_iload_n hx hb dX7_isUnknown_0 rfl (lv_at hl 0 rfl) ?_
  refine lv_iconst (v := 0) hx hb dX7_isUnknown_1 (by decide) ?_
  refine lv_iconst (v := 2) hx hb dX7_isUnknown_2 (by decide) ?_
  refine m_cSp (As := [.int p1, .int 0, .int 2]) (rest := []) ⟨hx, hb, hml, hown, hts⟩ (met_in l D cI cB b p1 0 2  S _ h) (va_cwS 3 hts (lw_S q1398 q1399 q128 q1400) rfl rfl rfl cwd_in ⟨Nat.le_of_ble_eq_true rfl, Nat.le_of_ble_eq_true rfl⟩) hK hP hS rfl hl.1 rfl (Nat.le_of_ble_eq_true rfl) dX7_isUnknown_3 ⟨Nat.zero_le _, Nat.zero_le _⟩ (fun r_1 H locs h hP hS => ?_)
  obtain ⟨hz, h⟩ := h
  exact W.zret (v := r_1) hx hb hr (congrArg Value.int hz) (fun t ht hW => ⟨⟨r_1, (), rfl, h, by rw [ht]; exact hP, va_K.moved hW.alike hK⟩, hS.F ht⟩) hS.2.2 dX7_isUnknown_6
def wp_degreeBy_j41 (p1 : Int32) (p2 : Int32) (post : Int32 → Prop) (R6 : Int32 → Int32 → Prop) (x3 : Int32) (x4 : Int32) (S : St) : Prop :=
        ∀ x4_1 : Int32, x4_1 = x4 + 1 →
        R6 x3 x4_1
def wp_degreeBy_b6 (p1 : Int32) (p2 : Int32) (post : Int32 → Prop) (R6 : Int32 → Int32 → Prop)  (x3 : Int32) (x4 : Int32) (S : St) : Prop :=
      ((4096 ≤ x4 →
        post x3) ∧
       (¬ (4096 ≤ x4) →
        wp_coef p1 x4 S (fun r_2 =>
        ((r_2 = 0 →
          wp_degreeBy_j41 p1 p2 post R6 x3 x4 S) ∧
         (¬ (r_2 = 0) →
          wp_exponent x4 p2 S (fun r_4 =>
          ((r_4 ≤ x3 →
            wp_degreeBy_j41 p1 p2 post R6 x3 x4 S) ∧
           (¬ (r_4 ≤ x3) →
            wp_exponent x4 p2 S (fun r_6 =>
            wp_degreeBy_j41 p1 p2 post R6 r_6 x4 S)))))))))
def wp_degreeBy_l6 (p1 : Int32) (p2 : Int32) (post : Int32 → Prop)  (x3 : Int32) (x4 : Int32) (S : St) : Prop := wLoop (fun (R : (Int32 × Int32) → Prop) (v : Int32 × Int32) => wp_degreeBy_b6 p1 p2 post (fun x3 x4 => R (x3, x4))  v.1 v.2 S) (x3, x4)
def wp_degreeBy (p1 : Int32) (p2 : Int32) (S : St) (post : Int32 → Prop) : Prop :=
  wp_degreeBy_l6 p1 p2 post (-2) 0 S
set_option maxHeartbeats 4000000 in
theorem met_degreeBy (l : Launch) (D : va_G) (cI cB : ClassId) (b : Nat) (p1 : Int32) (p2 : Int32)  (S : St) (post : Int32 → Prop) (h : wp_degreeBy p1 p2 S post) : Met l yX7_degreeBy (ws_ yX7_degreeBy cX7_degreeBy 5 (some .int)) ({ frames := 1, cells := 0, slots := 0, locals := 22 } : Room) (mPc D cI cB b [.ref b, .int p1, .int p2] S) (mQp D cI cB b S post) 0 0 (mA b) := by
  refine Met.ofW (cc := cX7_degreeBy) (maxL := 5) (ret := (some .int)) (by decide) rfl ?_
  intro p e s m args below meth c s₁ B hml hv
  obtain ⟨rfl, hP, hK⟩ := hv
  have hx := B.exec
  have hb := B.bytes
  have hr := B.returns
  have hts := atoms_spec (ws := ws_ yX7_degreeBy cX7_degreeBy 5 (some .int)) B.pre
  have hts : ∀ w ∈ lw_all, w.before _ s = true := fun w h => hts w (List.mem_cons_of_mem _ h)
  have hown : s.vm.findClass RX7 = some m.cls := findClass_of_methodNamed B.named
  have hlocks := B.notSynchronized
  have hS : va_S (mA b) s.heap s.heap [] := va_S.rf
  have hl := lv_entry ([.ref b, .int p1, .int p2]) (n := 5) (Nat.le_of_ble_eq_true rfl)
  rw [lg_entry_eq]
  generalize (lg_sl ([.ref b, .int p1, .int p2]) ++ List.replicate (5 - (lg_sl ([.ref b, .int p1, .int p2])).length) Slot.unset).toArray = ls at hl ⊢
  have hl : lv_has ls 5 [(0, .ref b), (1, .int p1), (2, .int p2)] := hl
  have L6 : ∀  (x3 : Int32) (x4 : Int32) (H : Heap) (locs : List Loc) (ls : Array Slot), wp_degreeBy_l6 p1 p2 post  x3 x4 S → mW D cI cB b S H → va_S (mA b) s.heap H locs → lv_has ls 5 [(0, .ref b), (1, .int p1), (2, .int p2), (3, .int x3), (4, .int x4)] → W p l e (headSpec (ws_ yX7_degreeBy cX7_degreeBy 5 (some .int)) ({ frames := 1, cells := 0, slots := 0, locals := 22 } : Room)).room s m ([.ref b, .int p1, .int p2] : List Value).toArray below meth c H locs 0 0 (MQ below (mQp D cI cB b S post) ([.ref b, .int p1, .int p2] : List Value).toArray s 0 0 (mA b)) (F0 m 6 ls []) := by
    intro  x3 x4  H locs ls h hP hS hl
    obtain ⟨I6, n6, hI, hstep6⟩ := h
    induction n6 using Nat.strongRecOn generalizing x3 x4 H locs ls with
    | ind n6 ih6 =>
      have h : wp_degreeBy_b6 p1 p2 post (fun x3 x4 => ∃ mm, mm < n6 ∧ I6 mm (x3, x4))  x3 x4 S := hstep6 n6 _ hI
      clear hI
      have J41 : ∀ (x3 : Int32) (x4 : Int32) (H : Heap) (locs : List Loc) (ls : Array Slot), wp_degreeBy_j41 p1 p2 post (fun x3 x4 => ∃ mm, mm < n6 ∧ I6 mm (x3, x4)) x3 x4 S → mW D cI cB b S H → va_S (mA b) s.heap H locs → lv_has ls 5 [(0, .ref b), (1, .int p1), (2, .int p2), (3, .int x3), (4, .int x4)] → W p l e (headSpec (ws_ yX7_degreeBy cX7_degreeBy 5 (some .int)) ({ frames := 1, cells := 0, slots := 0, locals := 22 } : Room)).room s m ([.ref b, .int p1, .int p2] : List Value).toArray below meth c H locs 0 0 (MQ below (mQp D cI cB b S post) ([.ref b, .int p1, .int p2] : List Value).toArray s 0 0 (mA b)) (F0 m 41 ls []) := by
        intro x3 x4  H locs ls h hP hS hl
        unfold wp_degreeBy_j41 at h
        obtain ⟨x4_1, ex4_1⟩ : ∃ y : Int32, y = x4 + 1 := ⟨_, rfl⟩
        have h := h x4_1 ex4_1
        refine lv_iinc (v := x4_1) (lv' := [(4, .int x4_1), (0, .ref b), (1, .int p1), (2, .int p2), (3, .int x3)]) hx hb dX7_degreeBy_41 hl (k := 4) rfl (by rw [ex4_1]; rfl) (by decide) rfl (fun ls hl => ?_)
        refine lv_goto (tgt := 6) hx hb dX7_degreeBy_44 (by decide) ?_
        obtain ⟨mm, hmm, h⟩ := h
        exact ih6 mm hmm _ _ _ _ _ hP hS (lv_sub hl [1, 2, 3, 4, 0] rfl) h
      unfold wp_degreeBy_b6 at h
      refine lv_iload hx hb dX7_degreeBy_6 (lv_at hl 4 rfl) ?_
      refine lv_sipush (v := 4096) hx hb dX7_degreeBy_8 (by decide) ?_
      refine lv_icmp_ge (tgt := 47) hx hb dX7_degreeBy_11 (by decide) (fun c_10 => ?_) (fun c_10 => ?_)
      · have h := h.1 c_10
        refine lv_iload_n hx hb dX7_degreeBy_47 rfl (lv_at hl 3 rfl) ?_
        exact W.iret (v := x3) hx hb hr (fun t ht hW => ⟨⟨x3, (), rfl, h, by rw [ht]; exact hP, va_K.moved hW.alike hK⟩, hS.F ht⟩) hS.2.2 dX7_degreeBy_48
      · have h := h.2 c_10
        refine lv_aload_n hx hb dX7_degreeBy_14 rfl (lv_at hl 0 rfl) ?_
        refine lv_iload_n hx hb dX7_degreeBy_15 rfl (lv_at hl 1 rfl) ?_
        refine lv_iload hx hb dX7_degreeBy_16 (lv_at hl 4 rfl) ?_
        refine m_cVp (As := [.int p1, .int x4]) (rest := []) ⟨hx, hb, hml, hown, hts⟩ (met_coef l D cI cB b p1 x4  S _ h) (cwV 2 hts (lw_V q1526 q1528 qs80 q128 q1529) rfl rfl rfl cwd_coef ⟨Nat.le_of_ble_eq_true rfl, Nat.le_of_ble_eq_true rfl⟩) hK hP hS rfl hl.1 rfl (Nat.le_of_ble_eq_true rfl) dX7_degreeBy_18 ⟨Nat.zero_le _, Nat.zero_le _⟩ (fun r_2 H locs h hP hS => ?_)
        refine lv_if_eq (tgt := 41) hx hb dX7_degreeBy_21 (by decide) (fun c_9 => ?_) (fun c_9 => ?_)
        · have h := h.1 c_9
          exact J41 _ _  _ _ _ h hP hS (lv_sub hl [0, 1, 2, 3, 4] rfl)
        · have h := h.2 c_9
          refine lv_iload hx hb dX7_degreeBy_24 (lv_at hl 4 rfl) ?_
          refine lv_iload_n hx hb dX7_degreeBy_26 rfl (lv_at hl 2 rfl) ?_
          refine m_cSp (As := [.int x4, .int p2]) (rest := []) ⟨hx, hb, hml, hown, hts⟩ (met_exponent l D cI cB b x4 p2  S _ h) (va_cwS 2 hts (lw_S q1545 q1546 q128 q1547) rfl rfl rfl cwd_exponent ⟨Nat.le_of_ble_eq_true rfl, Nat.le_of_ble_eq_true rfl⟩) hK hP hS rfl hl.1 rfl (Nat.le_of_ble_eq_true rfl) dX7_degreeBy_27 ⟨Nat.zero_le _, Nat.zero_le _⟩ (fun r_4 H locs h hP hS => ?_)
          refine lv_iload_n hx hb dX7_degreeBy_30 rfl (lv_at hl 3 rfl) ?_
          refine lv_icmp_le (tgt := 41) hx hb dX7_degreeBy_31 (by decide) (fun c_8 => ?_) (fun c_8 => ?_)
          · have h := h.1 c_8
            exact J41 _ _  _ _ _ h hP hS (lv_sub hl [0, 1, 2, 3, 4] rfl)
          · have h := h.2 c_8
            refine lv_iload hx hb dX7_degreeBy_34 (lv_at hl 4 rfl) ?_
            refine lv_iload_n hx hb dX7_degreeBy_36 rfl (lv_at hl 2 rfl) ?_
            refine m_cSp (As := [.int x4, .int p2]) (rest := []) ⟨hx, hb, hml, hown, hts⟩ (met_exponent l D cI cB b x4 p2  S _ h) (va_cwS 2 hts (lw_S q1545 q1546 q128 q1547) rfl rfl rfl cwd_exponent ⟨Nat.le_of_ble_eq_true rfl, Nat.le_of_ble_eq_true rfl⟩) hK hP hS rfl hl.1 rfl (Nat.le_of_ble_eq_true rfl) dX7_degreeBy_37 ⟨Nat.zero_le _, Nat.zero_le _⟩ (fun r_6 H locs h hP hS => ?_)
            refine lv_istore_n (lv' := [(3, .int r_6), (0, .ref b), (1, .int p1), (2, .int p2), (4, .int x4)]) hx hb dX7_degreeBy_40 rfl hl (by decide) rfl (fun ls hl => ?_)
            exact J41 _ _  _ _ _ h hP hS (lv_sub hl [1, 2, 3, 0, 4] rfl)
  unfold wp_degreeBy at h
  refine lv_bipush (v := (-2)) hx hb dX7_degreeBy_0 (by decide) ?_
  refine lv_istore_n (lv' := [(3, .int (-2)), (0, .ref b), (1, .int p1), (2, .int p2)]) hx hb dX7_degreeBy_2 rfl hl (by decide) rfl (fun ls hl => ?_)
  refine lv_iconst (v := 0) hx hb dX7_degreeBy_3 (by decide) ?_
  refine lv_istore (lv' := [(4, .int 0), (3, .int (-2)), (0, .ref b), (1, .int p1), (2, .int p2)]) hx hb dX7_degreeBy_4 hl (by decide) rfl (fun ls hl => ?_)
  exact L6 _ _  _ _ _ h hP hS (lv_sub hl [2, 3, 4, 1, 0] rfl)
def wp_degreeIn_j33 (p1 : Int32) (p2 : Int32) (post : Int32 → St → Prop)  (S : St) : Prop :=
    wp_refused 1 S (fun r_1 S_2 =>
    post r_1 S_2)
def wp_degreeIn (p1 : Int32) (p2 : Int32) (S : St) (post : Int32 → St → Prop) : Prop :=
  ∀ S_3 : St, S_3 = bw S 0 0 0 →
  wp_isReg p1 S_3 (fun r_4 =>
  ((r_4 = 0 →
    wp_degreeIn_j33 p1 p2 post  S_3) ∧
   (¬ (r_4 = 0) →
    wp_isUnknown p2 S_3 (fun r_6 =>
    ((r_6 = 0 →
      wp_degreeIn_j33 p1 p2 post  S_3) ∧
     (¬ (r_6 = 0) →
      wp_degreeBy p1 p2 S_3 (fun r_8 =>
      wp_good r_8 S_3 (fun r_10 S_11 =>
      post r_10 S_11))))))))
set_option maxHeartbeats 4000000 in
theorem met_degreeIn (l : Launch) (D : va_G) (cI cB : ClassId) (b : Nat) (p1 : Int32) (p2 : Int32)  (S : St) (post : Int32 → St → Prop) (h : wp_degreeIn p1 p2 S post) : Met l yX7_degreeIn (ws_ yX7_degreeIn cX7_degreeIn 3 (some .int)) ({ frames := 2, cells := 0, slots := 0, locals := 46 } : Room) (mPc D cI cB b [.ref b, .int p1, .int p2] S) (mQi D cI cB b post) 0 0 (mA b) := by
  refine Met.ofW (cc := cX7_degreeIn) (maxL := 3) (ret := (some .int)) (by decide) rfl ?_
  intro p e s m args below meth c s₁ B hml hv
  obtain ⟨rfl, hP, hK⟩ := hv
  have hx := B.exec
  have hb := B.bytes
  have hr := B.returns
  have hts := atoms_spec (ws := ws_ yX7_degreeIn cX7_degreeIn 3 (some .int)) B.pre
  have hts : ∀ w ∈ lw_all, w.before _ s = true := fun w h => hts w (List.mem_cons_of_mem _ h)
  have hown : s.vm.findClass RX7 = some m.cls := findClass_of_methodNamed B.named
  have hlocks := B.notSynchronized
  have hS : va_S (mA b) s.heap s.heap [] := va_S.rf
  have hl := lv_entry ([.ref b, .int p1, .int p2]) (n := 3) (Nat.le_of_ble_eq_true rfl)
  rw [lg_entry_eq]
  generalize (lg_sl ([.ref b, .int p1, .int p2]) ++ List.replicate (3 - (lg_sl ([.ref b, .int p1, .int p2])).length) Slot.unset).toArray = ls at hl ⊢
  have hl : lv_has ls 3 [(0, .ref b), (1, .int p1), (2, .int p2)] := hl
  have J33 : ∀  (S : St) (H : Heap) (locs : List Loc) (ls : Array Slot), wp_degreeIn_j33 p1 p2 post  S → mW D cI cB b S H → va_S (mA b) s.heap H locs → lv_has ls 3 [(0, .ref b)] → W p l e (headSpec (ws_ yX7_degreeIn cX7_degreeIn 3 (some .int)) ({ frames := 2, cells := 0, slots := 0, locals := 46 } : Room)).room s m ([.ref b, .int p1, .int p2] : List Value).toArray below meth c H locs 0 0 (MQ below (mQi D cI cB b post) ([.ref b, .int p1, .int p2] : List Value).toArray s 0 0 (mA b)) (F0 m 33 ls []) := by
    intro  S H locs ls h hP hS hl
    unfold wp_degreeIn_j33 at h
    refine lv_aload_n hx hb dX7_degreeIn_33 rfl (lv_at hl 0 rfl) ?_
    refine lv_iconst (v := 1) hx hb dX7_degreeIn_34 (by decide) ?_
    refine m_cVi (As := [.int 1]) (rest := []) ⟨hx, hb, hml, hown, hts⟩ (met_refused l D cI cB b 1  S _ h) (cwV 1 hts (lw_V q1382 q1384 qs58 q128 q1385) rfl rfl rfl cwd_refused ⟨Nat.le_of_ble_eq_true rfl, Nat.le_of_ble_eq_true rfl⟩) hK hP hS rfl hl.1 rfl (Nat.le_of_ble_eq_true rfl) dX7_degreeIn_35 ⟨Nat.zero_le _, Nat.zero_le _⟩ (fun r_1 S_2 H locs h hP hS => ?_)
    exact W.iret (v := r_1) hx hb hr (fun t ht hW => ⟨⟨r_1, S_2, rfl, h, by rw [ht]; exact hP, va_K.moved hW.alike hK⟩, hS.F ht⟩) hS.2.2 dX7_degreeIn_38
  unfold wp_degreeIn at h
  refine lv_aload_n hx hb dX7_degreeIn_0 rfl (lv_at hl 0 rfl) ?_
  refine lv_iconst (v := 0) hx hb dX7_degreeIn_1 (by decide) ?_
  obtain ⟨S_3, eS_3⟩ : ∃ z : St, z = bw S 0 0 0 := ⟨_, rfl⟩
  have h := h S_3 eS_3
  refine m_put (S1 := S_3) (v := .int 0) (ty := .int) hx hb hts hown hK hP hS 0 (by decide) q1210 rfl rfl (tyX7_ok 0 (by decide)) rfl rfl (by rw [eS_3]; exact mset_0 b S 0) (by rw [eS_3]; exact bw_0) dX7_degreeIn_2 (fun H locs hP hS => ?_)
  refine lv_aload_n hx hb dX7_degreeIn_5 rfl (lv_at hl 0 rfl) ?_
  refine lv_iload_n hx hb dX7_degreeIn_6 rfl (lv_at hl 1 rfl) ?_
  refine m_cVp (As := [.int p1]) (rest := []) ⟨hx, hb, hml, hown, hts⟩ (met_isReg l D cI cB b p1  S_3 _ h) (cwV 1 hts (lw_V q1534 q1536 qs81 q128 q1537) rfl rfl rfl cwd_isReg ⟨Nat.le_of_ble_eq_true rfl, Nat.le_of_ble_eq_true rfl⟩) hK hP hS rfl hl.1 rfl (Nat.le_of_ble_eq_true rfl) dX7_degreeIn_7 ⟨Nat.zero_le _, Nat.zero_le _⟩ (fun r_4 H locs h hP hS => ?_)
  refine lv_if_eq (tgt := 33) hx hb dX7_degreeIn_10 (by decide) (fun c_13 => ?_) (fun c_13 => ?_)
  · have h := h.1 c_13
    exact J33  _ _ _ _ h hP hS (lv_sub hl [0] rfl)
  · have h := h.2 c_13
    refine lv_iload_n hx hb dX7_degreeIn_13 rfl (lv_at hl 2 rfl) ?_
    refine m_cSp (As := [.int p2]) (rest := []) ⟨hx, hb, hml, hown, hts⟩ (met_isUnknown l D cI cB b p2  S_3 _ h) (va_cwS 1 hts (lw_S q1556 q1557 q128 q1558) rfl rfl rfl cwd_isUnknown ⟨Nat.le_of_ble_eq_true rfl, Nat.le_of_ble_eq_true rfl⟩) hK hP hS rfl hl.1 rfl (Nat.le_of_ble_eq_true rfl) dX7_degreeIn_14 ⟨Nat.zero_le _, Nat.zero_le _⟩ (fun r_6 H locs h hP hS => ?_)
    refine lv_if_eq (tgt := 33) hx hb dX7_degreeIn_17 (by decide) (fun c_12 => ?_) (fun c_12 => ?_)
    · have h := h.1 c_12
      exact J33  _ _ _ _ h hP hS (lv_sub hl [0] rfl)
    · have h := h.2 c_12
      refine lv_aload_n hx hb dX7_degreeIn_20 rfl (lv_at hl 0 rfl) ?_
      refine lv_aload_n hx hb dX7_degreeIn_21 rfl (lv_at hl 0 rfl) ?_
      refine lv_iload_n hx hb dX7_degreeIn_22 rfl (lv_at hl 1 rfl) ?_
      refine lv_iload_n hx hb dX7_degreeIn_23 rfl (lv_at hl 2 rfl) ?_
      refine m_cVp (As := [.int p1, .int p2]) (rest := [.ref b]) ⟨hx, hb, hml, hown, hts⟩ (met_degreeBy l D cI cB b p1 p2  S_3 _ h) (cwV 2 hts (lw_V q1559 q1561 qs82 q128 q1562) rfl rfl rfl cwd_degreeBy ⟨Nat.le_of_ble_eq_true rfl, Nat.le_of_ble_eq_true rfl⟩) hK hP hS rfl hl.1 rfl (Nat.le_of_ble_eq_true rfl) dX7_degreeIn_24 ⟨Nat.zero_le _, Nat.zero_le _⟩ (fun r_8 H locs h hP hS => ?_)
      refine m_cVi (As := [.int r_8]) (rest := []) ⟨hx, hb, hml, hown, hts⟩ (met_good l D cI cB b r_8  S_3 _ h) (cwV 1 hts (lw_V q1498 q1500 qs76 q128 q1501) rfl rfl rfl cwd_good ⟨Nat.le_of_ble_eq_true rfl, Nat.le_of_ble_eq_true rfl⟩) hK hP hS rfl hl.1 rfl (Nat.le_of_ble_eq_true rfl) dX7_degreeIn_27 ⟨Nat.zero_le _, Nat.zero_le _⟩ (fun r_10 S_11 H locs h hP hS => ?_)
      refine lv_goto (tgt := 38) hx hb dX7_degreeIn_30 (by decide) ?_
      exact W.iret (v := r_10) hx hb hr (fun t ht hW => ⟨⟨r_10, S_11, rfl, h, by rw [ht]; exact hP, va_K.moved hW.alike hK⟩, hS.F ht⟩) hS.2.2 dX7_degreeIn_38
def wp_isExponent (p1 : Int32) (S : St) (post : Int32 → Prop) : Prop :=
  wp_in p1 0 15 S (fun r_1 =>
  r_1 &&& 1 = r_1 ∧ post r_1)
set_option maxHeartbeats 4000000 in
theorem met_isExponent (l : Launch) (D : va_G) (cI cB : ClassId) (b : Nat) (p1 : Int32)  (S : St) (post : Int32 → Prop) (h : wp_isExponent p1 S post) : Met l yX7_isExponent (ws_ yX7_isExponent cX7_isExponent 1 (some .boolean)) ({ frames := 1, cells := 0, slots := 0, locals := 22 } : Room) (mPc D cI cB b [.int p1] S) (mQp D cI cB b S post) 0 0 (mA b) := by
  refine Met.ofW (cc := cX7_isExponent) (maxL := 1) (ret := (some .boolean)) (by decide) rfl ?_
  intro p e s m args below meth c s₁ B hml hv
  obtain ⟨rfl, hP, hK⟩ := hv
  have hx := B.exec
  have hb := B.bytes
  have hr := B.returns
  have hts := atoms_spec (ws := ws_ yX7_isExponent cX7_isExponent 1 (some .boolean)) B.pre
  have hts : ∀ w ∈ lw_all, w.before _ s = true := fun w h => hts w (List.mem_cons_of_mem _ h)
  have hown : s.vm.findClass RX7 = some m.cls := findClass_of_methodNamed B.named
  have hlocks := B.notSynchronized
  have hS : va_S (mA b) s.heap s.heap [] := va_S.rf
  have hl := lv_entry ([.int p1]) (n := 1) (Nat.le_of_ble_eq_true rfl)
  rw [lg_entry_eq]
  generalize (lg_sl ([.int p1]) ++ List.replicate (1 - (lg_sl ([.int p1])).length) Slot.unset).toArray = ls at hl ⊢
  have hl : lv_has ls 1 [(0, .int p1)] := hl
  unfold wp_isExponent at h
  refine lv_iload_n hx hb dX7_isExponent_0 rfl (lv_at hl 0 rfl) ?_
  refine lv_iconst (v := 0) hx hb dX7_isExponent_1 (by decide) ?_
  refine lv_bipush (v := 15) hx hb dX7_isExponent_2 (by decide) ?_
  refine m_cSp (As := [.int p1, .int 0, .int 15]) (rest := []) ⟨hx, hb, hml, hown, hts⟩ (met_in l D cI cB b p1 0 15  S _ h) (va_cwS 3 hts (lw_S q1398 q1399 q128 q1400) rfl rfl rfl cwd_in ⟨Nat.le_of_ble_eq_true rfl, Nat.le_of_ble_eq_true rfl⟩) hK hP hS rfl hl.1 rfl (Nat.le_of_ble_eq_true rfl) dX7_isExponent_4 ⟨Nat.zero_le _, Nat.zero_le _⟩ (fun r_1 H locs h hP hS => ?_)
  obtain ⟨hz, h⟩ := h
  exact W.zret (v := r_1) hx hb hr (congrArg Value.int hz) (fun t ht hW => ⟨⟨r_1, (), rfl, h, by rw [ht]; exact hP, va_K.moved hW.alike hK⟩, hS.F ht⟩) hS.2.2 dX7_isExponent_7
def wp_keyOf (p1 : Int32) (p2 : Int32) (p3 : Int32) (S : St) (post : Int32 → Prop) : Prop :=
  post ((p1 ||| (jshl p2 4)) ||| (jshl p3 8))
set_option maxHeartbeats 4000000 in
theorem met_keyOf (l : Launch) (D : va_G) (cI cB : ClassId) (b : Nat) (p1 : Int32) (p2 : Int32) (p3 : Int32)  (S : St) (post : Int32 → Prop) (h : wp_keyOf p1 p2 p3 S post) : Met l yX7_keyOf (ws_ yX7_keyOf cX7_keyOf 3 (some .int)) ({ frames := 0, cells := 0, slots := 0, locals := 0 } : Room) (mPc D cI cB b [.int p1, .int p2, .int p3] S) (mQp D cI cB b S post) 0 0 (mA b) := by
  refine Met.ofW (cc := cX7_keyOf) (maxL := 3) (ret := (some .int)) (by decide) rfl ?_
  intro p e s m args below meth c s₁ B hml hv
  obtain ⟨rfl, hP, hK⟩ := hv
  have hx := B.exec
  have hb := B.bytes
  have hr := B.returns
  have hts := atoms_spec (ws := ws_ yX7_keyOf cX7_keyOf 3 (some .int)) B.pre
  have hts : ∀ w ∈ lw_all, w.before _ s = true := fun w h => hts w (List.mem_cons_of_mem _ h)
  have hown : s.vm.findClass RX7 = some m.cls := findClass_of_methodNamed B.named
  have hlocks := B.notSynchronized
  have hS : va_S (mA b) s.heap s.heap [] := va_S.rf
  have hl := lv_entry ([.int p1, .int p2, .int p3]) (n := 3) (Nat.le_of_ble_eq_true rfl)
  rw [lg_entry_eq]
  generalize (lg_sl ([.int p1, .int p2, .int p3]) ++ List.replicate (3 - (lg_sl ([.int p1, .int p2, .int p3])).length) Slot.unset).toArray = ls at hl ⊢
  have hl : lv_has ls 3 [(0, .int p1), (1, .int p2), (2, .int p3)] := hl
  unfold wp_keyOf at h
  refine lv_iload_n hx hb dX7_keyOf_0 rfl (lv_at hl 0 rfl) ?_
  refine lv_iload_n hx hb dX7_keyOf_1 rfl (lv_at hl 1 rfl) ?_
  refine lv_iconst (v := 4) hx hb dX7_keyOf_2 (by decide) ?_
  refine m_ishl hx hb dX7_keyOf_3 ?_
  refine lv_ior hx hb dX7_keyOf_4 ?_
  refine lv_iload_n hx hb dX7_keyOf_5 rfl (lv_at hl 2 rfl) ?_
  refine lv_bipush (v := 8) hx hb dX7_keyOf_6 (by decide) ?_
  refine m_ishl hx hb dX7_keyOf_8 ?_
  refine lv_ior hx hb dX7_keyOf_9 ?_
  exact W.iret (v := ((p1 ||| (jshl p2 4)) ||| (jshl p3 8))) hx hb hr (fun t ht hW => ⟨⟨((p1 ||| (jshl p2 4)) ||| (jshl p3 8)), (), rfl, h, by rw [ht]; exact hP, va_K.moved hW.alike hK⟩, hS.F ht⟩) hS.2.2 dX7_keyOf_10
def wp_coefficient_j60 (p1 : Int32) (p2 : Int32) (p3 : Int32) (p4 : Int32) (post : Int32 → St → Prop)  (S : St) : Prop :=
    wp_refused 2 S (fun r_1 S_2 =>
    post r_1 S_2)
def wp_coefficient (p1 : Int32) (p2 : Int32) (p3 : Int32) (p4 : Int32) (S : St) (post : Int32 → St → Prop) : Prop :=
  ∀ S_3 : St, S_3 = bw S 0 0 0 →
  wp_isReg p1 S_3 (fun r_4 =>
  ((¬ r_4 = 0 →
    wp_isExponent p2 S_3 (fun r_6 =>
    ((r_6 = 0 →
      wp_coefficient_j60 p1 p2 p3 p4 post  S_3) ∧
     (¬ (r_6 = 0) →
      wp_isExponent p3 S_3 (fun r_8 =>
      ((r_8 = 0 →
        wp_coefficient_j60 p1 p2 p3 p4 post  S_3) ∧
       (¬ (r_8 = 0) →
        wp_isExponent p4 S_3 (fun r_10 =>
        ((r_10 = 0 →
          wp_coefficient_j60 p1 p2 p3 p4 post  S_3) ∧
         (¬ (r_10 = 0) →
          wp_keyOf p2 p3 p4 S_3 (fun r_12 =>
          wp_coef p1 r_12 S_3 (fun r_14 =>
          wp_good r_14 S_3 (fun r_16 S_17 =>
          post r_16 S_17))))))))))))) ∧
   (r_4 = 0 →
    wp_refused 1 S_3 (fun r_21 S_22 =>
    post r_21 S_22))))
set_option maxHeartbeats 4000000 in
theorem met_coefficient (l : Launch) (D : va_G) (cI cB : ClassId) (b : Nat) (p1 : Int32) (p2 : Int32) (p3 : Int32) (p4 : Int32)  (S : St) (post : Int32 → St → Prop) (h : wp_coefficient p1 p2 p3 p4 S post) : Met l yX7_coefficient (ws_ yX7_coefficient cX7_coefficient 5 (some .int)) ({ frames := 2, cells := 0, slots := 0, locals := 43 } : Room) (mPc D cI cB b [.ref b, .int p1, .int p2, .int p3, .int p4] S) (mQi D cI cB b post) 0 0 (mA b) := by
  refine Met.ofW (cc := cX7_coefficient) (maxL := 5) (ret := (some .int)) (by decide) rfl ?_
  intro p e s m args below meth c s₁ B hml hv
  obtain ⟨rfl, hP, hK⟩ := hv
  have hx := B.exec
  have hb := B.bytes
  have hr := B.returns
  have hts := atoms_spec (ws := ws_ yX7_coefficient cX7_coefficient 5 (some .int)) B.pre
  have hts : ∀ w ∈ lw_all, w.before _ s = true := fun w h => hts w (List.mem_cons_of_mem _ h)
  have hown : s.vm.findClass RX7 = some m.cls := findClass_of_methodNamed B.named
  have hlocks := B.notSynchronized
  have hS : va_S (mA b) s.heap s.heap [] := va_S.rf
  have hl := lv_entry ([.ref b, .int p1, .int p2, .int p3, .int p4]) (n := 5) (Nat.le_of_ble_eq_true rfl)
  rw [lg_entry_eq]
  generalize (lg_sl ([.ref b, .int p1, .int p2, .int p3, .int p4]) ++ List.replicate (5 - (lg_sl ([.ref b, .int p1, .int p2, .int p3, .int p4])).length) Slot.unset).toArray = ls at hl ⊢
  have hl : lv_has ls 5 [(0, .ref b), (1, .int p1), (2, .int p2), (3, .int p3), (4, .int p4)] := hl
  have J60 : ∀  (S : St) (H : Heap) (locs : List Loc) (ls : Array Slot), wp_coefficient_j60 p1 p2 p3 p4 post  S → mW D cI cB b S H → va_S (mA b) s.heap H locs → lv_has ls 5 [(0, .ref b)] → W p l e (headSpec (ws_ yX7_coefficient cX7_coefficient 5 (some .int)) ({ frames := 2, cells := 0, slots := 0, locals := 43 } : Room)).room s m ([.ref b, .int p1, .int p2, .int p3, .int p4] : List Value).toArray below meth c H locs 0 0 (MQ below (mQi D cI cB b post) ([.ref b, .int p1, .int p2, .int p3, .int p4] : List Value).toArray s 0 0 (mA b)) (F0 m 60 ls []) := by
    intro  S H locs ls h hP hS hl
    unfold wp_coefficient_j60 at h
    refine lv_aload_n hx hb dX7_coefficient_60 rfl (lv_at hl 0 rfl) ?_
    refine lv_iconst (v := 2) hx hb dX7_coefficient_61 (by decide) ?_
    refine m_cVi (As := [.int 2]) (rest := []) ⟨hx, hb, hml, hown, hts⟩ (met_refused l D cI cB b 2  S _ h) (cwV 1 hts (lw_V q1382 q1384 qs58 q128 q1385) rfl rfl rfl cwd_refused ⟨Nat.le_of_ble_eq_true rfl, Nat.le_of_ble_eq_true rfl⟩) hK hP hS rfl hl.1 rfl (Nat.le_of_ble_eq_true rfl) dX7_coefficient_62 ⟨Nat.zero_le _, Nat.zero_le _⟩ (fun r_1 S_2 H locs h hP hS => ?_)
    exact W.iret (v := r_1) hx hb hr (fun t ht hW => ⟨⟨r_1, S_2, rfl, h, by rw [ht]; exact hP, va_K.moved hW.alike hK⟩, hS.F ht⟩) hS.2.2 dX7_coefficient_65
  unfold wp_coefficient at h
  refine lv_aload_n hx hb dX7_coefficient_0 rfl (lv_at hl 0 rfl) ?_
  refine lv_iconst (v := 0) hx hb dX7_coefficient_1 (by decide) ?_
  obtain ⟨S_3, eS_3⟩ : ∃ z : St, z = bw S 0 0 0 := ⟨_, rfl⟩
  have h := h S_3 eS_3
  refine m_put (S1 := S_3) (v := .int 0) (ty := .int) hx hb hts hown hK hP hS 0 (by decide) q1210 rfl rfl (tyX7_ok 0 (by decide)) rfl rfl (by rw [eS_3]; exact mset_0 b S 0) (by rw [eS_3]; exact bw_0) dX7_coefficient_2 (fun H locs hP hS => ?_)
  refine lv_aload_n hx hb dX7_coefficient_5 rfl (lv_at hl 0 rfl) ?_
  refine lv_iload_n hx hb dX7_coefficient_6 rfl (lv_at hl 1 rfl) ?_
  refine m_cVp (As := [.int p1]) (rest := []) ⟨hx, hb, hml, hown, hts⟩ (met_isReg l D cI cB b p1  S_3 _ h) (cwV 1 hts (lw_V q1534 q1536 qs81 q128 q1537) rfl rfl rfl cwd_isReg ⟨Nat.le_of_ble_eq_true rfl, Nat.le_of_ble_eq_true rfl⟩) hK hP hS rfl hl.1 rfl (Nat.le_of_ble_eq_true rfl) dX7_coefficient_7 ⟨Nat.zero_le _, Nat.zero_le _⟩ (fun r_4 H locs h hP hS => ?_)
  refine lv_if_ne (tgt := 19) hx hb dX7_coefficient_10 (by decide) (fun c_23 => ?_) (fun c_23 => ?_)
  · have h := h.1 c_23
    refine lv_iload_n hx hb dX7_coefficient_19 rfl (lv_at hl 2 rfl) ?_
    refine m_cSp (As := [.int p2]) (rest := []) ⟨hx, hb, hml, hown, hts⟩ (met_isExponent l D cI cB b p2  S_3 _ h) (va_cwS 1 hts (lw_S q1567 q1568 q128 q1569) rfl rfl rfl cwd_isExponent ⟨Nat.le_of_ble_eq_true rfl, Nat.le_of_ble_eq_true rfl⟩) hK hP hS rfl hl.1 rfl (Nat.le_of_ble_eq_true rfl) dX7_coefficient_20 ⟨Nat.zero_le _, Nat.zero_le _⟩ (fun r_6 H locs h hP hS => ?_)
    refine lv_if_eq (tgt := 60) hx hb dX7_coefficient_23 (by decide) (fun c_20 => ?_) (fun c_20 => ?_)
    · have h := h.1 c_20
      exact J60  _ _ _ _ h hP hS (lv_sub hl [0] rfl)
    · have h := h.2 c_20
      refine lv_iload_n hx hb dX7_coefficient_26 rfl (lv_at hl 3 rfl) ?_
      refine m_cSp (As := [.int p3]) (rest := []) ⟨hx, hb, hml, hown, hts⟩ (met_isExponent l D cI cB b p3  S_3 _ h) (va_cwS 1 hts (lw_S q1567 q1568 q128 q1569) rfl rfl rfl cwd_isExponent ⟨Nat.le_of_ble_eq_true rfl, Nat.le_of_ble_eq_true rfl⟩) hK hP hS rfl hl.1 rfl (Nat.le_of_ble_eq_true rfl) dX7_coefficient_27 ⟨Nat.zero_le _, Nat.zero_le _⟩ (fun r_8 H locs h hP hS => ?_)
      refine lv_if_eq (tgt := 60) hx hb dX7_coefficient_30 (by decide) (fun c_19 => ?_) (fun c_19 => ?_)
      · have h := h.1 c_19
        exact J60  _ _ _ _ h hP hS (lv_sub hl [0] rfl)
      · have h := h.2 c_19
        refine lv_iload hx hb dX7_coefficient_33 (lv_at hl 4 rfl) ?_
        refine m_cSp (As := [.int p4]) (rest := []) ⟨hx, hb, hml, hown, hts⟩ (met_isExponent l D cI cB b p4  S_3 _ h) (va_cwS 1 hts (lw_S q1567 q1568 q128 q1569) rfl rfl rfl cwd_isExponent ⟨Nat.le_of_ble_eq_true rfl, Nat.le_of_ble_eq_true rfl⟩) hK hP hS rfl hl.1 rfl (Nat.le_of_ble_eq_true rfl) dX7_coefficient_35 ⟨Nat.zero_le _, Nat.zero_le _⟩ (fun r_10 H locs h hP hS => ?_)
        refine lv_if_eq (tgt := 60) hx hb dX7_coefficient_38 (by decide) (fun c_18 => ?_) (fun c_18 => ?_)
        · have h := h.1 c_18
          exact J60  _ _ _ _ h hP hS (lv_sub hl [0] rfl)
        · have h := h.2 c_18
          refine lv_aload_n hx hb dX7_coefficient_41 rfl (lv_at hl 0 rfl) ?_
          refine lv_aload_n hx hb dX7_coefficient_42 rfl (lv_at hl 0 rfl) ?_
          refine lv_iload_n hx hb dX7_coefficient_43 rfl (lv_at hl 1 rfl) ?_
          refine lv_iload_n hx hb dX7_coefficient_44 rfl (lv_at hl 2 rfl) ?_
          refine lv_iload_n hx hb dX7_coefficient_45 rfl (lv_at hl 3 rfl) ?_
          refine lv_iload hx hb dX7_coefficient_46 (lv_at hl 4 rfl) ?_
          refine m_cSp (As := [.int p2, .int p3, .int p4]) (rest := [.int p1, .ref b, .ref b]) ⟨hx, hb, hml, hown, hts⟩ (met_keyOf l D cI cB b p2 p3 p4  S_3 _ h) (va_cwS 3 hts (lw_S q1570 q1571 q128 q1572) rfl rfl rfl cwd_keyOf ⟨Nat.le_of_ble_eq_true rfl, Nat.le_of_ble_eq_true rfl⟩) hK hP hS rfl hl.1 rfl (Nat.le_of_ble_eq_true rfl) dX7_coefficient_48 ⟨Nat.zero_le _, Nat.zero_le _⟩ (fun r_12 H locs h hP hS => ?_)
          refine m_cVp (As := [.int p1, .int r_12]) (rest := [.ref b]) ⟨hx, hb, hml, hown, hts⟩ (met_coef l D cI cB b p1 r_12  S_3 _ h) (cwV 2 hts (lw_V q1526 q1528 qs80 q128 q1529) rfl rfl rfl cwd_coef ⟨Nat.le_of_ble_eq_true rfl, Nat.le_of_ble_eq_true rfl⟩) hK hP hS rfl hl.1 rfl (Nat.le_of_ble_eq_true rfl) dX7_coefficient_51 ⟨Nat.zero_le _, Nat.zero_le _⟩ (fun r_14 H locs h hP hS => ?_)
          refine m_cVi (As := [.int r_14]) (rest := []) ⟨hx, hb, hml, hown, hts⟩ (met_good l D cI cB b r_14  S_3 _ h) (cwV 1 hts (lw_V q1498 q1500 qs76 q128 q1501) rfl rfl rfl cwd_good ⟨Nat.le_of_ble_eq_true rfl, Nat.le_of_ble_eq_true rfl⟩) hK hP hS rfl hl.1 rfl (Nat.le_of_ble_eq_true rfl) dX7_coefficient_54 ⟨Nat.zero_le _, Nat.zero_le _⟩ (fun r_16 S_17 H locs h hP hS => ?_)
          refine lv_goto (tgt := 65) hx hb dX7_coefficient_57 (by decide) ?_
          exact W.iret (v := r_16) hx hb hr (fun t ht hW => ⟨⟨r_16, S_17, rfl, h, by rw [ht]; exact hP, va_K.moved hW.alike hK⟩, hS.F ht⟩) hS.2.2 dX7_coefficient_65
  · have h := h.2 c_23
    refine lv_aload_n hx hb dX7_coefficient_13 rfl (lv_at hl 0 rfl) ?_
    refine lv_iconst (v := 1) hx hb dX7_coefficient_14 (by decide) ?_
    refine m_cVi (As := [.int 1]) (rest := []) ⟨hx, hb, hml, hown, hts⟩ (met_refused l D cI cB b 1  S_3 _ h) (cwV 1 hts (lw_V q1382 q1384 qs58 q128 q1385) rfl rfl rfl cwd_refused ⟨Nat.le_of_ble_eq_true rfl, Nat.le_of_ble_eq_true rfl⟩) hK hP hS rfl hl.1 rfl (Nat.le_of_ble_eq_true rfl) dX7_coefficient_15 ⟨Nat.zero_le _, Nat.zero_le _⟩ (fun r_21 S_22 H locs h hP hS => ?_)
    exact W.iret (v := r_21) hx hb hr (fun t ht hW => ⟨⟨r_21, S_22, rfl, h, by rw [ht]; exact hP, va_K.moved hW.alike hK⟩, hS.F ht⟩) hS.2.2 dX7_coefficient_18
def wp_isValue (p1 : Int32) (S : St) (post : Int32 → Prop) : Prop :=
  wp_in p1 0 ((S 0 5) - 1) S (fun r_1 =>
  r_1 &&& 1 = r_1 ∧ post r_1)
set_option maxHeartbeats 4000000 in
theorem met_isValue (l : Launch) (D : va_G) (cI cB : ClassId) (b : Nat) (p1 : Int32)  (S : St) (post : Int32 → Prop) (h : wp_isValue p1 S post) : Met l yX7_isValue (ws_ yX7_isValue cX7_isValue 2 (some .boolean)) ({ frames := 1, cells := 0, slots := 0, locals := 22 } : Room) (mPc D cI cB b [.ref b, .int p1] S) (mQp D cI cB b S post) 0 0 (mA b) := by
  refine Met.ofW (cc := cX7_isValue) (maxL := 2) (ret := (some .boolean)) (by decide) rfl ?_
  intro p e s m args below meth c s₁ B hml hv
  obtain ⟨rfl, hP, hK⟩ := hv
  have hx := B.exec
  have hb := B.bytes
  have hr := B.returns
  have hts := atoms_spec (ws := ws_ yX7_isValue cX7_isValue 2 (some .boolean)) B.pre
  have hts : ∀ w ∈ lw_all, w.before _ s = true := fun w h => hts w (List.mem_cons_of_mem _ h)
  have hown : s.vm.findClass RX7 = some m.cls := findClass_of_methodNamed B.named
  have hlocks := B.notSynchronized
  have hS : va_S (mA b) s.heap s.heap [] := va_S.rf
  have hl := lv_entry ([.ref b, .int p1]) (n := 2) (Nat.le_of_ble_eq_true rfl)
  rw [lg_entry_eq]
  generalize (lg_sl ([.ref b, .int p1]) ++ List.replicate (2 - (lg_sl ([.ref b, .int p1])).length) Slot.unset).toArray = ls at hl ⊢
  have hl : lv_has ls 2 [(0, .ref b), (1, .int p1)] := hl
  unfold wp_isValue at h
  refine lv_iload_n hx hb dX7_isValue_0 rfl (lv_at hl 1 rfl) ?_
  refine lv_iconst (v := 0) hx hb dX7_isValue_1 (by decide) ?_
  refine lv_aload_n hx hb dX7_isValue_2 rfl (lv_at hl 0 rfl) ?_
  refine m_get (v := .int (S 0 5)) hx hb hts hown hK hP 5 (by decide) q1215 rfl rfl dX7_isValue_3 ?_
  refine lv_iconst (v := 1) hx hb dX7_isValue_6 (by decide) ?_
  refine lv_isub hx hb dX7_isValue_7 ?_
  refine m_cSp (As := [.int p1, .int 0, .int ((S 0 5) - 1)]) (rest := []) ⟨hx, hb, hml, hown, hts⟩ (met_in l D cI cB b p1 0 ((S 0 5) - 1)  S _ h) (va_cwS 3 hts (lw_S q1398 q1399 q128 q1400) rfl rfl rfl cwd_in ⟨Nat.le_of_ble_eq_true rfl, Nat.le_of_ble_eq_true rfl⟩) hK hP hS rfl hl.1 rfl (Nat.le_of_ble_eq_true rfl) dX7_isValue_8 ⟨Nat.zero_le _, Nat.zero_le _⟩ (fun r_1 H locs h hP hS => ?_)
  obtain ⟨hz, h⟩ := h
  exact W.zret (v := r_1) hx hb hr (congrArg Value.int hz) (fun t ht hW => ⟨⟨r_1, (), rfl, h, by rw [ht]; exact hP, va_K.moved hW.alike hK⟩, hS.F ht⟩) hS.2.2 dX7_isValue_11
