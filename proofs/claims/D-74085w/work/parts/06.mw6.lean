set_option maxRecDepth 100000
def wp_goesBy_j138 (p1 : Nat) (p2 : Nat) (p3 : Nat) (post : St → Prop) (R46 : Int32 → St → Prop) (x4 : Int32) (x5 : Int32) (x6 : Int32) (S : St) : Prop :=
        ∀ x6_1 : Int32, x6_1 = x6 + (-1) →
        R46 x6_1 S
def wp_goesBy_b87 (p1 : Nat) (p2 : Nat) (p3 : Nat) (post : St → Prop) (R46 : Int32 → St → Prop) (R87 : Int32 → St → Prop) (x4 : Int32) (x5 : Int32) (x6 : Int32) (x7 : Int32) (x8 : Int32) (S : St) : Prop :=
          ((x4 < x8 →
            wp_goesBy_j138 p1 p2 p3 post R46 x4 x5 x6 S) ∧
           (¬ (x4 < x8) →
            ∃ j_2 : Nat, j_2 < mlen p1 ∧ ((x6 - x4) + x8) = nI j_2 ∧
            ∃ j_3 : Nat, j_3 < mlen p2 ∧ x8 = nI j_3 ∧
            ¬ (S 0 5) = 0 ∧
            ∃ j_4 : Nat, j_4 < mlen p1 ∧ ((x6 - x4) + x8) = nI j_4 ∧ ∀ S_5 : St, S_5 = bw S p1 j_4 (jrem ((S p1 j_2) + (((S 0 5) - x7) * (S p2 j_3))) (S 0 5)) →
            ∀ x8_6 : Int32, x8_6 = x8 + 1 →
            R87 x8_6 S_5))
def wp_goesBy_l87 (p1 : Nat) (p2 : Nat) (p3 : Nat) (post : St → Prop) (R46 : Int32 → St → Prop) (x4 : Int32) (x5 : Int32) (x6 : Int32) (x7 : Int32) (x8 : Int32) (S : St) : Prop := wLoop (fun (R : (Int32 × St) → Prop) (v : Int32 × St) => wp_goesBy_b87 p1 p2 p3 post R46 (fun x8 S => R (x8, S)) x4 x5 x6 x7 v.1 v.2) (x8, S)
def wp_goesBy_b46 (p1 : Nat) (p2 : Nat) (p3 : Nat) (post : St → Prop) (R46 : Int32 → St → Prop) (x4 : Int32) (x5 : Int32) (x6 : Int32) (S : St) : Prop :=
      ((x6 < x4 →
        post S) ∧
       (¬ (x6 < x4) →
        ∃ j_8 : Nat, j_8 < mlen p1 ∧ x6 = nI j_8 ∧
        ¬ (S 0 5) = 0 ∧
        ∀ x7_9 : Int32, x7_9 = (jrem ((S p1 j_8) * x5) (S 0 5)) →
        ((¬ x7_9 = 0 →
          ∃ j_10 : Nat, j_10 < mlen p3 ∧ (x6 - x4) = nI j_10 ∧ ∀ S_11 : St, S_11 = bw S p3 j_10 x7_9 →
          wp_goesBy_l87 p1 p2 p3 post R46 x4 x5 x6 x7_9 0 S_11) ∧
         (x7_9 = 0 →
          wp_goesBy_j138 p1 p2 p3 post R46 x4 x5 x6 S))))
def wp_goesBy_l46 (p1 : Nat) (p2 : Nat) (p3 : Nat) (post : St → Prop) (x4 : Int32) (x5 : Int32) (x6 : Int32) (S : St) : Prop := wLoop (fun (R : (Int32 × St) → Prop) (v : Int32 × St) => wp_goesBy_b46 p1 p2 p3 post (fun x6 S => R (x6, S)) x4 x5 v.1 v.2) (x6, S)
def wp_goesBy_b20 (p1 : Nat) (p2 : Nat) (p3 : Nat) (post : St → Prop) (R20 : Int32 → St → Prop) (x4 : Int32) (x5 : Int32) (x6 : Int32) (S : St) : Prop :=
      ((2304 ≤ x6 →
        wp_heightOf p1 0 S (fun r_14 =>
        wp_goesBy_l46 p1 p2 p3 post x4 x5 r_14 S)) ∧
       (¬ (2304 ≤ x6) →
        ∃ j_16 : Nat, j_16 < mlen p3 ∧ x6 = nI j_16 ∧ ∀ S_17 : St, S_17 = bw S p3 j_16 0 →
        ∀ x6_18 : Int32, x6_18 = x6 + 1 →
        R20 x6_18 S_17))
def wp_goesBy_l20 (p1 : Nat) (p2 : Nat) (p3 : Nat) (post : St → Prop) (x4 : Int32) (x5 : Int32) (x6 : Int32) (S : St) : Prop := wLoop (fun (R : (Int32 × St) → Prop) (v : Int32 × St) => wp_goesBy_b20 p1 p2 p3 post (fun x6 S => R (x6, S)) x4 x5 v.1 v.2) (x6, S)
def wp_goesBy (p1 : Nat) (p2 : Nat) (p3 : Nat) (S : St) (post : St → Prop) : Prop :=
  wp_heightOf p2 0 S (fun r_20 =>
  ∃ j_22 : Nat, j_22 < mlen p2 ∧ r_20 = nI j_22 ∧
  wp_inverse (S p2 j_22) S (fun r_23 =>
  wp_goesBy_l20 p1 p2 p3 post r_20 r_23 0 S))
set_option maxHeartbeats 4000000 in
theorem met_goesBy (l : Launch) (D : va_G) (cI cB : ClassId) (b : Nat) (p1 : Nat) (p2 : Nat) (p3 : Nat) (hp1 : mok p1) (hp2 : mok p2) (hp3 : mok p3) (S : St) (post : St → Prop) (h : wp_goesBy p1 p2 p3 S post) : Met l yX7_goesBy (ws_ yX7_goesBy cX7_goesBy 9 none) ({ frames := 1, cells := 0, slots := 0, locals := 22 } : Room) (mPc D cI cB b [.ref b, .ref (b + p1), .ref (b + p2), .ref (b + p3)] S) (mQv D cI cB b post) 0 0 (mA b) := by
  refine Met.ofW (cc := cX7_goesBy) (maxL := 9) (ret := none) (by decide) rfl ?_
  intro p e s m args below meth c s₁ B hml hv
  obtain ⟨rfl, hP, hK⟩ := hv
  have hx := B.exec
  have hb := B.bytes
  have hr := B.returns
  have hts := atoms_spec (ws := ws_ yX7_goesBy cX7_goesBy 9 none) B.pre
  have hts : ∀ w ∈ lw_all, w.before _ s = true := fun w h => hts w (List.mem_cons_of_mem _ h)
  have hown : s.vm.findClass RX7 = some m.cls := findClass_of_methodNamed B.named
  have hlocks := B.notSynchronized
  have hS : va_S (mA b) s.heap s.heap [] := va_S.rf
  have hl := lv_entry ([.ref b, .ref (b + p1), .ref (b + p2), .ref (b + p3)]) (n := 9) (Nat.le_of_ble_eq_true rfl)
  rw [lg_entry_eq]
  generalize (lg_sl ([.ref b, .ref (b + p1), .ref (b + p2), .ref (b + p3)]) ++ List.replicate (9 - (lg_sl ([.ref b, .ref (b + p1), .ref (b + p2), .ref (b + p3)])).length) Slot.unset).toArray = ls at hl ⊢
  have hl : lv_has ls 9 [(0, .ref b), (1, .ref (b + p1)), (2, .ref (b + p2)), (3, .ref (b + p3))] := hl
  have L46 : ∀ (x4 : Int32) (x5 : Int32) (x6 : Int32) (S : St) (H : Heap) (locs : List Loc) (ls : Array Slot), wp_goesBy_l46 p1 p2 p3 post x4 x5 x6 S → mW D cI cB b S H → va_S (mA b) s.heap H locs → lv_has ls 9 [(0, .ref b), (1, .ref (b + p1)), (2, .ref (b + p2)), (3, .ref (b + p3)), (4, .int x4), (5, .int x5), (6, .int x6)] → W p l e (headSpec (ws_ yX7_goesBy cX7_goesBy 9 none) ({ frames := 1, cells := 0, slots := 0, locals := 22 } : Room)).room s m ([.ref b, .ref (b + p1), .ref (b + p2), .ref (b + p3)] : List Value).toArray below meth c H locs 0 0 (MQ below (mQv D cI cB b post) ([.ref b, .ref (b + p1), .ref (b + p2), .ref (b + p3)] : List Value).toArray s 0 0 (mA b)) (F0 m 46 ls []) := by
    intro x4 x5 x6 S H locs ls h hP hS hl
    obtain ⟨I46, n46, hI, hstep46⟩ := h
    induction n46 using Nat.strongRecOn generalizing x6 S H locs ls with
    | ind n46 ih46 =>
      have h : wp_goesBy_b46 p1 p2 p3 post (fun x6 S => ∃ mm, mm < n46 ∧ I46 mm (x6, S)) x4 x5 x6 S := hstep46 n46 _ hI
      clear hI
      have J138 : ∀ (x6 : Int32) (S : St) (H : Heap) (locs : List Loc) (ls : Array Slot), wp_goesBy_j138 p1 p2 p3 post (fun x6 S => ∃ mm, mm < n46 ∧ I46 mm (x6, S)) x4 x5 x6 S → mW D cI cB b S H → va_S (mA b) s.heap H locs → lv_has ls 9 [(0, .ref b), (1, .ref (b + p1)), (2, .ref (b + p2)), (3, .ref (b + p3)), (4, .int x4), (5, .int x5), (6, .int x6)] → W p l e (headSpec (ws_ yX7_goesBy cX7_goesBy 9 none) ({ frames := 1, cells := 0, slots := 0, locals := 22 } : Room)).room s m ([.ref b, .ref (b + p1), .ref (b + p2), .ref (b + p3)] : List Value).toArray below meth c H locs 0 0 (MQ below (mQv D cI cB b post) ([.ref b, .ref (b + p1), .ref (b + p2), .ref (b + p3)] : List Value).toArray s 0 0 (mA b)) (F0 m 138 ls []) := by
        intro x6 S H locs ls h hP hS hl
        unfold wp_goesBy_j138 at h
        obtain ⟨x6_1, ex6_1⟩ : ∃ y : Int32, y = x6 + (-1) := ⟨_, rfl⟩
        have h := h x6_1 ex6_1
        refine lv_iinc (v := x6_1) (lv' := [(6, .int x6_1), (0, .ref b), (1, .ref (b + p1)), (2, .ref (b + p2)), (3, .ref (b + p3)), (4, .int x4), (5, .int x5)]) hx hb dX7_goesBy_138 hl (k := 6) rfl (by rw [ex6_1]; rfl) (by decide) rfl (fun ls hl => ?_)
        refine lv_goto (tgt := 46) hx hb dX7_goesBy_141 (by decide) ?_
        obtain ⟨mm, hmm, h⟩ := h
        exact ih46 mm hmm _ _ _ _ _ hP hS (lv_sub hl [1, 2, 3, 4, 5, 6, 0] rfl) h
      have L87 : ∀ (x6 : Int32) (x7 : Int32) (x8 : Int32) (S : St) (H : Heap) (locs : List Loc) (ls : Array Slot), wp_goesBy_l87 p1 p2 p3 post (fun x6 S => ∃ mm, mm < n46 ∧ I46 mm (x6, S)) x4 x5 x6 x7 x8 S → mW D cI cB b S H → va_S (mA b) s.heap H locs → lv_has ls 9 [(0, .ref b), (1, .ref (b + p1)), (2, .ref (b + p2)), (3, .ref (b + p3)), (4, .int x4), (5, .int x5), (6, .int x6), (7, .int x7), (8, .int x8)] → W p l e (headSpec (ws_ yX7_goesBy cX7_goesBy 9 none) ({ frames := 1, cells := 0, slots := 0, locals := 22 } : Room)).room s m ([.ref b, .ref (b + p1), .ref (b + p2), .ref (b + p3)] : List Value).toArray below meth c H locs 0 0 (MQ below (mQv D cI cB b post) ([.ref b, .ref (b + p1), .ref (b + p2), .ref (b + p3)] : List Value).toArray s 0 0 (mA b)) (F0 m 87 ls []) := by
        intro x6 x7 x8 S H locs ls h hP hS hl
        obtain ⟨I87, n87, hI, hstep87⟩ := h
        induction n87 using Nat.strongRecOn generalizing x8 S H locs ls with
        | ind n87 ih87 =>
          have h : wp_goesBy_b87 p1 p2 p3 post (fun x6 S => ∃ mm, mm < n46 ∧ I46 mm (x6, S)) (fun x8 S => ∃ mm, mm < n87 ∧ I87 mm (x8, S)) x4 x5 x6 x7 x8 S := hstep87 n87 _ hI
          clear hI
          unfold wp_goesBy_b87 at h
          refine lv_iload hx hb dX7_goesBy_87 (lv_at hl 8 rfl) ?_
          refine lv_iload hx hb dX7_goesBy_89 (lv_at hl 4 rfl) ?_
          refine lv_icmp_gt (tgt := 138) hx hb dX7_goesBy_91 (by decide) (fun c_7 => ?_) (fun c_7 => ?_)
          · have h := h.1 c_7
            exact J138 _ _ _ _ _ h hP hS (lv_sub hl [0, 1, 2, 3, 4, 5, 6] rfl)
          · have h := h.2 c_7
            refine lv_aload_n hx hb dX7_goesBy_94 rfl (lv_at hl 1 rfl) ?_
            refine lv_iload hx hb dX7_goesBy_95 (lv_at hl 6 rfl) ?_
            refine lv_iload hx hb dX7_goesBy_97 (lv_at hl 4 rfl) ?_
            refine lv_isub hx hb dX7_goesBy_99 ?_
            refine lv_iload hx hb dX7_goesBy_100 (lv_at hl 8 rfl) ?_
            refine lv_iadd hx hb dX7_goesBy_102 ?_
            refine lv_aload_n hx hb dX7_goesBy_103 rfl (lv_at hl 1 rfl) ?_
            refine lv_iload hx hb dX7_goesBy_104 (lv_at hl 6 rfl) ?_
            refine lv_iload hx hb dX7_goesBy_106 (lv_at hl 4 rfl) ?_
            refine lv_isub hx hb dX7_goesBy_108 ?_
            refine lv_iload hx hb dX7_goesBy_109 (lv_at hl 8 rfl) ?_
            refine lv_iadd hx hb dX7_goesBy_111 ?_
            obtain ⟨j_2, hj_2, ej_2, h⟩ := h
            refine m_iald hx hb hK hP (k := p1) hp1 ej_2 hj_2 dX7_goesBy_112 ?_
            refine lv_aload_n hx hb dX7_goesBy_113 rfl (lv_at hl 0 rfl) ?_
            refine m_get (v := .int (S 0 5)) hx hb hts hown hK hP 5 (by decide) q1215 rfl rfl dX7_goesBy_114 ?_
            refine lv_iload hx hb dX7_goesBy_117 (lv_at hl 7 rfl) ?_
            refine lv_isub hx hb dX7_goesBy_119 ?_
            refine lv_aload_n hx hb dX7_goesBy_120 rfl (lv_at hl 2 rfl) ?_
            refine lv_iload hx hb dX7_goesBy_121 (lv_at hl 8 rfl) ?_
            obtain ⟨j_3, hj_3, ej_3, h⟩ := h
            refine m_iald hx hb hK hP (k := p2) hp2 ej_3 hj_3 dX7_goesBy_123 ?_
            refine lv_imul hx hb dX7_goesBy_124 ?_
            refine lv_iadd hx hb dX7_goesBy_125 ?_
            refine lv_aload_n hx hb dX7_goesBy_126 rfl (lv_at hl 0 rfl) ?_
            refine m_get (v := .int (S 0 5)) hx hb hts hown hK hP 5 (by decide) q1215 rfl rfl dX7_goesBy_127 ?_
            obtain ⟨hne, h⟩ := h
            refine m_irem hx hb dX7_goesBy_130 hne ?_
            obtain ⟨j_4, hj_4, ej_4, h⟩ := h
            obtain ⟨S_5, eS_5⟩ : ∃ z : St, z = bw S p1 j_4 (jrem ((S p1 j_2) + (((S 0 5) - x7) * (S p2 j_3))) (S 0 5)) := ⟨_, rfl⟩
            have h := h S_5 eS_5
            refine m_iast hx hb hK hP hS (k := p1) hp1 ej_4 hj_4 dX7_goesBy_131 (fun H locs hP hS => ?_)
            rw [← eS_5] at hP
            obtain ⟨x8_6, ex8_6⟩ : ∃ y : Int32, y = x8 + 1 := ⟨_, rfl⟩
            have h := h x8_6 ex8_6
            refine lv_iinc (v := x8_6) (lv' := [(8, .int x8_6), (0, .ref b), (1, .ref (b + p1)), (2, .ref (b + p2)), (3, .ref (b + p3)), (4, .int x4), (5, .int x5), (6, .int x6), (7, .int x7)]) hx hb dX7_goesBy_132 hl (k := 8) rfl (by rw [ex8_6]; rfl) (by decide) rfl (fun ls hl => ?_)
            refine lv_goto (tgt := 87) hx hb dX7_goesBy_135 (by decide) ?_
            obtain ⟨mm, hmm, h⟩ := h
            exact ih87 mm hmm _ _ _ _ _ hP hS (lv_sub hl [1, 2, 3, 4, 5, 6, 7, 8, 0] rfl) h
      unfold wp_goesBy_b46 at h
      refine lv_iload hx hb dX7_goesBy_46 (lv_at hl 6 rfl) ?_
      refine lv_iload hx hb dX7_goesBy_48 (lv_at hl 4 rfl) ?_
      refine lv_icmp_lt (tgt := 144) hx hb dX7_goesBy_50 (by decide) (fun c_13 => ?_) (fun c_13 => ?_)
      · have h := h.1 c_13
        exact W.vret hx hb hr (fun t ht hW => ⟨⟨S, rfl, h, by rw [ht]; exact hP, va_K.moved hW.alike hK⟩, hS.F ht⟩) hS.2.2 dX7_goesBy_144
      · have h := h.2 c_13
        refine lv_aload_n hx hb dX7_goesBy_53 rfl (lv_at hl 1 rfl) ?_
        refine lv_iload hx hb dX7_goesBy_54 (lv_at hl 6 rfl) ?_
        obtain ⟨j_8, hj_8, ej_8, h⟩ := h
        refine m_iald hx hb hK hP (k := p1) hp1 ej_8 hj_8 dX7_goesBy_56 ?_
        refine lv_iload hx hb dX7_goesBy_57 (lv_at hl 5 rfl) ?_
        refine lv_imul hx hb dX7_goesBy_59 ?_
        refine lv_aload_n hx hb dX7_goesBy_60 rfl (lv_at hl 0 rfl) ?_
        refine m_get (v := .int (S 0 5)) hx hb hts hown hK hP 5 (by decide) q1215 rfl rfl dX7_goesBy_61 ?_
        obtain ⟨hne, h⟩ := h
        refine m_irem hx hb dX7_goesBy_64 hne ?_
        refine lv_topi (fun x7_9 ex7_9 => ?_)
        have h := h x7_9 ex7_9
        refine lv_istore (lv' := [(7, .int x7_9), (0, .ref b), (1, .ref (b + p1)), (2, .ref (b + p2)), (3, .ref (b + p3)), (4, .int x4), (5, .int x5), (6, .int x6)]) hx hb dX7_goesBy_65 hl (by decide) rfl (fun ls hl => ?_)
        refine lv_iload hx hb dX7_goesBy_67 (lv_at hl 0 rfl) ?_
        refine lv_if_ne (tgt := 75) hx hb dX7_goesBy_69 (by decide) (fun c_12 => ?_) (fun c_12 => ?_)
        · have h := h.1 c_12
          refine lv_aload_n hx hb dX7_goesBy_75 rfl (lv_at hl 4 rfl) ?_
          refine lv_iload hx hb dX7_goesBy_76 (lv_at hl 7 rfl) ?_
          refine lv_iload hx hb dX7_goesBy_78 (lv_at hl 5 rfl) ?_
          refine lv_isub hx hb dX7_goesBy_80 ?_
          refine lv_iload hx hb dX7_goesBy_81 (lv_at hl 0 rfl) ?_
          obtain ⟨j_10, hj_10, ej_10, h⟩ := h
          obtain ⟨S_11, eS_11⟩ : ∃ z : St, z = bw S p3 j_10 x7_9 := ⟨_, rfl⟩
          have h := h S_11 eS_11
          refine m_iast hx hb hK hP hS (k := p3) hp3 ej_10 hj_10 dX7_goesBy_83 (fun H locs hP hS => ?_)
          rw [← eS_11] at hP
          refine lv_iconst (v := 0) hx hb dX7_goesBy_84 (by decide) ?_
          refine lv_istore (lv' := [(8, .int 0), (7, .int x7_9), (0, .ref b), (1, .ref (b + p1)), (2, .ref (b + p2)), (3, .ref (b + p3)), (4, .int x4), (5, .int x5), (6, .int x6)]) hx hb dX7_goesBy_85 hl (by decide) rfl (fun ls hl => ?_)
          exact L87 _ _ _ _ _ _ _ h hP hS (lv_sub hl [2, 3, 4, 5, 6, 7, 8, 1, 0] rfl)
        · have h := h.2 c_12
          refine lv_goto (tgt := 138) hx hb dX7_goesBy_72 (by decide) ?_
          exact J138 _ _ _ _ _ h hP hS (lv_sub hl [1, 2, 3, 4, 5, 6, 7] rfl)
  have L20 : ∀ (x4 : Int32) (x5 : Int32) (x6 : Int32) (S : St) (H : Heap) (locs : List Loc) (ls : Array Slot), wp_goesBy_l20 p1 p2 p3 post x4 x5 x6 S → mW D cI cB b S H → va_S (mA b) s.heap H locs → lv_has ls 9 [(0, .ref b), (1, .ref (b + p1)), (2, .ref (b + p2)), (3, .ref (b + p3)), (4, .int x4), (5, .int x5), (6, .int x6)] → W p l e (headSpec (ws_ yX7_goesBy cX7_goesBy 9 none) ({ frames := 1, cells := 0, slots := 0, locals := 22 } : Room)).room s m ([.ref b, .ref (b + p1), .ref (b + p2), .ref (b + p3)] : List Value).toArray below meth c H locs 0 0 (MQ below (mQv D cI cB b post) ([.ref b, .ref (b + p1), .ref (b + p2), .ref (b + p3)] : List Value).toArray s 0 0 (mA b)) (F0 m 20 ls []) := by
    intro x4 x5 x6 S H locs ls h hP hS hl
    obtain ⟨I20, n20, hI, hstep20⟩ := h
    induction n20 using Nat.strongRecOn generalizing x6 S H locs ls with
    | ind n20 ih20 =>
      have h : wp_goesBy_b20 p1 p2 p3 post (fun x6 S => ∃ mm, mm < n20 ∧ I20 mm (x6, S)) x4 x5 x6 S := hstep20 n20 _ hI
      clear hI
      unfold wp_goesBy_b20 at h
      refine lv_iload hx hb dX7_goesBy_20 (lv_at hl 6 rfl) ?_
      refine lv_sipush (v := 2304) hx hb dX7_goesBy_22 (by decide) ?_
      refine lv_icmp_ge (tgt := 39) hx hb dX7_goesBy_25 (by decide) (fun c_19 => ?_) (fun c_19 => ?_)
      · have h := h.1 c_19
        refine lv_aload_n hx hb dX7_goesBy_39 rfl (lv_at hl 1 rfl) ?_
        refine lv_iconst (v := 0) hx hb dX7_goesBy_40 (by decide) ?_
        refine m_cSp (As := [.ref (b + p1), .int 0]) (rest := []) ⟨hx, hb, hml, hown, hts⟩ (met_heightOf l D cI cB b p1 0 hp1 S _ h) (va_cwS 2 hts (lw_S q1760 q1761 q128 q1762) rfl rfl rfl cwd_heightOf ⟨Nat.le_of_ble_eq_true rfl, Nat.le_of_ble_eq_true rfl⟩) hK hP hS rfl hl.1 rfl (Nat.le_of_ble_eq_true rfl) dX7_goesBy_41 ⟨Nat.zero_le _, Nat.zero_le _⟩ (fun r_14 H locs h hP hS => ?_)
        refine lv_istore (lv' := [(6, .int r_14), (0, .ref b), (1, .ref (b + p1)), (2, .ref (b + p2)), (3, .ref (b + p3)), (4, .int x4), (5, .int x5)]) hx hb dX7_goesBy_44 hl (by decide) rfl (fun ls hl => ?_)
        exact L46 _ _ _ _ _ _ _ h hP hS (lv_sub hl [1, 2, 3, 4, 5, 6, 0] rfl)
      · have h := h.2 c_19
        refine lv_aload_n hx hb dX7_goesBy_28 rfl (lv_at hl 3 rfl) ?_
        refine lv_iload hx hb dX7_goesBy_29 (lv_at hl 6 rfl) ?_
        refine lv_iconst (v := 0) hx hb dX7_goesBy_31 (by decide) ?_
        obtain ⟨j_16, hj_16, ej_16, h⟩ := h
        obtain ⟨S_17, eS_17⟩ : ∃ z : St, z = bw S p3 j_16 0 := ⟨_, rfl⟩
        have h := h S_17 eS_17
        refine m_iast hx hb hK hP hS (k := p3) hp3 ej_16 hj_16 dX7_goesBy_32 (fun H locs hP hS => ?_)
        rw [← eS_17] at hP
        obtain ⟨x6_18, ex6_18⟩ : ∃ y : Int32, y = x6 + 1 := ⟨_, rfl⟩
        have h := h x6_18 ex6_18
        refine lv_iinc (v := x6_18) (lv' := [(6, .int x6_18), (0, .ref b), (1, .ref (b + p1)), (2, .ref (b + p2)), (3, .ref (b + p3)), (4, .int x4), (5, .int x5)]) hx hb dX7_goesBy_33 hl (k := 6) rfl (by rw [ex6_18]; rfl) (by decide) rfl (fun ls hl => ?_)
        refine lv_goto (tgt := 20) hx hb dX7_goesBy_36 (by decide) ?_
        obtain ⟨mm, hmm, h⟩ := h
        exact ih20 mm hmm _ _ _ _ _ hP hS (lv_sub hl [1, 2, 3, 4, 5, 6, 0] rfl) h
  unfold wp_goesBy at h
  refine lv_aload_n hx hb dX7_goesBy_0 rfl (lv_at hl 2 rfl) ?_
  refine lv_iconst (v := 0) hx hb dX7_goesBy_1 (by decide) ?_
  refine m_cSp (As := [.ref (b + p2), .int 0]) (rest := []) ⟨hx, hb, hml, hown, hts⟩ (met_heightOf l D cI cB b p2 0 hp2 S _ h) (va_cwS 2 hts (lw_S q1760 q1761 q128 q1762) rfl rfl rfl cwd_heightOf ⟨Nat.le_of_ble_eq_true rfl, Nat.le_of_ble_eq_true rfl⟩) hK hP hS rfl hl.1 rfl (Nat.le_of_ble_eq_true rfl) dX7_goesBy_2 ⟨Nat.zero_le _, Nat.zero_le _⟩ (fun r_20 H locs h hP hS => ?_)
  refine lv_istore (lv' := [(4, .int r_20), (0, .ref b), (1, .ref (b + p1)), (2, .ref (b + p2)), (3, .ref (b + p3))]) hx hb dX7_goesBy_5 hl (by decide) rfl (fun ls hl => ?_)
  refine lv_aload_n hx hb dX7_goesBy_7 rfl (lv_at hl 1 rfl) ?_
  refine lv_aload_n hx hb dX7_goesBy_8 rfl (lv_at hl 3 rfl) ?_
  refine lv_iload hx hb dX7_goesBy_9 (lv_at hl 0 rfl) ?_
  obtain ⟨j_22, hj_22, ej_22, h⟩ := h
  refine m_iald hx hb hK hP (k := p2) hp2 ej_22 hj_22 dX7_goesBy_11 ?_
  refine m_cVp (As := [.int (S p2 j_22)]) (rest := []) ⟨hx, hb, hml, hown, hts⟩ (met_inverse l D cI cB b (S p2 j_22)  S _ h) (cwV 1 hts (lw_V q1639 q1641 qs92 q128 q1642) rfl rfl rfl cwd_inverse ⟨Nat.le_of_ble_eq_true rfl, Nat.le_of_ble_eq_true rfl⟩) hK hP hS rfl hl.1 rfl (Nat.le_of_ble_eq_true rfl) dX7_goesBy_12 ⟨Nat.zero_le _, Nat.zero_le _⟩ (fun r_23 H locs h hP hS => ?_)
  refine lv_istore (lv' := [(5, .int r_23), (4, .int r_20), (0, .ref b), (1, .ref (b + p1)), (2, .ref (b + p2)), (3, .ref (b + p3))]) hx hb dX7_goesBy_15 hl (by decide) rfl (fun ls hl => ?_)
  refine lv_iconst (v := 0) hx hb dX7_goesBy_17 (by decide) ?_
  refine lv_istore (lv' := [(6, .int 0), (5, .int r_23), (4, .int r_20), (0, .ref b), (1, .ref (b + p1)), (2, .ref (b + p2)), (3, .ref (b + p3))]) hx hb dX7_goesBy_18 hl (by decide) rfl (fun ls hl => ?_)
  exact L20 _ _ _ _ _ _ _ h hP hS (lv_sub hl [3, 4, 5, 6, 2, 1, 0] rfl)
def wp_primitives_b61 (p1 : Nat) (post : St → Prop) (R24 : Int32 → St → Prop) (R61 : Int32 → St → Prop) (x2 : Int32) (x3 : Int32) (S : St) : Prop :=
          ((2304 ≤ x3 →
            ∀ x2_1 : Int32, x2_1 = x2 + 1 →
            R24 x2_1 S) ∧
           (¬ (2304 ≤ x3) →
            ∃ j_2 : Nat, j_2 < 2304 ∧ x3 = nI j_2 ∧
            ∃ j_3 : Nat, j_3 < mlen p1 ∧ ((2304 * x2) + x3) = nI j_3 ∧ ∀ S_4 : St, S_4 = bw S p1 j_3 (S 23 j_2) →
            ∀ x3_5 : Int32, x3_5 = x3 + 1 →
            R61 x3_5 S_4))
def wp_primitives_l61 (p1 : Nat) (post : St → Prop) (R24 : Int32 → St → Prop) (x2 : Int32) (x3 : Int32) (S : St) : Prop := wLoop (fun (R : (Int32 × St) → Prop) (v : Int32 × St) => wp_primitives_b61 p1 post R24 (fun x3 S => R (x3, S)) x2 v.1 v.2) (x3, S)
def wp_primitives_b24 (p1 : Nat) (post : St → Prop) (R24 : Int32 → St → Prop)  (x2 : Int32) (S : St) : Prop :=
      ((16 ≤ x2 →
        post S) ∧
       (¬ (16 ≤ x2) →
        wp_copies p1 (2304 * x2) 21 S (fun S_8 =>
        wp_goesBy 21 20 23 S_8 (fun S_10 =>
        wp_primitives_l61 p1 post R24 x2 0 S_10))))
def wp_primitives_l24 (p1 : Nat) (post : St → Prop)  (x2 : Int32) (S : St) : Prop := wLoop (fun (R : (Int32 × St) → Prop) (v : Int32 × St) => wp_primitives_b24 p1 post (fun x2 S => R (x2, S))  v.1 v.2) (x2, S)
def wp_primitives (p1 : Nat) (S : St) (post : St → Prop) : Prop :=
  wp_contentOf p1 20 S (fun S_13 =>
  wp_heightOf 20 0 S_13 (fun r_14 =>
  ((1 ≤ r_14 →
    wp_primitives_l24 p1 post 0 S_13) ∧
   (¬ (1 ≤ r_14) →
    post S_13))))
set_option maxHeartbeats 4000000 in
theorem met_primitives (l : Launch) (D : va_G) (cI cB : ClassId) (b : Nat) (p1 : Nat) (hp1 : mok p1) (S : St) (post : St → Prop) (h : wp_primitives p1 S post) : Met l yX7_primitives (ws_ yX7_primitives cX7_primitives 4 none) ({ frames := 4, cells := 0, slots := 0, locals := 101 } : Room) (mPc D cI cB b [.ref b, .ref (b + p1)] S) (mQv D cI cB b post) 0 0 (mA b) := by
  refine Met.ofW (cc := cX7_primitives) (maxL := 4) (ret := none) (by decide) rfl ?_
  intro p e s m args below meth c s₁ B hml hv
  obtain ⟨rfl, hP, hK⟩ := hv
  have hx := B.exec
  have hb := B.bytes
  have hr := B.returns
  have hts := atoms_spec (ws := ws_ yX7_primitives cX7_primitives 4 none) B.pre
  have hts : ∀ w ∈ lw_all, w.before _ s = true := fun w h => hts w (List.mem_cons_of_mem _ h)
  have hown : s.vm.findClass RX7 = some m.cls := findClass_of_methodNamed B.named
  have hlocks := B.notSynchronized
  have hS : va_S (mA b) s.heap s.heap [] := va_S.rf
  have hl := lv_entry ([.ref b, .ref (b + p1)]) (n := 4) (Nat.le_of_ble_eq_true rfl)
  rw [lg_entry_eq]
  generalize (lg_sl ([.ref b, .ref (b + p1)]) ++ List.replicate (4 - (lg_sl ([.ref b, .ref (b + p1)])).length) Slot.unset).toArray = ls at hl ⊢
  have hl : lv_has ls 4 [(0, .ref b), (1, .ref (b + p1))] := hl
  have L24 : ∀  (x2 : Int32) (S : St) (H : Heap) (locs : List Loc) (ls : Array Slot), wp_primitives_l24 p1 post  x2 S → mW D cI cB b S H → va_S (mA b) s.heap H locs → lv_has ls 4 [(0, .ref b), (1, .ref (b + p1)), (2, .int x2)] → W p l e (headSpec (ws_ yX7_primitives cX7_primitives 4 none) ({ frames := 4, cells := 0, slots := 0, locals := 101 } : Room)).room s m ([.ref b, .ref (b + p1)] : List Value).toArray below meth c H locs 0 0 (MQ below (mQv D cI cB b post) ([.ref b, .ref (b + p1)] : List Value).toArray s 0 0 (mA b)) (F0 m 24 ls []) := by
    intro  x2 S H locs ls h hP hS hl
    obtain ⟨I24, n24, hI, hstep24⟩ := h
    induction n24 using Nat.strongRecOn generalizing x2 S H locs ls with
    | ind n24 ih24 =>
      have h : wp_primitives_b24 p1 post (fun x2 S => ∃ mm, mm < n24 ∧ I24 mm (x2, S))  x2 S := hstep24 n24 _ hI
      clear hI
      have L61 : ∀ (x2 : Int32) (x3 : Int32) (S : St) (H : Heap) (locs : List Loc) (ls : Array Slot), wp_primitives_l61 p1 post (fun x2 S => ∃ mm, mm < n24 ∧ I24 mm (x2, S)) x2 x3 S → mW D cI cB b S H → va_S (mA b) s.heap H locs → lv_has ls 4 [(0, .ref b), (1, .ref (b + p1)), (2, .int x2), (3, .int x3)] → W p l e (headSpec (ws_ yX7_primitives cX7_primitives 4 none) ({ frames := 4, cells := 0, slots := 0, locals := 101 } : Room)).room s m ([.ref b, .ref (b + p1)] : List Value).toArray below meth c H locs 0 0 (MQ below (mQv D cI cB b post) ([.ref b, .ref (b + p1)] : List Value).toArray s 0 0 (mA b)) (F0 m 61 ls []) := by
        intro x2 x3 S H locs ls h hP hS hl
        obtain ⟨I61, n61, hI, hstep61⟩ := h
        induction n61 using Nat.strongRecOn generalizing x3 S H locs ls with
        | ind n61 ih61 =>
          have h : wp_primitives_b61 p1 post (fun x2 S => ∃ mm, mm < n24 ∧ I24 mm (x2, S)) (fun x3 S => ∃ mm, mm < n61 ∧ I61 mm (x3, S)) x2 x3 S := hstep61 n61 _ hI
          clear hI
          unfold wp_primitives_b61 at h
          refine lv_iload_n hx hb dX7_primitives_61 rfl (lv_at hl 3 rfl) ?_
          refine lv_sipush (v := 2304) hx hb dX7_primitives_62 (by decide) ?_
          refine lv_icmp_ge (tgt := 89) hx hb dX7_primitives_65 (by decide) (fun c_6 => ?_) (fun c_6 => ?_)
          · have h := h.1 c_6
            obtain ⟨x2_1, ex2_1⟩ : ∃ y : Int32, y = x2 + 1 := ⟨_, rfl⟩
            have h := h x2_1 ex2_1
            refine lv_iinc (v := x2_1) (lv' := [(2, .int x2_1), (0, .ref b), (1, .ref (b + p1)), (3, .int x3)]) hx hb dX7_primitives_89 hl (k := 2) rfl (by rw [ex2_1]; rfl) (by decide) rfl (fun ls hl => ?_)
            refine lv_goto (tgt := 24) hx hb dX7_primitives_92 (by decide) ?_
            obtain ⟨mm, hmm, h⟩ := h
            exact ih24 mm hmm _ _ _ _ _ hP hS (lv_sub hl [1, 2, 0] rfl) h
          · have h := h.2 c_6
            refine lv_aload_n hx hb dX7_primitives_68 rfl (lv_at hl 1 rfl) ?_
            refine lv_sipush (v := 2304) hx hb dX7_primitives_69 (by decide) ?_
            refine lv_iload_n hx hb dX7_primitives_72 rfl (lv_at hl 2 rfl) ?_
            refine lv_imul hx hb dX7_primitives_73 ?_
            refine lv_iload_n hx hb dX7_primitives_74 rfl (lv_at hl 3 rfl) ?_
            refine lv_iadd hx hb dX7_primitives_75 ?_
            refine lv_aload_n hx hb dX7_primitives_76 rfl (lv_at hl 0 rfl) ?_
            refine m_get (v := .ref (b + 23)) hx hb hts hown hK hP 51 (by decide) q1261 rfl rfl dX7_primitives_77 ?_
            refine lv_iload_n hx hb dX7_primitives_80 rfl (lv_at hl 3 rfl) ?_
            obtain ⟨j_2, hj_2, ej_2, h⟩ := h
            refine m_iald hx hb hK hP (k := 23) mok_23 ej_2 hj_2 dX7_primitives_81 ?_
            obtain ⟨j_3, hj_3, ej_3, h⟩ := h
            obtain ⟨S_4, eS_4⟩ : ∃ z : St, z = bw S p1 j_3 (S 23 j_2) := ⟨_, rfl⟩
            have h := h S_4 eS_4
            refine m_iast hx hb hK hP hS (k := p1) hp1 ej_3 hj_3 dX7_primitives_82 (fun H locs hP hS => ?_)
            rw [← eS_4] at hP
            obtain ⟨x3_5, ex3_5⟩ : ∃ y : Int32, y = x3 + 1 := ⟨_, rfl⟩
            have h := h x3_5 ex3_5
            refine lv_iinc (v := x3_5) (lv' := [(3, .int x3_5), (0, .ref b), (1, .ref (b + p1)), (2, .int x2)]) hx hb dX7_primitives_83 hl (k := 3) rfl (by rw [ex3_5]; rfl) (by decide) rfl (fun ls hl => ?_)
            refine lv_goto (tgt := 61) hx hb dX7_primitives_86 (by decide) ?_
            obtain ⟨mm, hmm, h⟩ := h
            exact ih61 mm hmm _ _ _ _ _ hP hS (lv_sub hl [1, 2, 3, 0] rfl) h
      unfold wp_primitives_b24 at h
      refine lv_iload_n hx hb dX7_primitives_24 rfl (lv_at hl 2 rfl) ?_
      refine lv_bipush (v := 16) hx hb dX7_primitives_25 (by decide) ?_
      refine lv_icmp_ge (tgt := 95) hx hb dX7_primitives_27 (by decide) (fun c_11 => ?_) (fun c_11 => ?_)
      · have h := h.1 c_11
        exact W.vret hx hb hr (fun t ht hW => ⟨⟨S, rfl, h, by rw [ht]; exact hP, va_K.moved hW.alike hK⟩, hS.F ht⟩) hS.2.2 dX7_primitives_95
      · have h := h.2 c_11
        refine lv_aload_n hx hb dX7_primitives_30 rfl (lv_at hl 1 rfl) ?_
        refine lv_sipush (v := 2304) hx hb dX7_primitives_31 (by decide) ?_
        refine lv_iload_n hx hb dX7_primitives_34 rfl (lv_at hl 2 rfl) ?_
        refine lv_imul hx hb dX7_primitives_35 ?_
        refine lv_aload_n hx hb dX7_primitives_36 rfl (lv_at hl 0 rfl) ?_
        refine m_get (v := .ref (b + 21)) hx hb hts hown hK hP 49 (by decide) q1259 rfl rfl dX7_primitives_37 ?_
        refine m_cSv (As := [.ref (b + p1), .int (2304 * x2), .ref (b + 21)]) (rest := []) ⟨hx, hb, hml, hown, hts⟩ (met_copies l D cI cB b p1 (2304 * x2) 21 hp1 mok_21 S _ h) (va_cwS 3 hts (lw_S q1767 q1768 q128 q1769) rfl rfl rfl cwd_copies ⟨Nat.le_of_ble_eq_true rfl, Nat.le_of_ble_eq_true rfl⟩) hK hP hS rfl hl.1 rfl (Nat.le_of_ble_eq_true rfl) dX7_primitives_40 ⟨Nat.zero_le _, Nat.zero_le _⟩ (fun S_8 H locs h hP hS => ?_)
        refine lv_aload_n hx hb dX7_primitives_43 rfl (lv_at hl 0 rfl) ?_
        refine lv_aload_n hx hb dX7_primitives_44 rfl (lv_at hl 0 rfl) ?_
        refine m_get (v := .ref (b + 21)) hx hb hts hown hK hP 49 (by decide) q1259 rfl rfl dX7_primitives_45 ?_
        refine lv_aload_n hx hb dX7_primitives_48 rfl (lv_at hl 0 rfl) ?_
        refine m_get (v := .ref (b + 20)) hx hb hts hown hK hP 48 (by decide) q1258 rfl rfl dX7_primitives_49 ?_
        refine lv_aload_n hx hb dX7_primitives_52 rfl (lv_at hl 0 rfl) ?_
        refine m_get (v := .ref (b + 23)) hx hb hts hown hK hP 51 (by decide) q1261 rfl rfl dX7_primitives_53 ?_
        refine m_cVv (As := [.ref (b + 21), .ref (b + 20), .ref (b + 23)]) (rest := []) ⟨hx, hb, hml, hown, hts⟩ (met_goesBy l D cI cB b 21 20 23 mok_21 mok_20 mok_23 S_8 _ h) (cwV 3 hts (lw_V q1786 q1788 qs111 q128 q1789) rfl rfl rfl cwd_goesBy ⟨Nat.le_of_ble_eq_true rfl, Nat.le_of_ble_eq_true rfl⟩) hK hP hS rfl hl.1 rfl (Nat.le_of_ble_eq_true rfl) dX7_primitives_56 ⟨Nat.zero_le _, Nat.zero_le _⟩ (fun S_10 H locs h hP hS => ?_)
        refine lv_iconst (v := 0) hx hb dX7_primitives_59 (by decide) ?_
        refine lv_istore_n (lv' := [(3, .int 0), (0, .ref b), (1, .ref (b + p1)), (2, .int x2)]) hx hb dX7_primitives_60 rfl hl (by decide) rfl (fun ls hl => ?_)
        exact L61 _ _ _ _ _ _ h hP hS (lv_sub hl [1, 2, 3, 0] rfl)
  unfold wp_primitives at h
  refine lv_aload_n hx hb dX7_primitives_0 rfl (lv_at hl 0 rfl) ?_
  refine lv_aload_n hx hb dX7_primitives_1 rfl (lv_at hl 1 rfl) ?_
  refine lv_aload_n hx hb dX7_primitives_2 rfl (lv_at hl 0 rfl) ?_
  refine m_get (v := .ref (b + 20)) hx hb hts hown hK hP 48 (by decide) q1258 rfl rfl dX7_primitives_3 ?_
  refine m_cVv (As := [.ref (b + p1), .ref (b + 20)]) (rest := []) ⟨hx, hb, hml, hown, hts⟩ (met_contentOf l D cI cB b p1 20 hp1 mok_20 S _ h) (cwV 2 hts (lw_V q1763 q1765 qs106 q128 q1766) rfl rfl rfl cwd_contentOf ⟨Nat.le_of_ble_eq_true rfl, Nat.le_of_ble_eq_true rfl⟩) hK hP hS rfl hl.1 rfl (Nat.le_of_ble_eq_true rfl) dX7_primitives_6 ⟨Nat.zero_le _, Nat.zero_le _⟩ (fun S_13 H locs h hP hS => ?_)
  refine lv_aload_n hx hb dX7_primitives_9 rfl (lv_at hl 0 rfl) ?_
  refine m_get (v := .ref (b + 20)) hx hb hts hown hK hP 48 (by decide) q1258 rfl rfl dX7_primitives_10 ?_
  refine lv_iconst (v := 0) hx hb dX7_primitives_13 (by decide) ?_
  refine m_cSp (As := [.ref (b + 20), .int 0]) (rest := []) ⟨hx, hb, hml, hown, hts⟩ (met_heightOf l D cI cB b 20 0 mok_20 S_13 _ h) (va_cwS 2 hts (lw_S q1760 q1761 q128 q1762) rfl rfl rfl cwd_heightOf ⟨Nat.le_of_ble_eq_true rfl, Nat.le_of_ble_eq_true rfl⟩) hK hP hS rfl hl.1 rfl (Nat.le_of_ble_eq_true rfl) dX7_primitives_14 ⟨Nat.zero_le _, Nat.zero_le _⟩ (fun r_14 H locs h hP hS => ?_)
  refine lv_iconst (v := 1) hx hb dX7_primitives_17 (by decide) ?_
  refine lv_icmp_ge (tgt := 22) hx hb dX7_primitives_18 (by decide) (fun c_16 => ?_) (fun c_16 => ?_)
  · have h := h.1 c_16
    refine lv_iconst (v := 0) hx hb dX7_primitives_22 (by decide) ?_
    refine lv_istore_n (lv' := [(2, .int 0), (0, .ref b), (1, .ref (b + p1))]) hx hb dX7_primitives_23 rfl hl (by decide) rfl (fun ls hl => ?_)
    exact L24 _ _ _ _ _ h hP hS (lv_sub hl [1, 2, 0] rfl)
  · have h := h.2 c_16
    exact W.vret hx hb hr (fun t ht hW => ⟨⟨S_13, rfl, h, by rw [ht]; exact hP, va_K.moved hW.alike hK⟩, hS.F ht⟩) hS.2.2 dX7_primitives_21
def wp_takesOff_b301 (p1 : Nat) (p2 : Nat) (post : St → Prop) (R61 : Int32 → St → Prop) (R301 : Int32 → St → Prop) (x3 : Int32) (x4 : Int32) (x5 : Int32) (x6 : Int32) (x7 : Int32) (x8 : Int32) (x11 : Int32) (S : St) : Prop :=
          ((2304 ≤ x11 →
            ∀ x7_1 : Int32, x7_1 = x7 + 1 →
            R61 x7_1 S) ∧
           (¬ (2304 ≤ x11) →
            ∃ j_2 : Nat, j_2 < 2304 ∧ x11 = nI j_2 ∧
            ∃ j_3 : Nat, j_3 < mlen p1 ∧ (x8 + x11) = nI j_3 ∧ ∀ S_4 : St, S_4 = bw S p1 j_3 (S 23 j_2) →
            ∀ x11_5 : Int32, x11_5 = x11 + 1 →
            R301 x11_5 S_4))
def wp_takesOff_l301 (p1 : Nat) (p2 : Nat) (post : St → Prop) (R61 : Int32 → St → Prop) (x3 : Int32) (x4 : Int32) (x5 : Int32) (x6 : Int32) (x7 : Int32) (x8 : Int32) (x11 : Int32) (S : St) : Prop := wLoop (fun (R : (Int32 × St) → Prop) (v : Int32 × St) => wp_takesOff_b301 p1 p2 post R61 (fun x11 S => R (x11, S)) x3 x4 x5 x6 x7 x8 v.1 v.2) (x11, S)
def wp_takesOff_b224 (p1 : Nat) (p2 : Nat) (post : St → Prop) (R61 : Int32 → St → Prop) (R214 : Int32 → St → Prop) (R224 : Int32 → St → Prop) (x3 : Int32) (x4 : Int32) (x5 : Int32) (x6 : Int32) (x7 : Int32) (x8 : Int32) (x10 : Int32) (x11 : Int32) (x12 : Int32) (S : St) : Prop :=
              ((x10 < x12 →
                ∀ x11_7 : Int32, x11_7 = x11 + 1 →
                R214 x11_7 S) ∧
               (¬ (x10 < x12) →
                ∃ j_8 : Nat, j_8 < 2304 ∧ (x11 + x12) = nI j_8 ∧
                ∃ j_9 : Nat, j_9 < 2304 ∧ x11 = nI j_9 ∧
                ∃ j_10 : Nat, j_10 < mlen p2 ∧ ((2304 * ((x7 - x3) + x4)) + x12) = nI j_10 ∧
                ¬ (S 0 5) = 0 ∧
                ∃ j_11 : Nat, j_11 < 2304 ∧ (x11 + x12) = nI j_11 ∧ ∀ S_12 : St, S_12 = bw S 23 j_11 (jrem ((S 23 j_8) + (((S 0 5) - (S 22 j_9)) * (S p2 j_10))) (S 0 5)) →
                ∀ x12_13 : Int32, x12_13 = x12 + 1 →
                R224 x12_13 S_12))
def wp_takesOff_l224 (p1 : Nat) (p2 : Nat) (post : St → Prop) (R61 : Int32 → St → Prop) (R214 : Int32 → St → Prop) (x3 : Int32) (x4 : Int32) (x5 : Int32) (x6 : Int32) (x7 : Int32) (x8 : Int32) (x10 : Int32) (x11 : Int32) (x12 : Int32) (S : St) : Prop := wLoop (fun (R : (Int32 × St) → Prop) (v : Int32 × St) => wp_takesOff_b224 p1 p2 post R61 R214 (fun x12 S => R (x12, S)) x3 x4 x5 x6 x7 x8 x10 x11 v.1 v.2) (x12, S)
def wp_takesOff_b214 (p1 : Nat) (p2 : Nat) (post : St → Prop) (R61 : Int32 → St → Prop) (R214 : Int32 → St → Prop) (x3 : Int32) (x4 : Int32) (x5 : Int32) (x6 : Int32) (x7 : Int32) (x8 : Int32) (x10 : Int32) (x11 : Int32) (S : St) : Prop :=
          ((x6 < x11 →
            wp_takesOff_l301 p1 p2 post R61 x3 x4 x5 x6 x7 x8 0 S) ∧
           (¬ (x6 < x11) →
            wp_takesOff_l224 p1 p2 post R61 R214 x3 x4 x5 x6 x7 x8 x10 x11 0 S))
def wp_takesOff_l214 (p1 : Nat) (p2 : Nat) (post : St → Prop) (R61 : Int32 → St → Prop) (x3 : Int32) (x4 : Int32) (x5 : Int32) (x6 : Int32) (x7 : Int32) (x8 : Int32) (x10 : Int32) (x11 : Int32) (S : St) : Prop := wLoop (fun (R : (Int32 × St) → Prop) (v : Int32 × St) => wp_takesOff_b214 p1 p2 post R61 (fun x11 S => R (x11, S)) x3 x4 x5 x6 x7 x8 x10 v.1 v.2) (x11, S)
def wp_takesOff_j211 (p1 : Nat) (p2 : Nat) (post : St → Prop) (R61 : Int32 → St → Prop) (x3 : Int32) (x4 : Int32) (x5 : Int32) (x6 : Int32) (x7 : Int32) (x8 : Int32) (x10 : Int32) (S : St) : Prop :=
        wp_takesOff_l214 p1 p2 post R61 x3 x4 x5 x6 x7 x8 x10 0 S
def wp_takesOff_b121 (p1 : Nat) (p2 : Nat) (post : St → Prop) (R61 : Int32 → St → Prop) (R111 : Int32 → St → Prop) (R121 : Int32 → St → Prop) (x3 : Int32) (x4 : Int32) (x5 : Int32) (x6 : Int32) (x7 : Int32) (x8 : Int32) (x9 : Int32) (x10 : Int32) (x11 : Int32) (S : St) : Prop :=
              ((x9 < x11 →
                ∀ x10_16 : Int32, x10_16 = x10 + 1 →
                R111 x10_16 S) ∧
               (¬ (x9 < x11) →
                ∃ j_17 : Nat, j_17 < 2304 ∧ (x10 + x11) = nI j_17 ∧
                ∃ j_18 : Nat, j_18 < 2304 ∧ x10 = nI j_18 ∧
                ∃ j_19 : Nat, j_19 < mlen p1 ∧ (x8 + x11) = nI j_19 ∧
                ¬ (S 0 5) = 0 ∧
                ∃ j_20 : Nat, j_20 < 2304 ∧ (x10 + x11) = nI j_20 ∧ ∀ S_21 : St, S_21 = bw S 23 j_20 (jrem ((S 23 j_17) + ((S 21 j_18) * (S p1 j_19))) (S 0 5)) →
                ∀ x11_22 : Int32, x11_22 = x11 + 1 →
                R121 x11_22 S_21))
def wp_takesOff_l121 (p1 : Nat) (p2 : Nat) (post : St → Prop) (R61 : Int32 → St → Prop) (R111 : Int32 → St → Prop) (x3 : Int32) (x4 : Int32) (x5 : Int32) (x6 : Int32) (x7 : Int32) (x8 : Int32) (x9 : Int32) (x10 : Int32) (x11 : Int32) (S : St) : Prop := wLoop (fun (R : (Int32 × St) → Prop) (v : Int32 × St) => wp_takesOff_b121 p1 p2 post R61 R111 (fun x11 S => R (x11, S)) x3 x4 x5 x6 x7 x8 x9 x10 v.1 v.2) (x11, S)
def wp_takesOff_b111 (p1 : Nat) (p2 : Nat) (post : St → Prop) (R61 : Int32 → St → Prop) (R111 : Int32 → St → Prop) (x3 : Int32) (x4 : Int32) (x5 : Int32) (x6 : Int32) (x7 : Int32) (x8 : Int32) (x9 : Int32) (x10 : Int32) (S : St) : Prop :=
          ((x5 < x10 →
            (((x3 - x4) ≤ x7 →
              wp_heightOf p2 (2304 * ((x7 - x3) + x4)) S (fun r_24 =>
              wp_takesOff_j211 p1 p2 post R61 x3 x4 x5 x6 x7 x8 r_24 S)) ∧
             (¬ ((x3 - x4) ≤ x7) →
              wp_takesOff_j211 p1 p2 post R61 x3 x4 x5 x6 x7 x8 (-1) S))) ∧
           (¬ (x5 < x10) →
            wp_takesOff_l121 p1 p2 post R61 R111 x3 x4 x5 x6 x7 x8 x9 x10 0 S))
def wp_takesOff_l111 (p1 : Nat) (p2 : Nat) (post : St → Prop) (R61 : Int32 → St → Prop) (x3 : Int32) (x4 : Int32) (x5 : Int32) (x6 : Int32) (x7 : Int32) (x8 : Int32) (x9 : Int32) (x10 : Int32) (S : St) : Prop := wLoop (fun (R : (Int32 × St) → Prop) (v : Int32 × St) => wp_takesOff_b111 p1 p2 post R61 (fun x10 S => R (x10, S)) x3 x4 x5 x6 x7 x8 x9 v.1 v.2) (x10, S)
def wp_takesOff_b70 (p1 : Nat) (p2 : Nat) (post : St → Prop) (R61 : Int32 → St → Prop) (R70 : Int32 → St → Prop) (x3 : Int32) (x4 : Int32) (x5 : Int32) (x6 : Int32) (x7 : Int32) (x8 : Int32) (S : St) : Prop :=
          ((2304 ≤ x8 →
            ∀ x8_28 : Int32, x8_28 = (2304 * x7) →
            wp_heightOf p1 x8_28 S (fun r_29 =>
            wp_takesOff_l111 p1 p2 post R61 x3 x4 x5 x6 x7 x8_28 r_29 0 S)) ∧
           (¬ (2304 ≤ x8) →
            ∃ j_31 : Nat, j_31 < 2304 ∧ x8 = nI j_31 ∧ ∀ S_32 : St, S_32 = bw S 23 j_31 0 →
            ∀ x8_33 : Int32, x8_33 = x8 + 1 →
            R70 x8_33 S_32))
def wp_takesOff_l70 (p1 : Nat) (p2 : Nat) (post : St → Prop) (R61 : Int32 → St → Prop) (x3 : Int32) (x4 : Int32) (x5 : Int32) (x6 : Int32) (x7 : Int32) (x8 : Int32) (S : St) : Prop := wLoop (fun (R : (Int32 × St) → Prop) (v : Int32 × St) => wp_takesOff_b70 p1 p2 post R61 (fun x8 S => R (x8, S)) x3 x4 x5 x6 x7 v.1 v.2) (x8, S)
def wp_takesOff_b61 (p1 : Nat) (p2 : Nat) (post : St → Prop) (R61 : Int32 → St → Prop) (x3 : Int32) (x4 : Int32) (x5 : Int32) (x6 : Int32) (x7 : Int32) (S : St) : Prop :=
      ((x3 < x7 →
        wp_primitives p1 S (fun S_36 =>
        post S_36)) ∧
       (¬ (x3 < x7) →
        wp_takesOff_l70 p1 p2 post R61 x3 x4 x5 x6 x7 0 S))
def wp_takesOff_l61 (p1 : Nat) (p2 : Nat) (post : St → Prop) (x3 : Int32) (x4 : Int32) (x5 : Int32) (x6 : Int32) (x7 : Int32) (S : St) : Prop := wLoop (fun (R : (Int32 × St) → Prop) (v : Int32 × St) => wp_takesOff_b61 p1 p2 post (fun x7 S => R (x7, S)) x3 x4 x5 x6 v.1 v.2) (x7, S)
def wp_takesOff (p1 : Nat) (p2 : Nat) (S : St) (post : St → Prop) : Prop :=
  wp_degreeX p1 S (fun r_38 =>
  wp_degreeX p2 S (fun r_40 =>
  wp_copies p2 (2304 * r_40) 21 S (fun S_43 =>
  wp_copies p1 (2304 * r_38) 22 S_43 (fun S_45 =>
  wp_heightOf 21 0 S_45 (fun r_46 =>
  wp_heightOf 22 0 S_45 (fun r_48 =>
  wp_takesOff_l61 p1 p2 post r_38 r_40 r_46 r_48 0 S_45))))))
set_option maxHeartbeats 4000000 in
theorem met_takesOff (l : Launch) (D : va_G) (cI cB : ClassId) (b : Nat) (p1 : Nat) (p2 : Nat) (hp1 : mok p1) (hp2 : mok p2) (S : St) (post : St → Prop) (h : wp_takesOff p1 p2 S post) : Met l yX7_takesOff (ws_ yX7_takesOff cX7_takesOff 13 none) ({ frames := 5, cells := 0, slots := 0, locals := 124 } : Room) (mPc D cI cB b [.ref b, .ref (b + p1), .ref (b + p2)] S) (mQv D cI cB b post) 0 0 (mA b) := by
  refine Met.ofW (cc := cX7_takesOff) (maxL := 13) (ret := none) (by decide) rfl ?_
  intro p e s m args below meth c s₁ B hml hv
  obtain ⟨rfl, hP, hK⟩ := hv
  have hx := B.exec
  have hb := B.bytes
  have hr := B.returns
  have hts := atoms_spec (ws := ws_ yX7_takesOff cX7_takesOff 13 none) B.pre
  have hts : ∀ w ∈ lw_all, w.before _ s = true := fun w h => hts w (List.mem_cons_of_mem _ h)
  have hown : s.vm.findClass RX7 = some m.cls := findClass_of_methodNamed B.named
  have hlocks := B.notSynchronized
  have hS : va_S (mA b) s.heap s.heap [] := va_S.rf
  have hl := lv_entry ([.ref b, .ref (b + p1), .ref (b + p2)]) (n := 13) (Nat.le_of_ble_eq_true rfl)
  rw [lg_entry_eq]
  generalize (lg_sl ([.ref b, .ref (b + p1), .ref (b + p2)]) ++ List.replicate (13 - (lg_sl ([.ref b, .ref (b + p1), .ref (b + p2)])).length) Slot.unset).toArray = ls at hl ⊢
  have hl : lv_has ls 13 [(0, .ref b), (1, .ref (b + p1)), (2, .ref (b + p2))] := hl
  have L61 : ∀ (x3 : Int32) (x4 : Int32) (x5 : Int32) (x6 : Int32) (x7 : Int32) (S : St) (H : Heap) (locs : List Loc) (ls : Array Slot), wp_takesOff_l61 p1 p2 post x3 x4 x5 x6 x7 S → mW D cI cB b S H → va_S (mA b) s.heap H locs → lv_has ls 13 [(0, .ref b), (1, .ref (b + p1)), (2, .ref (b + p2)), (3, .int x3), (4, .int x4), (5, .int x5), (6, .int x6), (7, .int x7)] → W p l e (headSpec (ws_ yX7_takesOff cX7_takesOff 13 none) ({ frames := 5, cells := 0, slots := 0, locals := 124 } : Room)).room s m ([.ref b, .ref (b + p1), .ref (b + p2)] : List Value).toArray below meth c H locs 0 0 (MQ below (mQv D cI cB b post) ([.ref b, .ref (b + p1), .ref (b + p2)] : List Value).toArray s 0 0 (mA b)) (F0 m 61 ls []) := by
    intro x3 x4 x5 x6 x7 S H locs ls h hP hS hl
    obtain ⟨I61, n61, hI, hstep61⟩ := h
    induction n61 using Nat.strongRecOn generalizing x7 S H locs ls with
    | ind n61 ih61 =>
      have h : wp_takesOff_b61 p1 p2 post (fun x7 S => ∃ mm, mm < n61 ∧ I61 mm (x7, S)) x3 x4 x5 x6 x7 S := hstep61 n61 _ hI
      clear hI
      have L301 : ∀ (x7 : Int32) (x8 : Int32) (x11 : Int32) (S : St) (H : Heap) (locs : List Loc) (ls : Array Slot), wp_takesOff_l301 p1 p2 post (fun x7 S => ∃ mm, mm < n61 ∧ I61 mm (x7, S)) x3 x4 x5 x6 x7 x8 x11 S → mW D cI cB b S H → va_S (mA b) s.heap H locs → lv_has ls 13 [(0, .ref b), (1, .ref (b + p1)), (2, .ref (b + p2)), (3, .int x3), (4, .int x4), (5, .int x5), (6, .int x6), (7, .int x7), (8, .int x8), (11, .int x11)] → W p l e (headSpec (ws_ yX7_takesOff cX7_takesOff 13 none) ({ frames := 5, cells := 0, slots := 0, locals := 124 } : Room)).room s m ([.ref b, .ref (b + p1), .ref (b + p2)] : List Value).toArray below meth c H locs 0 0 (MQ below (mQv D cI cB b post) ([.ref b, .ref (b + p1), .ref (b + p2)] : List Value).toArray s 0 0 (mA b)) (F0 m 301 ls []) := by
        intro x7 x8 x11 S H locs ls h hP hS hl
        obtain ⟨I301, n301, hI, hstep301⟩ := h
        induction n301 using Nat.strongRecOn generalizing x11 S H locs ls with
        | ind n301 ih301 =>
          have h : wp_takesOff_b301 p1 p2 post (fun x7 S => ∃ mm, mm < n61 ∧ I61 mm (x7, S)) (fun x11 S => ∃ mm, mm < n301 ∧ I301 mm (x11, S)) x3 x4 x5 x6 x7 x8 x11 S := hstep301 n301 _ hI
          clear hI
          unfold wp_takesOff_b301 at h
          refine lv_iload hx hb dX7_takesOff_301 (lv_at hl 9 rfl) ?_
          refine lv_sipush (v := 2304) hx hb dX7_takesOff_303 (by decide) ?_
          refine lv_icmp_ge (tgt := 329) hx hb dX7_takesOff_306 (by decide) (fun c_6 => ?_) (fun c_6 => ?_)
          · have h := h.1 c_6
            obtain ⟨x7_1, ex7_1⟩ : ∃ y : Int32, y = x7 + 1 := ⟨_, rfl⟩
            have h := h x7_1 ex7_1
            refine lv_iinc (v := x7_1) (lv' := [(7, .int x7_1), (0, .ref b), (1, .ref (b + p1)), (2, .ref (b + p2)), (3, .int x3), (4, .int x4), (5, .int x5), (6, .int x6), (8, .int x8), (11, .int x11)]) hx hb dX7_takesOff_329 hl (k := 7) rfl (by rw [ex7_1]; rfl) (by decide) rfl (fun ls hl => ?_)
            refine lv_goto (tgt := 61) hx hb dX7_takesOff_332 (by decide) ?_
            obtain ⟨mm, hmm, h⟩ := h
            exact ih61 mm hmm _ _ _ _ _ hP hS (lv_sub hl [1, 2, 3, 4, 5, 6, 7, 0] rfl) h
          · have h := h.2 c_6
            refine lv_aload_n hx hb dX7_takesOff_309 rfl (lv_at hl 1 rfl) ?_
            refine lv_iload hx hb dX7_takesOff_310 (lv_at hl 8 rfl) ?_
            refine lv_iload hx hb dX7_takesOff_312 (lv_at hl 9 rfl) ?_
            refine lv_iadd hx hb dX7_takesOff_314 ?_
            refine lv_aload_n hx hb dX7_takesOff_315 rfl (lv_at hl 0 rfl) ?_
            refine m_get (v := .ref (b + 23)) hx hb hts hown hK hP 51 (by decide) q1261 rfl rfl dX7_takesOff_316 ?_
            refine lv_iload hx hb dX7_takesOff_319 (lv_at hl 9 rfl) ?_
            obtain ⟨j_2, hj_2, ej_2, h⟩ := h
            refine m_iald hx hb hK hP (k := 23) mok_23 ej_2 hj_2 dX7_takesOff_321 ?_
            obtain ⟨j_3, hj_3, ej_3, h⟩ := h
            obtain ⟨S_4, eS_4⟩ : ∃ z : St, z = bw S p1 j_3 (S 23 j_2) := ⟨_, rfl⟩
            have h := h S_4 eS_4
            refine m_iast hx hb hK hP hS (k := p1) hp1 ej_3 hj_3 dX7_takesOff_322 (fun H locs hP hS => ?_)
            rw [← eS_4] at hP
            obtain ⟨x11_5, ex11_5⟩ : ∃ y : Int32, y = x11 + 1 := ⟨_, rfl⟩
            have h := h x11_5 ex11_5
            refine lv_iinc (v := x11_5) (lv' := [(11, .int x11_5), (0, .ref b), (1, .ref (b + p1)), (2, .ref (b + p2)), (3, .int x3), (4, .int x4), (5, .int x5), (6, .int x6), (7, .int x7), (8, .int x8)]) hx hb dX7_takesOff_323 hl (k := 9) rfl (by rw [ex11_5]; rfl) (by decide) rfl (fun ls hl => ?_)
            refine lv_goto (tgt := 301) hx hb dX7_takesOff_326 (by decide) ?_
            obtain ⟨mm, hmm, h⟩ := h
            exact ih301 mm hmm _ _ _ _ _ hP hS (lv_sub hl [1, 2, 3, 4, 5, 6, 7, 8, 9, 0] rfl) h
      have L214 : ∀ (x7 : Int32) (x8 : Int32) (x10 : Int32) (x11 : Int32) (S : St) (H : Heap) (locs : List Loc) (ls : Array Slot), wp_takesOff_l214 p1 p2 post (fun x7 S => ∃ mm, mm < n61 ∧ I61 mm (x7, S)) x3 x4 x5 x6 x7 x8 x10 x11 S → mW D cI cB b S H → va_S (mA b) s.heap H locs → lv_has ls 13 [(0, .ref b), (1, .ref (b + p1)), (2, .ref (b + p2)), (3, .int x3), (4, .int x4), (5, .int x5), (6, .int x6), (7, .int x7), (8, .int x8), (10, .int x10), (11, .int x11)] → W p l e (headSpec (ws_ yX7_takesOff cX7_takesOff 13 none) ({ frames := 5, cells := 0, slots := 0, locals := 124 } : Room)).room s m ([.ref b, .ref (b + p1), .ref (b + p2)] : List Value).toArray below meth c H locs 0 0 (MQ below (mQv D cI cB b post) ([.ref b, .ref (b + p1), .ref (b + p2)] : List Value).toArray s 0 0 (mA b)) (F0 m 214 ls []) := by
        intro x7 x8 x10 x11 S H locs ls h hP hS hl
        obtain ⟨I214, n214, hI, hstep214⟩ := h
        induction n214 using Nat.strongRecOn generalizing x11 S H locs ls with
        | ind n214 ih214 =>
          have h : wp_takesOff_b214 p1 p2 post (fun x7 S => ∃ mm, mm < n61 ∧ I61 mm (x7, S)) (fun x11 S => ∃ mm, mm < n214 ∧ I214 mm (x11, S)) x3 x4 x5 x6 x7 x8 x10 x11 S := hstep214 n214 _ hI
          clear hI
          have L224 : ∀ (x11 : Int32) (x12 : Int32) (S : St) (H : Heap) (locs : List Loc) (ls : Array Slot), wp_takesOff_l224 p1 p2 post (fun x7 S => ∃ mm, mm < n61 ∧ I61 mm (x7, S)) (fun x11 S => ∃ mm, mm < n214 ∧ I214 mm (x11, S)) x3 x4 x5 x6 x7 x8 x10 x11 x12 S → mW D cI cB b S H → va_S (mA b) s.heap H locs → lv_has ls 13 [(0, .ref b), (1, .ref (b + p1)), (2, .ref (b + p2)), (3, .int x3), (4, .int x4), (5, .int x5), (6, .int x6), (7, .int x7), (8, .int x8), (10, .int x10), (11, .int x11), (12, .int x12)] → W p l e (headSpec (ws_ yX7_takesOff cX7_takesOff 13 none) ({ frames := 5, cells := 0, slots := 0, locals := 124 } : Room)).room s m ([.ref b, .ref (b + p1), .ref (b + p2)] : List Value).toArray below meth c H locs 0 0 (MQ below (mQv D cI cB b post) ([.ref b, .ref (b + p1), .ref (b + p2)] : List Value).toArray s 0 0 (mA b)) (F0 m 224 ls []) := by
            intro x11 x12 S H locs ls h hP hS hl
            obtain ⟨I224, n224, hI, hstep224⟩ := h
            induction n224 using Nat.strongRecOn generalizing x12 S H locs ls with
            | ind n224 ih224 =>
              have h : wp_takesOff_b224 p1 p2 post (fun x7 S => ∃ mm, mm < n61 ∧ I61 mm (x7, S)) (fun x11 S => ∃ mm, mm < n214 ∧ I214 mm (x11, S)) (fun x12 S => ∃ mm, mm < n224 ∧ I224 mm (x12, S)) x3 x4 x5 x6 x7 x8 x10 x11 x12 S := hstep224 n224 _ hI
              clear hI
              unfold wp_takesOff_b224 at h
              refine lv_iload hx hb dX7_takesOff_224 (lv_at hl 11 rfl) ?_
              refine lv_iload hx hb dX7_takesOff_226 (lv_at hl 9 rfl) ?_
              refine lv_icmp_gt (tgt := 292) hx hb dX7_takesOff_228 (by decide) (fun c_14 => ?_) (fun c_14 => ?_)
              · have h := h.1 c_14
                obtain ⟨x11_7, ex11_7⟩ : ∃ y : Int32, y = x11 + 1 := ⟨_, rfl⟩
                have h := h x11_7 ex11_7
                refine lv_iinc (v := x11_7) (lv' := [(11, .int x11_7), (0, .ref b), (1, .ref (b + p1)), (2, .ref (b + p2)), (3, .int x3), (4, .int x4), (5, .int x5), (6, .int x6), (7, .int x7), (8, .int x8), (10, .int x10), (12, .int x12)]) hx hb dX7_takesOff_292 hl (k := 10) rfl (by rw [ex11_7]; rfl) (by decide) rfl (fun ls hl => ?_)
                refine lv_goto (tgt := 214) hx hb dX7_takesOff_295 (by decide) ?_
                obtain ⟨mm, hmm, h⟩ := h
                exact ih214 mm hmm _ _ _ _ _ hP hS (lv_sub hl [1, 2, 3, 4, 5, 6, 7, 8, 9, 10, 0] rfl) h
              · have h := h.2 c_14
                refine lv_aload_n hx hb dX7_takesOff_231 rfl (lv_at hl 0 rfl) ?_
                refine m_get (v := .ref (b + 23)) hx hb hts hown hK hP 51 (by decide) q1261 rfl rfl dX7_takesOff_232 ?_
                refine lv_iload hx hb dX7_takesOff_235 (lv_at hl 10 rfl) ?_
                refine lv_iload hx hb dX7_takesOff_237 (lv_at hl 11 rfl) ?_
                refine lv_iadd hx hb dX7_takesOff_239 ?_
                refine lv_aload_n hx hb dX7_takesOff_240 rfl (lv_at hl 0 rfl) ?_
                refine m_get (v := .ref (b + 23)) hx hb hts hown hK hP 51 (by decide) q1261 rfl rfl dX7_takesOff_241 ?_
                refine lv_iload hx hb dX7_takesOff_244 (lv_at hl 10 rfl) ?_
                refine lv_iload hx hb dX7_takesOff_246 (lv_at hl 11 rfl) ?_
                refine lv_iadd hx hb dX7_takesOff_248 ?_
                obtain ⟨j_8, hj_8, ej_8, h⟩ := h
                refine m_iald hx hb hK hP (k := 23) mok_23 ej_8 hj_8 dX7_takesOff_249 ?_
                refine lv_aload_n hx hb dX7_takesOff_250 rfl (lv_at hl 0 rfl) ?_
                refine m_get (v := .int (S 0 5)) hx hb hts hown hK hP 5 (by decide) q1215 rfl rfl dX7_takesOff_251 ?_
                refine lv_aload_n hx hb dX7_takesOff_254 rfl (lv_at hl 0 rfl) ?_
                refine m_get (v := .ref (b + 22)) hx hb hts hown hK hP 50 (by decide) q1260 rfl rfl dX7_takesOff_255 ?_
                refine lv_iload hx hb dX7_takesOff_258 (lv_at hl 10 rfl) ?_
                obtain ⟨j_9, hj_9, ej_9, h⟩ := h
                refine m_iald hx hb hK hP (k := 22) mok_22 ej_9 hj_9 dX7_takesOff_260 ?_
                refine lv_isub hx hb dX7_takesOff_261 ?_
                refine lv_aload_n hx hb dX7_takesOff_262 rfl (lv_at hl 2 rfl) ?_
                refine lv_sipush (v := 2304) hx hb dX7_takesOff_263 (by decide) ?_
                refine lv_iload hx hb dX7_takesOff_266 (lv_at hl 7 rfl) ?_
                refine lv_iload_n hx hb dX7_takesOff_268 rfl (lv_at hl 3 rfl) ?_
                refine lv_isub hx hb dX7_takesOff_269 ?_
                refine lv_iload hx hb dX7_takesOff_270 (lv_at hl 4 rfl) ?_
                refine lv_iadd hx hb dX7_takesOff_272 ?_
                refine lv_imul hx hb dX7_takesOff_273 ?_
                refine lv_iload hx hb dX7_takesOff_274 (lv_at hl 11 rfl) ?_
                refine lv_iadd hx hb dX7_takesOff_276 ?_
                obtain ⟨j_10, hj_10, ej_10, h⟩ := h
                refine m_iald hx hb hK hP (k := p2) hp2 ej_10 hj_10 dX7_takesOff_277 ?_
                refine lv_imul hx hb dX7_takesOff_278 ?_
                refine lv_iadd hx hb dX7_takesOff_279 ?_
                refine lv_aload_n hx hb dX7_takesOff_280 rfl (lv_at hl 0 rfl) ?_
                refine m_get (v := .int (S 0 5)) hx hb hts hown hK hP 5 (by decide) q1215 rfl rfl dX7_takesOff_281 ?_
                obtain ⟨hne, h⟩ := h
                refine m_irem hx hb dX7_takesOff_284 hne ?_
                obtain ⟨j_11, hj_11, ej_11, h⟩ := h
                obtain ⟨S_12, eS_12⟩ : ∃ z : St, z = bw S 23 j_11 (jrem ((S 23 j_8) + (((S 0 5) - (S 22 j_9)) * (S p2 j_10))) (S 0 5)) := ⟨_, rfl⟩
                have h := h S_12 eS_12
                refine m_iast hx hb hK hP hS (k := 23) mok_23 ej_11 hj_11 dX7_takesOff_285 (fun H locs hP hS => ?_)
                rw [← eS_12] at hP
                obtain ⟨x12_13, ex12_13⟩ : ∃ y : Int32, y = x12 + 1 := ⟨_, rfl⟩
                have h := h x12_13 ex12_13
                refine lv_iinc (v := x12_13) (lv' := [(12, .int x12_13), (0, .ref b), (1, .ref (b + p1)), (2, .ref (b + p2)), (3, .int x3), (4, .int x4), (5, .int x5), (6, .int x6), (7, .int x7), (8, .int x8), (10, .int x10), (11, .int x11)]) hx hb dX7_takesOff_286 hl (k := 11) rfl (by rw [ex12_13]; rfl) (by decide) rfl (fun ls hl => ?_)
                refine lv_goto (tgt := 224) hx hb dX7_takesOff_289 (by decide) ?_
                obtain ⟨mm, hmm, h⟩ := h
                exact ih224 mm hmm _ _ _ _ _ hP hS (lv_sub hl [1, 2, 3, 4, 5, 6, 7, 8, 9, 10, 11, 0] rfl) h
          unfold wp_takesOff_b214 at h
          refine lv_iload hx hb dX7_takesOff_214 (lv_at hl 10 rfl) ?_
          refine lv_iload hx hb dX7_takesOff_216 (lv_at hl 6 rfl) ?_
          refine lv_icmp_gt (tgt := 298) hx hb dX7_takesOff_218 (by decide) (fun c_15 => ?_) (fun c_15 => ?_)
          · have h := h.1 c_15
            refine lv_iconst (v := 0) hx hb dX7_takesOff_298 (by decide) ?_
            refine lv_istore (lv' := [(11, .int 0), (0, .ref b), (1, .ref (b + p1)), (2, .ref (b + p2)), (3, .int x3), (4, .int x4), (5, .int x5), (6, .int x6), (7, .int x7), (8, .int x8), (10, .int x10)]) hx hb dX7_takesOff_299 hl (by decide) rfl (fun ls hl => ?_)
            exact L301 _ _ _ _ _ _ _ h hP hS (lv_sub hl [1, 2, 3, 4, 5, 6, 7, 8, 9, 0] rfl)
          · have h := h.2 c_15
            refine lv_iconst (v := 0) hx hb dX7_takesOff_221 (by decide) ?_
            refine lv_istore (lv' := [(12, .int 0), (0, .ref b), (1, .ref (b + p1)), (2, .ref (b + p2)), (3, .int x3), (4, .int x4), (5, .int x5), (6, .int x6), (7, .int x7), (8, .int x8), (10, .int x10), (11, .int x11)]) hx hb dX7_takesOff_222 hl (by decide) rfl (fun ls hl => ?_)
            exact L224 _ _ _ _ _ _ h hP hS (lv_sub hl [1, 2, 3, 4, 5, 6, 7, 8, 9, 10, 11, 0] rfl)
      have J211 : ∀ (x7 : Int32) (x8 : Int32) (x10 : Int32) (S : St) (H : Heap) (locs : List Loc) (ls : Array Slot), wp_takesOff_j211 p1 p2 post (fun x7 S => ∃ mm, mm < n61 ∧ I61 mm (x7, S)) x3 x4 x5 x6 x7 x8 x10 S → mW D cI cB b S H → va_S (mA b) s.heap H locs → lv_has ls 13 [(0, .ref b), (1, .ref (b + p1)), (2, .ref (b + p2)), (3, .int x3), (4, .int x4), (5, .int x5), (6, .int x6), (7, .int x7), (8, .int x8), (10, .int x10)] → W p l e (headSpec (ws_ yX7_takesOff cX7_takesOff 13 none) ({ frames := 5, cells := 0, slots := 0, locals := 124 } : Room)).room s m ([.ref b, .ref (b + p1), .ref (b + p2)] : List Value).toArray below meth c H locs 0 0 (MQ below (mQv D cI cB b post) ([.ref b, .ref (b + p1), .ref (b + p2)] : List Value).toArray s 0 0 (mA b)) (F0 m 211 ls []) := by
        intro x7 x8 x10 S H locs ls h hP hS hl
        unfold wp_takesOff_j211 at h
        refine lv_iconst (v := 0) hx hb dX7_takesOff_211 (by decide) ?_
        refine lv_istore (lv' := [(11, .int 0), (0, .ref b), (1, .ref (b + p1)), (2, .ref (b + p2)), (3, .int x3), (4, .int x4), (5, .int x5), (6, .int x6), (7, .int x7), (8, .int x8), (10, .int x10)]) hx hb dX7_takesOff_212 hl (by decide) rfl (fun ls hl => ?_)
        exact L214 _ _ _ _ _ _ _ _ h hP hS (lv_sub hl [1, 2, 3, 4, 5, 6, 7, 8, 9, 10, 0] rfl)
      have L111 : ∀ (x7 : Int32) (x8 : Int32) (x9 : Int32) (x10 : Int32) (S : St) (H : Heap) (locs : List Loc) (ls : Array Slot), wp_takesOff_l111 p1 p2 post (fun x7 S => ∃ mm, mm < n61 ∧ I61 mm (x7, S)) x3 x4 x5 x6 x7 x8 x9 x10 S → mW D cI cB b S H → va_S (mA b) s.heap H locs → lv_has ls 13 [(0, .ref b), (1, .ref (b + p1)), (2, .ref (b + p2)), (3, .int x3), (4, .int x4), (5, .int x5), (6, .int x6), (7, .int x7), (8, .int x8), (9, .int x9), (10, .int x10)] → W p l e (headSpec (ws_ yX7_takesOff cX7_takesOff 13 none) ({ frames := 5, cells := 0, slots := 0, locals := 124 } : Room)).room s m ([.ref b, .ref (b + p1), .ref (b + p2)] : List Value).toArray below meth c H locs 0 0 (MQ below (mQv D cI cB b post) ([.ref b, .ref (b + p1), .ref (b + p2)] : List Value).toArray s 0 0 (mA b)) (F0 m 111 ls []) := by
        intro x7 x8 x9 x10 S H locs ls h hP hS hl
        obtain ⟨I111, n111, hI, hstep111⟩ := h
        induction n111 using Nat.strongRecOn generalizing x10 S H locs ls with
        | ind n111 ih111 =>
          have h : wp_takesOff_b111 p1 p2 post (fun x7 S => ∃ mm, mm < n61 ∧ I61 mm (x7, S)) (fun x10 S => ∃ mm, mm < n111 ∧ I111 mm (x10, S)) x3 x4 x5 x6 x7 x8 x9 x10 S := hstep111 n111 _ hI
          clear hI
          have L121 : ∀ (x10 : Int32) (x11 : Int32) (S : St) (H : Heap) (locs : List Loc) (ls : Array Slot), wp_takesOff_l121 p1 p2 post (fun x7 S => ∃ mm, mm < n61 ∧ I61 mm (x7, S)) (fun x10 S => ∃ mm, mm < n111 ∧ I111 mm (x10, S)) x3 x4 x5 x6 x7 x8 x9 x10 x11 S → mW D cI cB b S H → va_S (mA b) s.heap H locs → lv_has ls 13 [(0, .ref b), (1, .ref (b + p1)), (2, .ref (b + p2)), (3, .int x3), (4, .int x4), (5, .int x5), (6, .int x6), (7, .int x7), (8, .int x8), (9, .int x9), (10, .int x10), (11, .int x11)] → W p l e (headSpec (ws_ yX7_takesOff cX7_takesOff 13 none) ({ frames := 5, cells := 0, slots := 0, locals := 124 } : Room)).room s m ([.ref b, .ref (b + p1), .ref (b + p2)] : List Value).toArray below meth c H locs 0 0 (MQ below (mQv D cI cB b post) ([.ref b, .ref (b + p1), .ref (b + p2)] : List Value).toArray s 0 0 (mA b)) (F0 m 121 ls []) := by
            intro x10 x11 S H locs ls h hP hS hl
            obtain ⟨I121, n121, hI, hstep121⟩ := h
            induction n121 using Nat.strongRecOn generalizing x11 S H locs ls with
            | ind n121 ih121 =>
              have h : wp_takesOff_b121 p1 p2 post (fun x7 S => ∃ mm, mm < n61 ∧ I61 mm (x7, S)) (fun x10 S => ∃ mm, mm < n111 ∧ I111 mm (x10, S)) (fun x11 S => ∃ mm, mm < n121 ∧ I121 mm (x11, S)) x3 x4 x5 x6 x7 x8 x9 x10 x11 S := hstep121 n121 _ hI
              clear hI
              unfold wp_takesOff_b121 at h
              refine lv_iload hx hb dX7_takesOff_121 (lv_at hl 11 rfl) ?_
              refine lv_iload hx hb dX7_takesOff_123 (lv_at hl 9 rfl) ?_
              refine lv_icmp_gt (tgt := 175) hx hb dX7_takesOff_125 (by decide) (fun c_23 => ?_) (fun c_23 => ?_)
              · have h := h.1 c_23
                obtain ⟨x10_16, ex10_16⟩ : ∃ y : Int32, y = x10 + 1 := ⟨_, rfl⟩
                have h := h x10_16 ex10_16
                refine lv_iinc (v := x10_16) (lv' := [(10, .int x10_16), (0, .ref b), (1, .ref (b + p1)), (2, .ref (b + p2)), (3, .int x3), (4, .int x4), (5, .int x5), (6, .int x6), (7, .int x7), (8, .int x8), (9, .int x9), (11, .int x11)]) hx hb dX7_takesOff_175 hl (k := 10) rfl (by rw [ex10_16]; rfl) (by decide) rfl (fun ls hl => ?_)
                refine lv_goto (tgt := 111) hx hb dX7_takesOff_178 (by decide) ?_
                obtain ⟨mm, hmm, h⟩ := h
                exact ih111 mm hmm _ _ _ _ _ hP hS (lv_sub hl [1, 2, 3, 4, 5, 6, 7, 8, 9, 10, 0] rfl) h
              · have h := h.2 c_23
                refine lv_aload_n hx hb dX7_takesOff_128 rfl (lv_at hl 0 rfl) ?_
                refine m_get (v := .ref (b + 23)) hx hb hts hown hK hP 51 (by decide) q1261 rfl rfl dX7_takesOff_129 ?_
                refine lv_iload hx hb dX7_takesOff_132 (lv_at hl 10 rfl) ?_
                refine lv_iload hx hb dX7_takesOff_134 (lv_at hl 11 rfl) ?_
                refine lv_iadd hx hb dX7_takesOff_136 ?_
                refine lv_aload_n hx hb dX7_takesOff_137 rfl (lv_at hl 0 rfl) ?_
                refine m_get (v := .ref (b + 23)) hx hb hts hown hK hP 51 (by decide) q1261 rfl rfl dX7_takesOff_138 ?_
                refine lv_iload hx hb dX7_takesOff_141 (lv_at hl 10 rfl) ?_
                refine lv_iload hx hb dX7_takesOff_143 (lv_at hl 11 rfl) ?_
                refine lv_iadd hx hb dX7_takesOff_145 ?_
                obtain ⟨j_17, hj_17, ej_17, h⟩ := h
                refine m_iald hx hb hK hP (k := 23) mok_23 ej_17 hj_17 dX7_takesOff_146 ?_
                refine lv_aload_n hx hb dX7_takesOff_147 rfl (lv_at hl 0 rfl) ?_
                refine m_get (v := .ref (b + 21)) hx hb hts hown hK hP 49 (by decide) q1259 rfl rfl dX7_takesOff_148 ?_
                refine lv_iload hx hb dX7_takesOff_151 (lv_at hl 10 rfl) ?_
                obtain ⟨j_18, hj_18, ej_18, h⟩ := h
                refine m_iald hx hb hK hP (k := 21) mok_21 ej_18 hj_18 dX7_takesOff_153 ?_
                refine lv_aload_n hx hb dX7_takesOff_154 rfl (lv_at hl 1 rfl) ?_
                refine lv_iload hx hb dX7_takesOff_155 (lv_at hl 8 rfl) ?_
                refine lv_iload hx hb dX7_takesOff_157 (lv_at hl 11 rfl) ?_
                refine lv_iadd hx hb dX7_takesOff_159 ?_
                obtain ⟨j_19, hj_19, ej_19, h⟩ := h
                refine m_iald hx hb hK hP (k := p1) hp1 ej_19 hj_19 dX7_takesOff_160 ?_
                refine lv_imul hx hb dX7_takesOff_161 ?_
                refine lv_iadd hx hb dX7_takesOff_162 ?_
                refine lv_aload_n hx hb dX7_takesOff_163 rfl (lv_at hl 0 rfl) ?_
                refine m_get (v := .int (S 0 5)) hx hb hts hown hK hP 5 (by decide) q1215 rfl rfl dX7_takesOff_164 ?_
                obtain ⟨hne, h⟩ := h
                refine m_irem hx hb dX7_takesOff_167 hne ?_
                obtain ⟨j_20, hj_20, ej_20, h⟩ := h
                obtain ⟨S_21, eS_21⟩ : ∃ z : St, z = bw S 23 j_20 (jrem ((S 23 j_17) + ((S 21 j_18) * (S p1 j_19))) (S 0 5)) := ⟨_, rfl⟩
                have h := h S_21 eS_21
                refine m_iast hx hb hK hP hS (k := 23) mok_23 ej_20 hj_20 dX7_takesOff_168 (fun H locs hP hS => ?_)
                rw [← eS_21] at hP
                obtain ⟨x11_22, ex11_22⟩ : ∃ y : Int32, y = x11 + 1 := ⟨_, rfl⟩
                have h := h x11_22 ex11_22
                refine lv_iinc (v := x11_22) (lv' := [(11, .int x11_22), (0, .ref b), (1, .ref (b + p1)), (2, .ref (b + p2)), (3, .int x3), (4, .int x4), (5, .int x5), (6, .int x6), (7, .int x7), (8, .int x8), (9, .int x9), (10, .int x10)]) hx hb dX7_takesOff_169 hl (k := 11) rfl (by rw [ex11_22]; rfl) (by decide) rfl (fun ls hl => ?_)
                refine lv_goto (tgt := 121) hx hb dX7_takesOff_172 (by decide) ?_
                obtain ⟨mm, hmm, h⟩ := h
                exact ih121 mm hmm _ _ _ _ _ hP hS (lv_sub hl [1, 2, 3, 4, 5, 6, 7, 8, 9, 10, 11, 0] rfl) h
          unfold wp_takesOff_b111 at h
          refine lv_iload hx hb dX7_takesOff_111 (lv_at hl 10 rfl) ?_
          refine lv_iload hx hb dX7_takesOff_113 (lv_at hl 5 rfl) ?_
          refine lv_icmp_gt (tgt := 181) hx hb dX7_takesOff_115 (by decide) (fun c_27 => ?_) (fun c_27 => ?_)
          · have h := h.1 c_27
            refine lv_iload hx hb dX7_takesOff_181 (lv_at hl 7 rfl) ?_
            refine lv_iload_n hx hb dX7_takesOff_183 rfl (lv_at hl 3 rfl) ?_
            refine lv_iload hx hb dX7_takesOff_184 (lv_at hl 4 rfl) ?_
            refine lv_isub hx hb dX7_takesOff_186 ?_
            refine lv_icmp_ge (tgt := 194) hx hb dX7_takesOff_187 (by decide) (fun c_26 => ?_) (fun c_26 => ?_)
            · have h := h.1 c_26
              refine lv_aload_n hx hb dX7_takesOff_194 rfl (lv_at hl 2 rfl) ?_
              refine lv_sipush (v := 2304) hx hb dX7_takesOff_195 (by decide) ?_
              refine lv_iload hx hb dX7_takesOff_198 (lv_at hl 7 rfl) ?_
              refine lv_iload_n hx hb dX7_takesOff_200 rfl (lv_at hl 3 rfl) ?_
              refine lv_isub hx hb dX7_takesOff_201 ?_
              refine lv_iload hx hb dX7_takesOff_202 (lv_at hl 4 rfl) ?_
              refine lv_iadd hx hb dX7_takesOff_204 ?_
              refine lv_imul hx hb dX7_takesOff_205 ?_
              refine m_cSp (As := [.ref (b + p2), .int (2304 * ((x7 - x3) + x4))]) (rest := []) ⟨hx, hb, hml, hown, hts⟩ (met_heightOf l D cI cB b p2 (2304 * ((x7 - x3) + x4)) hp2 S _ h) (va_cwS 2 hts (lw_S q1760 q1761 q128 q1762) rfl rfl rfl cwd_heightOf ⟨Nat.le_of_ble_eq_true rfl, Nat.le_of_ble_eq_true rfl⟩) hK hP hS rfl hl.1 rfl (Nat.le_of_ble_eq_true rfl) dX7_takesOff_206 ⟨Nat.zero_le _, Nat.zero_le _⟩ (fun r_24 H locs h hP hS => ?_)
              refine lv_istore (lv' := [(10, .int r_24), (0, .ref b), (1, .ref (b + p1)), (2, .ref (b + p2)), (3, .int x3), (4, .int x4), (5, .int x5), (6, .int x6), (7, .int x7), (8, .int x8), (9, .int x9)]) hx hb dX7_takesOff_209 hl (by decide) rfl (fun ls hl => ?_)
              exact J211 _ _ _ _ _ _ _ h hP hS (lv_sub hl [1, 2, 3, 4, 5, 6, 7, 8, 9, 0] rfl)
            · have h := h.2 c_26
              refine lv_iconst (v := (-1)) hx hb dX7_takesOff_190 (by decide) ?_
              refine lv_goto (tgt := 209) hx hb dX7_takesOff_191 (by decide) ?_
              refine lv_istore (lv' := [(10, .int (-1)), (0, .ref b), (1, .ref (b + p1)), (2, .ref (b + p2)), (3, .int x3), (4, .int x4), (5, .int x5), (6, .int x6), (7, .int x7), (8, .int x8), (9, .int x9)]) hx hb dX7_takesOff_209 hl (by decide) rfl (fun ls hl => ?_)
              exact J211 _ _ _ _ _ _ _ h hP hS (lv_sub hl [1, 2, 3, 4, 5, 6, 7, 8, 9, 0] rfl)
          · have h := h.2 c_27
            refine lv_iconst (v := 0) hx hb dX7_takesOff_118 (by decide) ?_
            refine lv_istore (lv' := [(11, .int 0), (0, .ref b), (1, .ref (b + p1)), (2, .ref (b + p2)), (3, .int x3), (4, .int x4), (5, .int x5), (6, .int x6), (7, .int x7), (8, .int x8), (9, .int x9), (10, .int x10)]) hx hb dX7_takesOff_119 hl (by decide) rfl (fun ls hl => ?_)
            exact L121 _ _ _ _ _ _ h hP hS (lv_sub hl [1, 2, 3, 4, 5, 6, 7, 8, 9, 10, 11, 0] rfl)
      have L70 : ∀ (x7 : Int32) (x8 : Int32) (S : St) (H : Heap) (locs : List Loc) (ls : Array Slot), wp_takesOff_l70 p1 p2 post (fun x7 S => ∃ mm, mm < n61 ∧ I61 mm (x7, S)) x3 x4 x5 x6 x7 x8 S → mW D cI cB b S H → va_S (mA b) s.heap H locs → lv_has ls 13 [(0, .ref b), (1, .ref (b + p1)), (2, .ref (b + p2)), (3, .int x3), (4, .int x4), (5, .int x5), (6, .int x6), (7, .int x7), (8, .int x8)] → W p l e (headSpec (ws_ yX7_takesOff cX7_takesOff 13 none) ({ frames := 5, cells := 0, slots := 0, locals := 124 } : Room)).room s m ([.ref b, .ref (b + p1), .ref (b + p2)] : List Value).toArray below meth c H locs 0 0 (MQ below (mQv D cI cB b post) ([.ref b, .ref (b + p1), .ref (b + p2)] : List Value).toArray s 0 0 (mA b)) (F0 m 70 ls []) := by
        intro x7 x8 S H locs ls h hP hS hl
        obtain ⟨I70, n70, hI, hstep70⟩ := h
        induction n70 using Nat.strongRecOn generalizing x8 S H locs ls with
        | ind n70 ih70 =>
          have h : wp_takesOff_b70 p1 p2 post (fun x7 S => ∃ mm, mm < n61 ∧ I61 mm (x7, S)) (fun x8 S => ∃ mm, mm < n70 ∧ I70 mm (x8, S)) x3 x4 x5 x6 x7 x8 S := hstep70 n70 _ hI
          clear hI
          unfold wp_takesOff_b70 at h
          refine lv_iload hx hb dX7_takesOff_70 (lv_at hl 8 rfl) ?_
          refine lv_sipush (v := 2304) hx hb dX7_takesOff_72 (by decide) ?_
          refine lv_icmp_ge (tgt := 92) hx hb dX7_takesOff_75 (by decide) (fun c_34 => ?_) (fun c_34 => ?_)
          · have h := h.1 c_34
            refine lv_sipush (v := 2304) hx hb dX7_takesOff_92 (by decide) ?_
            refine lv_iload hx hb dX7_takesOff_95 (lv_at hl 7 rfl) ?_
            refine lv_imul hx hb dX7_takesOff_97 ?_
            refine lv_topi (fun x8_28 ex8_28 => ?_)
            have h := h x8_28 ex8_28
            refine lv_istore (lv' := [(8, .int x8_28), (0, .ref b), (1, .ref (b + p1)), (2, .ref (b + p2)), (3, .int x3), (4, .int x4), (5, .int x5), (6, .int x6), (7, .int x7)]) hx hb dX7_takesOff_98 hl (by decide) rfl (fun ls hl => ?_)
            refine lv_aload_n hx hb dX7_takesOff_100 rfl (lv_at hl 2 rfl) ?_
            refine lv_iload hx hb dX7_takesOff_101 (lv_at hl 0 rfl) ?_
            refine m_cSp (As := [.ref (b + p1), .int x8_28]) (rest := []) ⟨hx, hb, hml, hown, hts⟩ (met_heightOf l D cI cB b p1 x8_28 hp1 S _ h) (va_cwS 2 hts (lw_S q1760 q1761 q128 q1762) rfl rfl rfl cwd_heightOf ⟨Nat.le_of_ble_eq_true rfl, Nat.le_of_ble_eq_true rfl⟩) hK hP hS rfl hl.1 rfl (Nat.le_of_ble_eq_true rfl) dX7_takesOff_103 ⟨Nat.zero_le _, Nat.zero_le _⟩ (fun r_29 H locs h hP hS => ?_)
            refine lv_istore (lv' := [(9, .int r_29), (8, .int x8_28), (0, .ref b), (1, .ref (b + p1)), (2, .ref (b + p2)), (3, .int x3), (4, .int x4), (5, .int x5), (6, .int x6), (7, .int x7)]) hx hb dX7_takesOff_106 hl (by decide) rfl (fun ls hl => ?_)
            refine lv_iconst (v := 0) hx hb dX7_takesOff_108 (by decide) ?_
            refine lv_istore (lv' := [(10, .int 0), (9, .int r_29), (8, .int x8_28), (0, .ref b), (1, .ref (b + p1)), (2, .ref (b + p2)), (3, .int x3), (4, .int x4), (5, .int x5), (6, .int x6), (7, .int x7)]) hx hb dX7_takesOff_109 hl (by decide) rfl (fun ls hl => ?_)
            exact L111 _ _ _ _ _ _ _ _ h hP hS (lv_sub hl [3, 4, 5, 6, 7, 8, 9, 10, 2, 1, 0] rfl)
          · have h := h.2 c_34
            refine lv_aload_n hx hb dX7_takesOff_78 rfl (lv_at hl 0 rfl) ?_
            refine m_get (v := .ref (b + 23)) hx hb hts hown hK hP 51 (by decide) q1261 rfl rfl dX7_takesOff_79 ?_
            refine lv_iload hx hb dX7_takesOff_82 (lv_at hl 8 rfl) ?_
            refine lv_iconst (v := 0) hx hb dX7_takesOff_84 (by decide) ?_
            obtain ⟨j_31, hj_31, ej_31, h⟩ := h
            obtain ⟨S_32, eS_32⟩ : ∃ z : St, z = bw S 23 j_31 0 := ⟨_, rfl⟩
            have h := h S_32 eS_32
            refine m_iast hx hb hK hP hS (k := 23) mok_23 ej_31 hj_31 dX7_takesOff_85 (fun H locs hP hS => ?_)
            rw [← eS_32] at hP
            obtain ⟨x8_33, ex8_33⟩ : ∃ y : Int32, y = x8 + 1 := ⟨_, rfl⟩
            have h := h x8_33 ex8_33
            refine lv_iinc (v := x8_33) (lv' := [(8, .int x8_33), (0, .ref b), (1, .ref (b + p1)), (2, .ref (b + p2)), (3, .int x3), (4, .int x4), (5, .int x5), (6, .int x6), (7, .int x7)]) hx hb dX7_takesOff_86 hl (k := 8) rfl (by rw [ex8_33]; rfl) (by decide) rfl (fun ls hl => ?_)
            refine lv_goto (tgt := 70) hx hb dX7_takesOff_89 (by decide) ?_
            obtain ⟨mm, hmm, h⟩ := h
            exact ih70 mm hmm _ _ _ _ _ hP hS (lv_sub hl [1, 2, 3, 4, 5, 6, 7, 8, 0] rfl) h
      unfold wp_takesOff_b61 at h
      refine lv_iload hx hb dX7_takesOff_61 (lv_at hl 7 rfl) ?_
      refine lv_iload_n hx hb dX7_takesOff_63 rfl (lv_at hl 3 rfl) ?_
      refine lv_icmp_gt (tgt := 335) hx hb dX7_takesOff_64 (by decide) (fun c_37 => ?_) (fun c_37 => ?_)
      · have h := h.1 c_37
        refine lv_aload_n hx hb dX7_takesOff_335 rfl (lv_at hl 0 rfl) ?_
        refine lv_aload_n hx hb dX7_takesOff_336 rfl (lv_at hl 1 rfl) ?_
        refine m_cVv (As := [.ref (b + p1)]) (rest := []) ⟨hx, hb, hml, hown, hts⟩ (met_primitives l D cI cB b p1 hp1 S _ h) (cwV 1 hts (lw_V q1782 q1784 qs110 q128 q1785) rfl rfl rfl cwd_primitives ⟨Nat.le_of_ble_eq_true rfl, Nat.le_of_ble_eq_true rfl⟩) hK hP hS rfl hl.1 rfl (Nat.le_of_ble_eq_true rfl) dX7_takesOff_337 ⟨Nat.zero_le _, Nat.zero_le _⟩ (fun S_36 H locs h hP hS => ?_)
        exact W.vret hx hb hr (fun t ht hW => ⟨⟨S_36, rfl, h, by rw [ht]; exact hP, va_K.moved hW.alike hK⟩, hS.F ht⟩) hS.2.2 dX7_takesOff_340
      · have h := h.2 c_37
        refine lv_iconst (v := 0) hx hb dX7_takesOff_67 (by decide) ?_
        refine lv_istore (lv' := [(8, .int 0), (0, .ref b), (1, .ref (b + p1)), (2, .ref (b + p2)), (3, .int x3), (4, .int x4), (5, .int x5), (6, .int x6), (7, .int x7)]) hx hb dX7_takesOff_68 hl (by decide) rfl (fun ls hl => ?_)
        exact L70 _ _ _ _ _ _ h hP hS (lv_sub hl [1, 2, 3, 4, 5, 6, 7, 8, 0] rfl)
  unfold wp_takesOff at h
  refine lv_aload_n hx hb dX7_takesOff_0 rfl (lv_at hl 1 rfl) ?_
  refine m_cSp (As := [.ref (b + p1)]) (rest := []) ⟨hx, hb, hml, hown, hts⟩ (met_degreeX l D cI cB b p1 hp1 S _ h) (va_cwS 1 hts (lw_S q1757 q1758 q128 q1759) rfl rfl rfl cwd_degreeX ⟨Nat.le_of_ble_eq_true rfl, Nat.le_of_ble_eq_true rfl⟩) hK hP hS rfl hl.1 rfl (Nat.le_of_ble_eq_true rfl) dX7_takesOff_1 ⟨Nat.zero_le _, Nat.zero_le _⟩ (fun r_38 H locs h hP hS => ?_)
  refine lv_istore_n (lv' := [(3, .int r_38), (0, .ref b), (1, .ref (b + p1)), (2, .ref (b + p2))]) hx hb dX7_takesOff_4 rfl hl (by decide) rfl (fun ls hl => ?_)
  refine lv_aload_n hx hb dX7_takesOff_5 rfl (lv_at hl 3 rfl) ?_
  refine m_cSp (As := [.ref (b + p2)]) (rest := []) ⟨hx, hb, hml, hown, hts⟩ (met_degreeX l D cI cB b p2 hp2 S _ h) (va_cwS 1 hts (lw_S q1757 q1758 q128 q1759) rfl rfl rfl cwd_degreeX ⟨Nat.le_of_ble_eq_true rfl, Nat.le_of_ble_eq_true rfl⟩) hK hP hS rfl hl.1 rfl (Nat.le_of_ble_eq_true rfl) dX7_takesOff_6 ⟨Nat.zero_le _, Nat.zero_le _⟩ (fun r_40 H locs h hP hS => ?_)
  refine lv_istore (lv' := [(4, .int r_40), (3, .int r_38), (0, .ref b), (1, .ref (b + p1)), (2, .ref (b + p2))]) hx hb dX7_takesOff_9 hl (by decide) rfl (fun ls hl => ?_)
  refine lv_aload_n hx hb dX7_takesOff_11 rfl (lv_at hl 4 rfl) ?_
  refine lv_sipush (v := 2304) hx hb dX7_takesOff_12 (by decide) ?_
  refine lv_iload hx hb dX7_takesOff_15 (lv_at hl 0 rfl) ?_
  refine lv_imul hx hb dX7_takesOff_17 ?_
  refine lv_aload_n hx hb dX7_takesOff_18 rfl (lv_at hl 2 rfl) ?_
  refine m_get (v := .ref (b + 21)) hx hb hts hown hK hP 49 (by decide) q1259 rfl rfl dX7_takesOff_19 ?_
  refine m_cSv (As := [.ref (b + p2), .int (2304 * r_40), .ref (b + 21)]) (rest := []) ⟨hx, hb, hml, hown, hts⟩ (met_copies l D cI cB b p2 (2304 * r_40) 21 hp2 mok_21 S _ h) (va_cwS 3 hts (lw_S q1767 q1768 q128 q1769) rfl rfl rfl cwd_copies ⟨Nat.le_of_ble_eq_true rfl, Nat.le_of_ble_eq_true rfl⟩) hK hP hS rfl hl.1 rfl (Nat.le_of_ble_eq_true rfl) dX7_takesOff_22 ⟨Nat.zero_le _, Nat.zero_le _⟩ (fun S_43 H locs h hP hS => ?_)
  refine lv_aload_n hx hb dX7_takesOff_25 rfl (lv_at hl 3 rfl) ?_
  refine lv_sipush (v := 2304) hx hb dX7_takesOff_26 (by decide) ?_
  refine lv_iload_n hx hb dX7_takesOff_29 rfl (lv_at hl 1 rfl) ?_
  refine lv_imul hx hb dX7_takesOff_30 ?_
  refine lv_aload_n hx hb dX7_takesOff_31 rfl (lv_at hl 2 rfl) ?_
  refine m_get (v := .ref (b + 22)) hx hb hts hown hK hP 50 (by decide) q1260 rfl rfl dX7_takesOff_32 ?_
  refine m_cSv (As := [.ref (b + p1), .int (2304 * r_38), .ref (b + 22)]) (rest := []) ⟨hx, hb, hml, hown, hts⟩ (met_copies l D cI cB b p1 (2304 * r_38) 22 hp1 mok_22 S_43 _ h) (va_cwS 3 hts (lw_S q1767 q1768 q128 q1769) rfl rfl rfl cwd_copies ⟨Nat.le_of_ble_eq_true rfl, Nat.le_of_ble_eq_true rfl⟩) hK hP hS rfl hl.1 rfl (Nat.le_of_ble_eq_true rfl) dX7_takesOff_35 ⟨Nat.zero_le _, Nat.zero_le _⟩ (fun S_45 H locs h hP hS => ?_)
  refine lv_aload_n hx hb dX7_takesOff_38 rfl (lv_at hl 2 rfl) ?_
  refine m_get (v := .ref (b + 21)) hx hb hts hown hK hP 49 (by decide) q1259 rfl rfl dX7_takesOff_39 ?_
  refine lv_iconst (v := 0) hx hb dX7_takesOff_42 (by decide) ?_
  refine m_cSp (As := [.ref (b + 21), .int 0]) (rest := []) ⟨hx, hb, hml, hown, hts⟩ (met_heightOf l D cI cB b 21 0 mok_21 S_45 _ h) (va_cwS 2 hts (lw_S q1760 q1761 q128 q1762) rfl rfl rfl cwd_heightOf ⟨Nat.le_of_ble_eq_true rfl, Nat.le_of_ble_eq_true rfl⟩) hK hP hS rfl hl.1 rfl (Nat.le_of_ble_eq_true rfl) dX7_takesOff_43 ⟨Nat.zero_le _, Nat.zero_le _⟩ (fun r_46 H locs h hP hS => ?_)
  refine lv_istore (lv' := [(5, .int r_46), (4, .int r_40), (3, .int r_38), (0, .ref b), (1, .ref (b + p1)), (2, .ref (b + p2))]) hx hb dX7_takesOff_46 hl (by decide) rfl (fun ls hl => ?_)
  refine lv_aload_n hx hb dX7_takesOff_48 rfl (lv_at hl 3 rfl) ?_
  refine m_get (v := .ref (b + 22)) hx hb hts hown hK hP 50 (by decide) q1260 rfl rfl dX7_takesOff_49 ?_
  refine lv_iconst (v := 0) hx hb dX7_takesOff_52 (by decide) ?_
  refine m_cSp (As := [.ref (b + 22), .int 0]) (rest := []) ⟨hx, hb, hml, hown, hts⟩ (met_heightOf l D cI cB b 22 0 mok_22 S_45 _ h) (va_cwS 2 hts (lw_S q1760 q1761 q128 q1762) rfl rfl rfl cwd_heightOf ⟨Nat.le_of_ble_eq_true rfl, Nat.le_of_ble_eq_true rfl⟩) hK hP hS rfl hl.1 rfl (Nat.le_of_ble_eq_true rfl) dX7_takesOff_53 ⟨Nat.zero_le _, Nat.zero_le _⟩ (fun r_48 H locs h hP hS => ?_)
  refine lv_istore (lv' := [(6, .int r_48), (5, .int r_46), (4, .int r_40), (3, .int r_38), (0, .ref b), (1, .ref (b + p1)), (2, .ref (b + p2))]) hx hb dX7_takesOff_56 hl (by decide) rfl (fun ls hl => ?_)
  refine lv_iconst (v := 0) hx hb dX7_takesOff_58 (by decide) ?_
  refine lv_istore (lv' := [(7, .int 0), (6, .int r_48), (5, .int r_46), (4, .int r_40), (3, .int r_38), (0, .ref b), (1, .ref (b + p1)), (2, .ref (b + p2))]) hx hb dX7_takesOff_59 hl (by decide) rfl (fun ls hl => ?_)
  exact L61 _ _ _ _ _ _ _ _ _ h hP hS (lv_sub hl [5, 6, 7, 4, 3, 2, 1, 0] rfl)
def wp_meetsRows_b320  (post : St → Prop) (R199 : Int32 → St → Prop) (R320 : Int32 → St → Prop) (x1 : Int32) (x2 : Int32) (x4 : Int32) (S : St) : Prop :=
          ((2304 ≤ x4 →
            ∀ x2_1 : Int32, x2_1 = x2 + 1 →
            R199 x2_1 S) ∧
           (¬ (2304 ≤ x4) →
            ∃ j_2 : Nat, j_2 < 2304 ∧ x4 = nI j_2 ∧
            ∃ j_3 : Nat, j_3 < 36864 ∧ ((2304 * x2) + x4) = nI j_3 ∧ ∀ S_4 : St, S_4 = bw S 18 j_3 (S 23 j_2) →
            ∀ x4_5 : Int32, x4_5 = x4 + 1 →
            R320 x4_5 S_4))
def wp_meetsRows_l320  (post : St → Prop) (R199 : Int32 → St → Prop) (x1 : Int32) (x2 : Int32) (x4 : Int32) (S : St) : Prop := wLoop (fun (R : (Int32 × St) → Prop) (v : Int32 × St) => wp_meetsRows_b320  post R199 (fun x4 S => R (x4, S)) x1 x2 v.1 v.2) (x4, S)
def wp_meetsRows_b252  (post : St → Prop) (R199 : Int32 → St → Prop) (R243 : Int32 → St → Prop) (R252 : Int32 → St → Prop) (x1 : Int32) (x2 : Int32) (x3 : Int32) (x4 : Int32) (x5 : Int32) (S : St) : Prop :=
              ((x3 < x5 →
                ∀ x4_7 : Int32, x4_7 = x4 + 1 →
                R243 x4_7 S) ∧
               (¬ (x3 < x5) →
                ∃ j_8 : Nat, j_8 < 2304 ∧ (x4 + x5) = nI j_8 ∧
                ∃ j_9 : Nat, j_9 < 2304 ∧ x4 = nI j_9 ∧
                ∃ j_10 : Nat, j_10 < 36864 ∧ ((2304 * x2) + x5) = nI j_10 ∧
                ¬ (S 0 5) = 0 ∧
                ∃ j_11 : Nat, j_11 < 2304 ∧ (x4 + x5) = nI j_11 ∧ ∀ S_12 : St, S_12 = bw S 23 j_11 (jrem ((S 23 j_8) + ((S 24 j_9) * (S 18 j_10))) (S 0 5)) →
                ∀ x5_13 : Int32, x5_13 = x5 + 1 →
                R252 x5_13 S_12))
def wp_meetsRows_l252  (post : St → Prop) (R199 : Int32 → St → Prop) (R243 : Int32 → St → Prop) (x1 : Int32) (x2 : Int32) (x3 : Int32) (x4 : Int32) (x5 : Int32) (S : St) : Prop := wLoop (fun (R : (Int32 × St) → Prop) (v : Int32 × St) => wp_meetsRows_b252  post R199 R243 (fun x5 S => R (x5, S)) x1 x2 x3 x4 v.1 v.2) (x5, S)
def wp_meetsRows_b243  (post : St → Prop) (R199 : Int32 → St → Prop) (R243 : Int32 → St → Prop) (x1 : Int32) (x2 : Int32) (x3 : Int32) (x4 : Int32) (S : St) : Prop :=
          ((x1 < x4 →
            wp_meetsRows_l320  post R199 x1 x2 0 S) ∧
           (¬ (x1 < x4) →
            wp_meetsRows_l252  post R199 R243 x1 x2 x3 x4 0 S))
def wp_meetsRows_l243  (post : St → Prop) (R199 : Int32 → St → Prop) (x1 : Int32) (x2 : Int32) (x3 : Int32) (x4 : Int32) (S : St) : Prop := wLoop (fun (R : (Int32 × St) → Prop) (v : Int32 × St) => wp_meetsRows_b243  post R199 (fun x4 S => R (x4, S)) x1 x2 x3 v.1 v.2) (x4, S)
def wp_meetsRows_b207  (post : St → Prop) (R199 : Int32 → St → Prop) (R207 : Int32 → St → Prop) (x1 : Int32) (x2 : Int32) (x3 : Int32) (S : St) : Prop :=
          ((2304 ≤ x3 →
            wp_heightOf 18 (2304 * x2) S (fun r_16 =>
            wp_meetsRows_l243  post R199 x1 x2 r_16 0 S)) ∧
           (¬ (2304 ≤ x3) →
            ∃ j_18 : Nat, j_18 < 2304 ∧ x3 = nI j_18 ∧ ∀ S_19 : St, S_19 = bw S 23 j_18 0 →
            ∀ x3_20 : Int32, x3_20 = x3 + 1 →
            R207 x3_20 S_19))
def wp_meetsRows_l207  (post : St → Prop) (R199 : Int32 → St → Prop) (x1 : Int32) (x2 : Int32) (x3 : Int32) (S : St) : Prop := wLoop (fun (R : (Int32 × St) → Prop) (v : Int32 × St) => wp_meetsRows_b207  post R199 (fun x3 S => R (x3, S)) x1 x2 v.1 v.2) (x3, S)
def wp_meetsRows_b199  (post : St → Prop) (R199 : Int32 → St → Prop) (x1 : Int32) (x2 : Int32) (S : St) : Prop :=
      ((16 ≤ x2 →
        post S) ∧
       (¬ (16 ≤ x2) →
        wp_meetsRows_l207  post R199 x1 x2 0 S))
def wp_meetsRows_l199  (post : St → Prop) (x1 : Int32) (x2 : Int32) (S : St) : Prop := wLoop (fun (R : (Int32 × St) → Prop) (v : Int32 × St) => wp_meetsRows_b199  post (fun x2 S => R (x2, S)) x1 v.1 v.2) (x2, S)
def wp_meetsRows_b147  (post : St → Prop) (R102 : St → Prop) (R147 : Int32 → St → Prop)  (x1 : Int32) (S : St) : Prop :=
          ((36864 ≤ x1 →
            R102 S) ∧
           (¬ (36864 ≤ x1) →
            ∃ j_23 : Nat, j_23 < 36864 ∧ x1 = nI j_23 ∧
            ∃ j_24 : Nat, j_24 < 36864 ∧ x1 = nI j_24 ∧
            ∃ j_25 : Nat, j_25 < 36864 ∧ x1 = nI j_25 ∧ ∀ S_26 : St, S_26 = bw S 18 j_25 (S 19 j_24) →
            ∃ j_27 : Nat, j_27 < 36864 ∧ x1 = nI j_27 ∧ ∀ S_28 : St, S_28 = bw S_26 19 j_27 (S 18 j_23) →
            ∀ x1_29 : Int32, x1_29 = x1 + 1 →
            R147 x1_29 S_28))
def wp_meetsRows_l147  (post : St → Prop) (R102 : St → Prop)  (x1 : Int32) (S : St) : Prop := wLoop (fun (R : (Int32 × St) → Prop) (v : Int32 × St) => wp_meetsRows_b147  post R102 (fun x1 S => R (x1, S))  v.1 v.2) (x1, S)
def wp_meetsRows_b113  (post : St → Prop) (R102 : St → Prop) (R113 : St → Prop)   (S : St) : Prop :=
          wp_degreeX 18 S (fun r_31 =>
          wp_degreeX 19 S (fun r_33 =>
          ((r_31 < r_33 →
            wp_meetsRows_l147  post R102 0 S) ∧
           (¬ (r_31 < r_33) →
            wp_takesOff 18 19 S (fun S_36 =>
            R113 S_36)))))
def wp_meetsRows_l113  (post : St → Prop) (R102 : St → Prop)   (S : St) : Prop := wLoop (fun (R : St → Prop) (v : St) => wp_meetsRows_b113  post R102 (fun S => R S)   v) S
def wp_meetsRows_b102  (post : St → Prop) (R102 : St → Prop)   (S : St) : Prop :=
      wp_degreeX 19 S (fun r_38 =>
      ((r_38 = (-1) →
        wp_heightOf 24 0 S (fun r_40 =>
        wp_meetsRows_l199  post r_40 0 S)) ∧
       (¬ (r_38 = (-1)) →
        wp_meetsRows_l113  post R102  S)))
def wp_meetsRows_l102  (post : St → Prop)   (S : St) : Prop := wLoop (fun (R : St → Prop) (v : St) => wp_meetsRows_b102  post (fun S => R S)   v) S
def wp_meetsRows_b25  (post : St → Prop) (R25 : Int32 → St → Prop)  (x1 : Int32) (S : St) : Prop :=
      ((36864 ≤ x1 →
        post S) ∧
       (¬ (36864 ≤ x1) →
        ∃ j_43 : Nat, j_43 < 36864 ∧ x1 = nI j_43 ∧
        ∃ j_44 : Nat, j_44 < 36864 ∧ x1 = nI j_44 ∧ ∀ S_45 : St, S_45 = bw S 18 j_44 (S 19 j_43) →
        ∀ x1_46 : Int32, x1_46 = x1 + 1 →
        R25 x1_46 S_45))
def wp_meetsRows_l25  (post : St → Prop)  (x1 : Int32) (S : St) : Prop := wLoop (fun (R : (Int32 × St) → Prop) (v : Int32 × St) => wp_meetsRows_b25  post (fun x1 S => R (x1, S))  v.1 v.2) (x1, S)
def wp_meetsRows  (S : St) (post : St → Prop) : Prop :=
  wp_degreeX 19 S (fun r_48 =>
  ((¬ r_48 = (-1) →
    wp_degreeX 18 S (fun r_50 =>
    ((¬ r_50 = (-1) →
      wp_contentOf 18 24 S (fun S_53 =>
      wp_contentOf 19 20 S_53 (fun S_55 =>
      wp_meets 24 20 S_55 (fun S_57 =>
      wp_primitives 18 S_57 (fun S_59 =>
      wp_primitives 19 S_59 (fun S_61 =>
      wp_meetsRows_l102  post  S_61)))))) ∧
     (r_50 = (-1) →
      wp_meetsRows_l25  post 0 S)))) ∧
   (r_48 = (-1) →
    post S)))
set_option maxHeartbeats 4000000 in
theorem met_meetsRows (l : Launch) (D : va_G) (cI cB : ClassId) (b : Nat)   (S : St) (post : St → Prop) (h : wp_meetsRows  S post) : Met l yX7_meetsRows (ws_ yX7_meetsRows cX7_meetsRows 6 none) ({ frames := 6, cells := 0, slots := 0, locals := 156 } : Room) (mPc D cI cB b [.ref b] S) (mQv D cI cB b post) 0 0 (mA b) := by
  refine Met.ofW (cc := cX7_meetsRows) (maxL := 6) (ret := none) (by decide) rfl ?_
  intro p e s m args below meth c s₁ B hml hv
  obtain ⟨rfl, hP, hK⟩ := hv
  have hx := B.exec
  have hb := B.bytes
  have hr := B.returns
  have hts := atoms_spec (ws := ws_ yX7_meetsRows cX7_meetsRows 6 none) B.pre
  have hts : ∀ w ∈ lw_all, w.before _ s = true := fun w h => hts w (List.mem_cons_of_mem _ h)
  have hown : s.vm.findClass RX7 = some m.cls := findClass_of_methodNamed B.named
  have hlocks := B.notSynchronized
  have hS : va_S (mA b) s.heap s.heap [] := va_S.rf
  have hl := lv_entry ([.ref b]) (n := 6) (Nat.le_of_ble_eq_true rfl)
  rw [lg_entry_eq]
  generalize (lg_sl ([.ref b]) ++ List.replicate (6 - (lg_sl ([.ref b])).length) Slot.unset).toArray = ls at hl ⊢
  have hl : lv_has ls 6 [(0, .ref b)] := hl
  have L199 : ∀ (x1 : Int32) (x2 : Int32) (S : St) (H : Heap) (locs : List Loc) (ls : Array Slot), wp_meetsRows_l199  post x1 x2 S → mW D cI cB b S H → va_S (mA b) s.heap H locs → lv_has ls 6 [(0, .ref b), (1, .int x1), (2, .int x2)] → W p l e (headSpec (ws_ yX7_meetsRows cX7_meetsRows 6 none) ({ frames := 6, cells := 0, slots := 0, locals := 156 } : Room)).room s m ([.ref b] : List Value).toArray below meth c H locs 0 0 (MQ below (mQv D cI cB b post) ([.ref b] : List Value).toArray s 0 0 (mA b)) (F0 m 199 ls []) := by
    intro x1 x2 S H locs ls h hP hS hl
    obtain ⟨I199, n199, hI, hstep199⟩ := h
    induction n199 using Nat.strongRecOn generalizing x2 S H locs ls with
    | ind n199 ih199 =>
      have h : wp_meetsRows_b199  post (fun x2 S => ∃ mm, mm < n199 ∧ I199 mm (x2, S)) x1 x2 S := hstep199 n199 _ hI
      clear hI
      have L320 : ∀ (x2 : Int32) (x4 : Int32) (S : St) (H : Heap) (locs : List Loc) (ls : Array Slot), wp_meetsRows_l320  post (fun x2 S => ∃ mm, mm < n199 ∧ I199 mm (x2, S)) x1 x2 x4 S → mW D cI cB b S H → va_S (mA b) s.heap H locs → lv_has ls 6 [(0, .ref b), (1, .int x1), (2, .int x2), (4, .int x4)] → W p l e (headSpec (ws_ yX7_meetsRows cX7_meetsRows 6 none) ({ frames := 6, cells := 0, slots := 0, locals := 156 } : Room)).room s m ([.ref b] : List Value).toArray below meth c H locs 0 0 (MQ below (mQv D cI cB b post) ([.ref b] : List Value).toArray s 0 0 (mA b)) (F0 m 320 ls []) := by
        intro x2 x4 S H locs ls h hP hS hl
        obtain ⟨I320, n320, hI, hstep320⟩ := h
        induction n320 using Nat.strongRecOn generalizing x4 S H locs ls with
        | ind n320 ih320 =>
          have h : wp_meetsRows_b320  post (fun x2 S => ∃ mm, mm < n199 ∧ I199 mm (x2, S)) (fun x4 S => ∃ mm, mm < n320 ∧ I320 mm (x4, S)) x1 x2 x4 S := hstep320 n320 _ hI
          clear hI
          unfold wp_meetsRows_b320 at h
          refine lv_iload hx hb dX7_meetsRows_320 (lv_at hl 3 rfl) ?_
          refine lv_sipush (v := 2304) hx hb dX7_meetsRows_322 (by decide) ?_
          refine lv_icmp_ge (tgt := 354) hx hb dX7_meetsRows_325 (by decide) (fun c_6 => ?_) (fun c_6 => ?_)
          · have h := h.1 c_6
            obtain ⟨x2_1, ex2_1⟩ : ∃ y : Int32, y = x2 + 1 := ⟨_, rfl⟩
            have h := h x2_1 ex2_1
            refine lv_iinc (v := x2_1) (lv' := [(2, .int x2_1), (0, .ref b), (1, .int x1), (4, .int x4)]) hx hb dX7_meetsRows_354 hl (k := 2) rfl (by rw [ex2_1]; rfl) (by decide) rfl (fun ls hl => ?_)
            refine lv_goto (tgt := 199) hx hb dX7_meetsRows_357 (by decide) ?_
            obtain ⟨mm, hmm, h⟩ := h
            exact ih199 mm hmm _ _ _ _ _ hP hS (lv_sub hl [1, 2, 0] rfl) h
          · have h := h.2 c_6
            refine lv_aload_n hx hb dX7_meetsRows_328 rfl (lv_at hl 0 rfl) ?_
            refine m_get (v := .ref (b + 18)) hx hb hts hown hK hP 46 (by decide) q1256 rfl rfl dX7_meetsRows_329 ?_
            refine lv_sipush (v := 2304) hx hb dX7_meetsRows_332 (by decide) ?_
            refine lv_iload_n hx hb dX7_meetsRows_335 rfl (lv_at hl 2 rfl) ?_
            refine lv_imul hx hb dX7_meetsRows_336 ?_
            refine lv_iload hx hb dX7_meetsRows_337 (lv_at hl 3 rfl) ?_
            refine lv_iadd hx hb dX7_meetsRows_339 ?_
            refine lv_aload_n hx hb dX7_meetsRows_340 rfl (lv_at hl 0 rfl) ?_
            refine m_get (v := .ref (b + 23)) hx hb hts hown hK hP 51 (by decide) q1261 rfl rfl dX7_meetsRows_341 ?_
            refine lv_iload hx hb dX7_meetsRows_344 (lv_at hl 3 rfl) ?_
            obtain ⟨j_2, hj_2, ej_2, h⟩ := h
            refine m_iald hx hb hK hP (k := 23) mok_23 ej_2 hj_2 dX7_meetsRows_346 ?_
            obtain ⟨j_3, hj_3, ej_3, h⟩ := h
            obtain ⟨S_4, eS_4⟩ : ∃ z : St, z = bw S 18 j_3 (S 23 j_2) := ⟨_, rfl⟩
            have h := h S_4 eS_4
            refine m_iast hx hb hK hP hS (k := 18) mok_18 ej_3 hj_3 dX7_meetsRows_347 (fun H locs hP hS => ?_)
            rw [← eS_4] at hP
            obtain ⟨x4_5, ex4_5⟩ : ∃ y : Int32, y = x4 + 1 := ⟨_, rfl⟩
            have h := h x4_5 ex4_5
            refine lv_iinc (v := x4_5) (lv' := [(4, .int x4_5), (0, .ref b), (1, .int x1), (2, .int x2)]) hx hb dX7_meetsRows_348 hl (k := 3) rfl (by rw [ex4_5]; rfl) (by decide) rfl (fun ls hl => ?_)
            refine lv_goto (tgt := 320) hx hb dX7_meetsRows_351 (by decide) ?_
            obtain ⟨mm, hmm, h⟩ := h
            exact ih320 mm hmm _ _ _ _ _ hP hS (lv_sub hl [1, 2, 3, 0] rfl) h
      have L243 : ∀ (x2 : Int32) (x3 : Int32) (x4 : Int32) (S : St) (H : Heap) (locs : List Loc) (ls : Array Slot), wp_meetsRows_l243  post (fun x2 S => ∃ mm, mm < n199 ∧ I199 mm (x2, S)) x1 x2 x3 x4 S → mW D cI cB b S H → va_S (mA b) s.heap H locs → lv_has ls 6 [(0, .ref b), (1, .int x1), (2, .int x2), (3, .int x3), (4, .int x4)] → W p l e (headSpec (ws_ yX7_meetsRows cX7_meetsRows 6 none) ({ frames := 6, cells := 0, slots := 0, locals := 156 } : Room)).room s m ([.ref b] : List Value).toArray below meth c H locs 0 0 (MQ below (mQv D cI cB b post) ([.ref b] : List Value).toArray s 0 0 (mA b)) (F0 m 243 ls []) := by
        intro x2 x3 x4 S H locs ls h hP hS hl
        obtain ⟨I243, n243, hI, hstep243⟩ := h
        induction n243 using Nat.strongRecOn generalizing x4 S H locs ls with
        | ind n243 ih243 =>
          have h : wp_meetsRows_b243  post (fun x2 S => ∃ mm, mm < n199 ∧ I199 mm (x2, S)) (fun x4 S => ∃ mm, mm < n243 ∧ I243 mm (x4, S)) x1 x2 x3 x4 S := hstep243 n243 _ hI
          clear hI
          have L252 : ∀ (x4 : Int32) (x5 : Int32) (S : St) (H : Heap) (locs : List Loc) (ls : Array Slot), wp_meetsRows_l252  post (fun x2 S => ∃ mm, mm < n199 ∧ I199 mm (x2, S)) (fun x4 S => ∃ mm, mm < n243 ∧ I243 mm (x4, S)) x1 x2 x3 x4 x5 S → mW D cI cB b S H → va_S (mA b) s.heap H locs → lv_has ls 6 [(0, .ref b), (1, .int x1), (2, .int x2), (3, .int x3), (4, .int x4), (5, .int x5)] → W p l e (headSpec (ws_ yX7_meetsRows cX7_meetsRows 6 none) ({ frames := 6, cells := 0, slots := 0, locals := 156 } : Room)).room s m ([.ref b] : List Value).toArray below meth c H locs 0 0 (MQ below (mQv D cI cB b post) ([.ref b] : List Value).toArray s 0 0 (mA b)) (F0 m 252 ls []) := by
            intro x4 x5 S H locs ls h hP hS hl
            obtain ⟨I252, n252, hI, hstep252⟩ := h
            induction n252 using Nat.strongRecOn generalizing x5 S H locs ls with
            | ind n252 ih252 =>
              have h : wp_meetsRows_b252  post (fun x2 S => ∃ mm, mm < n199 ∧ I199 mm (x2, S)) (fun x4 S => ∃ mm, mm < n243 ∧ I243 mm (x4, S)) (fun x5 S => ∃ mm, mm < n252 ∧ I252 mm (x5, S)) x1 x2 x3 x4 x5 S := hstep252 n252 _ hI
              clear hI
              unfold wp_meetsRows_b252 at h
              refine lv_iload hx hb dX7_meetsRows_252 (lv_at hl 5 rfl) ?_
              refine lv_iload_n hx hb dX7_meetsRows_254 rfl (lv_at hl 3 rfl) ?_
              refine lv_icmp_gt (tgt := 311) hx hb dX7_meetsRows_255 (by decide) (fun c_14 => ?_) (fun c_14 => ?_)
              · have h := h.1 c_14
                obtain ⟨x4_7, ex4_7⟩ : ∃ y : Int32, y = x4 + 1 := ⟨_, rfl⟩
                have h := h x4_7 ex4_7
                refine lv_iinc (v := x4_7) (lv' := [(4, .int x4_7), (0, .ref b), (1, .int x1), (2, .int x2), (3, .int x3), (5, .int x5)]) hx hb dX7_meetsRows_311 hl (k := 4) rfl (by rw [ex4_7]; rfl) (by decide) rfl (fun ls hl => ?_)
                refine lv_goto (tgt := 243) hx hb dX7_meetsRows_314 (by decide) ?_
                obtain ⟨mm, hmm, h⟩ := h
                exact ih243 mm hmm _ _ _ _ _ hP hS (lv_sub hl [1, 2, 3, 4, 0] rfl) h
              · have h := h.2 c_14
                refine lv_aload_n hx hb dX7_meetsRows_258 rfl (lv_at hl 0 rfl) ?_
                refine m_get (v := .ref (b + 23)) hx hb hts hown hK hP 51 (by decide) q1261 rfl rfl dX7_meetsRows_259 ?_
                refine lv_iload hx hb dX7_meetsRows_262 (lv_at hl 4 rfl) ?_
                refine lv_iload hx hb dX7_meetsRows_264 (lv_at hl 5 rfl) ?_
                refine lv_iadd hx hb dX7_meetsRows_266 ?_
                refine lv_aload_n hx hb dX7_meetsRows_267 rfl (lv_at hl 0 rfl) ?_
                refine m_get (v := .ref (b + 23)) hx hb hts hown hK hP 51 (by decide) q1261 rfl rfl dX7_meetsRows_268 ?_
                refine lv_iload hx hb dX7_meetsRows_271 (lv_at hl 4 rfl) ?_
                refine lv_iload hx hb dX7_meetsRows_273 (lv_at hl 5 rfl) ?_
                refine lv_iadd hx hb dX7_meetsRows_275 ?_
                obtain ⟨j_8, hj_8, ej_8, h⟩ := h
                refine m_iald hx hb hK hP (k := 23) mok_23 ej_8 hj_8 dX7_meetsRows_276 ?_
                refine lv_aload_n hx hb dX7_meetsRows_277 rfl (lv_at hl 0 rfl) ?_
                refine m_get (v := .ref (b + 24)) hx hb hts hown hK hP 52 (by decide) q1262 rfl rfl dX7_meetsRows_278 ?_
                refine lv_iload hx hb dX7_meetsRows_281 (lv_at hl 4 rfl) ?_
                obtain ⟨j_9, hj_9, ej_9, h⟩ := h
                refine m_iald hx hb hK hP (k := 24) mok_24 ej_9 hj_9 dX7_meetsRows_283 ?_
                refine lv_aload_n hx hb dX7_meetsRows_284 rfl (lv_at hl 0 rfl) ?_
                refine m_get (v := .ref (b + 18)) hx hb hts hown hK hP 46 (by decide) q1256 rfl rfl dX7_meetsRows_285 ?_
                refine lv_sipush (v := 2304) hx hb dX7_meetsRows_288 (by decide) ?_
                refine lv_iload_n hx hb dX7_meetsRows_291 rfl (lv_at hl 2 rfl) ?_
                refine lv_imul hx hb dX7_meetsRows_292 ?_
                refine lv_iload hx hb dX7_meetsRows_293 (lv_at hl 5 rfl) ?_
                refine lv_iadd hx hb dX7_meetsRows_295 ?_
                obtain ⟨j_10, hj_10, ej_10, h⟩ := h
                refine m_iald hx hb hK hP (k := 18) mok_18 ej_10 hj_10 dX7_meetsRows_296 ?_
                refine lv_imul hx hb dX7_meetsRows_297 ?_
                refine lv_iadd hx hb dX7_meetsRows_298 ?_
                refine lv_aload_n hx hb dX7_meetsRows_299 rfl (lv_at hl 0 rfl) ?_
                refine m_get (v := .int (S 0 5)) hx hb hts hown hK hP 5 (by decide) q1215 rfl rfl dX7_meetsRows_300 ?_
                obtain ⟨hne, h⟩ := h
                refine m_irem hx hb dX7_meetsRows_303 hne ?_
                obtain ⟨j_11, hj_11, ej_11, h⟩ := h
                obtain ⟨S_12, eS_12⟩ : ∃ z : St, z = bw S 23 j_11 (jrem ((S 23 j_8) + ((S 24 j_9) * (S 18 j_10))) (S 0 5)) := ⟨_, rfl⟩
                have h := h S_12 eS_12
                refine m_iast hx hb hK hP hS (k := 23) mok_23 ej_11 hj_11 dX7_meetsRows_304 (fun H locs hP hS => ?_)
                rw [← eS_12] at hP
                obtain ⟨x5_13, ex5_13⟩ : ∃ y : Int32, y = x5 + 1 := ⟨_, rfl⟩
                have h := h x5_13 ex5_13
                refine lv_iinc (v := x5_13) (lv' := [(5, .int x5_13), (0, .ref b), (1, .int x1), (2, .int x2), (3, .int x3), (4, .int x4)]) hx hb dX7_meetsRows_305 hl (k := 5) rfl (by rw [ex5_13]; rfl) (by decide) rfl (fun ls hl => ?_)
                refine lv_goto (tgt := 252) hx hb dX7_meetsRows_308 (by decide) ?_
                obtain ⟨mm, hmm, h⟩ := h
                exact ih252 mm hmm _ _ _ _ _ hP hS (lv_sub hl [1, 2, 3, 4, 5, 0] rfl) h
          unfold wp_meetsRows_b243 at h
          refine lv_iload hx hb dX7_meetsRows_243 (lv_at hl 4 rfl) ?_
          refine lv_iload_n hx hb dX7_meetsRows_245 rfl (lv_at hl 1 rfl) ?_
          refine lv_icmp_gt (tgt := 317) hx hb dX7_meetsRows_246 (by decide) (fun c_15 => ?_) (fun c_15 => ?_)
          · have h := h.1 c_15
            refine lv_iconst (v := 0) hx hb dX7_meetsRows_317 (by decide) ?_
            refine lv_istore (lv' := [(4, .int 0), (0, .ref b), (1, .int x1), (2, .int x2), (3, .int x3)]) hx hb dX7_meetsRows_318 hl (by decide) rfl (fun ls hl => ?_)
            exact L320 _ _ _ _ _ _ h hP hS (lv_sub hl [1, 2, 3, 0] rfl)
          · have h := h.2 c_15
            refine lv_iconst (v := 0) hx hb dX7_meetsRows_249 (by decide) ?_
            refine lv_istore (lv' := [(5, .int 0), (0, .ref b), (1, .int x1), (2, .int x2), (3, .int x3), (4, .int x4)]) hx hb dX7_meetsRows_250 hl (by decide) rfl (fun ls hl => ?_)
            exact L252 _ _ _ _ _ _ h hP hS (lv_sub hl [1, 2, 3, 4, 5, 0] rfl)
      have L207 : ∀ (x2 : Int32) (x3 : Int32) (S : St) (H : Heap) (locs : List Loc) (ls : Array Slot), wp_meetsRows_l207  post (fun x2 S => ∃ mm, mm < n199 ∧ I199 mm (x2, S)) x1 x2 x3 S → mW D cI cB b S H → va_S (mA b) s.heap H locs → lv_has ls 6 [(0, .ref b), (1, .int x1), (2, .int x2), (3, .int x3)] → W p l e (headSpec (ws_ yX7_meetsRows cX7_meetsRows 6 none) ({ frames := 6, cells := 0, slots := 0, locals := 156 } : Room)).room s m ([.ref b] : List Value).toArray below meth c H locs 0 0 (MQ below (mQv D cI cB b post) ([.ref b] : List Value).toArray s 0 0 (mA b)) (F0 m 207 ls []) := by
        intro x2 x3 S H locs ls h hP hS hl
        obtain ⟨I207, n207, hI, hstep207⟩ := h
        induction n207 using Nat.strongRecOn generalizing x3 S H locs ls with
        | ind n207 ih207 =>
          have h : wp_meetsRows_b207  post (fun x2 S => ∃ mm, mm < n199 ∧ I199 mm (x2, S)) (fun x3 S => ∃ mm, mm < n207 ∧ I207 mm (x3, S)) x1 x2 x3 S := hstep207 n207 _ hI
          clear hI
          unfold wp_meetsRows_b207 at h
          refine lv_iload_n hx hb dX7_meetsRows_207 rfl (lv_at hl 3 rfl) ?_
          refine lv_sipush (v := 2304) hx hb dX7_meetsRows_208 (by decide) ?_
          refine lv_icmp_ge (tgt := 227) hx hb dX7_meetsRows_211 (by decide) (fun c_21 => ?_) (fun c_21 => ?_)
          · have h := h.1 c_21
            refine lv_aload_n hx hb dX7_meetsRows_227 rfl (lv_at hl 0 rfl) ?_
            refine m_get (v := .ref (b + 18)) hx hb hts hown hK hP 46 (by decide) q1256 rfl rfl dX7_meetsRows_228 ?_
            refine lv_sipush (v := 2304) hx hb dX7_meetsRows_231 (by decide) ?_
            refine lv_iload_n hx hb dX7_meetsRows_234 rfl (lv_at hl 2 rfl) ?_
            refine lv_imul hx hb dX7_meetsRows_235 ?_
            refine m_cSp (As := [.ref (b + 18), .int (2304 * x2)]) (rest := []) ⟨hx, hb, hml, hown, hts⟩ (met_heightOf l D cI cB b 18 (2304 * x2) mok_18 S _ h) (va_cwS 2 hts (lw_S q1760 q1761 q128 q1762) rfl rfl rfl cwd_heightOf ⟨Nat.le_of_ble_eq_true rfl, Nat.le_of_ble_eq_true rfl⟩) hK hP hS rfl hl.1 rfl (Nat.le_of_ble_eq_true rfl) dX7_meetsRows_236 ⟨Nat.zero_le _, Nat.zero_le _⟩ (fun r_16 H locs h hP hS => ?_)
            refine lv_istore_n (lv' := [(3, .int r_16), (0, .ref b), (1, .int x1), (2, .int x2)]) hx hb dX7_meetsRows_239 rfl hl (by decide) rfl (fun ls hl => ?_)
            refine lv_iconst (v := 0) hx hb dX7_meetsRows_240 (by decide) ?_
            refine lv_istore (lv' := [(4, .int 0), (3, .int r_16), (0, .ref b), (1, .int x1), (2, .int x2)]) hx hb dX7_meetsRows_241 hl (by decide) rfl (fun ls hl => ?_)
            exact L243 _ _ _ _ _ _ _ h hP hS (lv_sub hl [2, 3, 4, 1, 0] rfl)
          · have h := h.2 c_21
            refine lv_aload_n hx hb dX7_meetsRows_214 rfl (lv_at hl 0 rfl) ?_
            refine m_get (v := .ref (b + 23)) hx hb hts hown hK hP 51 (by decide) q1261 rfl rfl dX7_meetsRows_215 ?_
            refine lv_iload_n hx hb dX7_meetsRows_218 rfl (lv_at hl 3 rfl) ?_
            refine lv_iconst (v := 0) hx hb dX7_meetsRows_219 (by decide) ?_
            obtain ⟨j_18, hj_18, ej_18, h⟩ := h
            obtain ⟨S_19, eS_19⟩ : ∃ z : St, z = bw S 23 j_18 0 := ⟨_, rfl⟩
            have h := h S_19 eS_19
            refine m_iast hx hb hK hP hS (k := 23) mok_23 ej_18 hj_18 dX7_meetsRows_220 (fun H locs hP hS => ?_)
            rw [← eS_19] at hP
            obtain ⟨x3_20, ex3_20⟩ : ∃ y : Int32, y = x3 + 1 := ⟨_, rfl⟩
            have h := h x3_20 ex3_20
            refine lv_iinc (v := x3_20) (lv' := [(3, .int x3_20), (0, .ref b), (1, .int x1), (2, .int x2)]) hx hb dX7_meetsRows_221 hl (k := 3) rfl (by rw [ex3_20]; rfl) (by decide) rfl (fun ls hl => ?_)
            refine lv_goto (tgt := 207) hx hb dX7_meetsRows_224 (by decide) ?_
            obtain ⟨mm, hmm, h⟩ := h
            exact ih207 mm hmm _ _ _ _ _ hP hS (lv_sub hl [1, 2, 3, 0] rfl) h
      unfold wp_meetsRows_b199 at h
      refine lv_iload_n hx hb dX7_meetsRows_199 rfl (lv_at hl 2 rfl) ?_
      refine lv_bipush (v := 16) hx hb dX7_meetsRows_200 (by decide) ?_
      refine lv_icmp_ge (tgt := 360) hx hb dX7_meetsRows_202 (by decide) (fun c_22 => ?_) (fun c_22 => ?_)
      · have h := h.1 c_22
        exact W.vret hx hb hr (fun t ht hW => ⟨⟨S, rfl, h, by rw [ht]; exact hP, va_K.moved hW.alike hK⟩, hS.F ht⟩) hS.2.2 dX7_meetsRows_360
      · have h := h.2 c_22
        refine lv_iconst (v := 0) hx hb dX7_meetsRows_205 (by decide) ?_
        refine lv_istore_n (lv' := [(3, .int 0), (0, .ref b), (1, .int x1), (2, .int x2)]) hx hb dX7_meetsRows_206 rfl hl (by decide) rfl (fun ls hl => ?_)
        exact L207 _ _ _ _ _ _ h hP hS (lv_sub hl [1, 2, 3, 0] rfl)
  have L102 : ∀   (S : St) (H : Heap) (locs : List Loc) (ls : Array Slot), wp_meetsRows_l102  post   S → mW D cI cB b S H → va_S (mA b) s.heap H locs → lv_has ls 6 [(0, .ref b)] → W p l e (headSpec (ws_ yX7_meetsRows cX7_meetsRows 6 none) ({ frames := 6, cells := 0, slots := 0, locals := 156 } : Room)).room s m ([.ref b] : List Value).toArray below meth c H locs 0 0 (MQ below (mQv D cI cB b post) ([.ref b] : List Value).toArray s 0 0 (mA b)) (F0 m 102 ls []) := by
    intro   S H locs ls h hP hS hl
    obtain ⟨I102, n102, hI, hstep102⟩ := h
    induction n102 using Nat.strongRecOn generalizing S H locs ls with
    | ind n102 ih102 =>
      have h : wp_meetsRows_b102  post (fun S => ∃ mm, mm < n102 ∧ I102 mm S)   S := hstep102 n102 _ hI
      clear hI
      have L147 : ∀  (x1 : Int32) (S : St) (H : Heap) (locs : List Loc) (ls : Array Slot), wp_meetsRows_l147  post (fun S => ∃ mm, mm < n102 ∧ I102 mm S)  x1 S → mW D cI cB b S H → va_S (mA b) s.heap H locs → lv_has ls 6 [(0, .ref b), (1, .int x1)] → W p l e (headSpec (ws_ yX7_meetsRows cX7_meetsRows 6 none) ({ frames := 6, cells := 0, slots := 0, locals := 156 } : Room)).room s m ([.ref b] : List Value).toArray below meth c H locs 0 0 (MQ below (mQv D cI cB b post) ([.ref b] : List Value).toArray s 0 0 (mA b)) (F0 m 147 ls []) := by
        intro  x1 S H locs ls h hP hS hl
        obtain ⟨I147, n147, hI, hstep147⟩ := h
        induction n147 using Nat.strongRecOn generalizing x1 S H locs ls with
        | ind n147 ih147 =>
          have h : wp_meetsRows_b147  post (fun S => ∃ mm, mm < n102 ∧ I102 mm S) (fun x1 S => ∃ mm, mm < n147 ∧ I147 mm (x1, S))  x1 S := hstep147 n147 _ hI
          clear hI
          unfold wp_meetsRows_b147 at h
          refine lv_iload_n hx hb dX7_meetsRows_147 rfl (lv_at hl 1 rfl) ?_
          refine lv_ldc (v := 36864) hx hb hown (hts _ q1209) dX7_meetsRows_148 ?_
          refine lv_icmp_ge (tgt := 185) hx hb dX7_meetsRows_150 (by decide) (fun c_30 => ?_) (fun c_30 => ?_)
          · have h := h.1 c_30
            refine lv_goto (tgt := 102) hx hb dX7_meetsRows_185 (by decide) ?_
            obtain ⟨mm, hmm, h⟩ := h
            exact ih102 mm hmm _ _ _ _ hP hS (lv_sub hl [0] rfl) h
          · have h := h.2 c_30
            refine lv_aload_n hx hb dX7_meetsRows_153 rfl (lv_at hl 0 rfl) ?_
            refine m_get (v := .ref (b + 18)) hx hb hts hown hK hP 46 (by decide) q1256 rfl rfl dX7_meetsRows_154 ?_
            refine lv_iload_n hx hb dX7_meetsRows_157 rfl (lv_at hl 1 rfl) ?_
            obtain ⟨j_23, hj_23, ej_23, h⟩ := h
            refine m_iald hx hb hK hP (k := 18) mok_18 ej_23 hj_23 dX7_meetsRows_158 ?_
            refine lv_istore_n (lv' := [(2, .int (S 18 j_23)), (0, .ref b), (1, .int x1)]) hx hb dX7_meetsRows_159 rfl hl (by decide) rfl (fun ls hl => ?_)
            refine lv_aload_n hx hb dX7_meetsRows_160 rfl (lv_at hl 1 rfl) ?_
            refine m_get (v := .ref (b + 18)) hx hb hts hown hK hP 46 (by decide) q1256 rfl rfl dX7_meetsRows_161 ?_
            refine lv_iload_n hx hb dX7_meetsRows_164 rfl (lv_at hl 2 rfl) ?_
            refine lv_aload_n hx hb dX7_meetsRows_165 rfl (lv_at hl 1 rfl) ?_
            refine m_get (v := .ref (b + 19)) hx hb hts hown hK hP 47 (by decide) q1257 rfl rfl dX7_meetsRows_166 ?_
            refine lv_iload_n hx hb dX7_meetsRows_169 rfl (lv_at hl 2 rfl) ?_
            obtain ⟨j_24, hj_24, ej_24, h⟩ := h
            refine m_iald hx hb hK hP (k := 19) mok_19 ej_24 hj_24 dX7_meetsRows_170 ?_
            obtain ⟨j_25, hj_25, ej_25, h⟩ := h
            obtain ⟨S_26, eS_26⟩ : ∃ z : St, z = bw S 18 j_25 (S 19 j_24) := ⟨_, rfl⟩
            have h := h S_26 eS_26
            refine m_iast hx hb hK hP hS (k := 18) mok_18 ej_25 hj_25 dX7_meetsRows_171 (fun H locs hP hS => ?_)
            rw [← eS_26] at hP
            refine lv_aload_n hx hb dX7_meetsRows_172 rfl (lv_at hl 1 rfl) ?_
            refine m_get (v := .ref (b + 19)) hx hb hts hown hK hP 47 (by decide) q1257 rfl rfl dX7_meetsRows_173 ?_
            refine lv_iload_n hx hb dX7_meetsRows_176 rfl (lv_at hl 2 rfl) ?_
            refine lv_iload_n hx hb dX7_meetsRows_177 rfl (lv_at hl 0 rfl) ?_
            obtain ⟨j_27, hj_27, ej_27, h⟩ := h
            obtain ⟨S_28, eS_28⟩ : ∃ z : St, z = bw S_26 19 j_27 (S 18 j_23) := ⟨_, rfl⟩
            have h := h S_28 eS_28
            refine m_iast hx hb hK hP hS (k := 19) mok_19 ej_27 hj_27 dX7_meetsRows_178 (fun H locs hP hS => ?_)
            rw [← eS_28] at hP
            obtain ⟨x1_29, ex1_29⟩ : ∃ y : Int32, y = x1 + 1 := ⟨_, rfl⟩
            have h := h x1_29 ex1_29
            refine lv_iinc (v := x1_29) (lv' := [(1, .int x1_29), (2, .int (S 18 j_23)), (0, .ref b)]) hx hb dX7_meetsRows_179 hl (k := 2) rfl (by rw [ex1_29]; rfl) (by decide) rfl (fun ls hl => ?_)
            refine lv_goto (tgt := 147) hx hb dX7_meetsRows_182 (by decide) ?_
            obtain ⟨mm, hmm, h⟩ := h
            exact ih147 mm hmm _ _ _ _ _ hP hS (lv_sub hl [2, 0] rfl) h
      have L113 : ∀   (S : St) (H : Heap) (locs : List Loc) (ls : Array Slot), wp_meetsRows_l113  post (fun S => ∃ mm, mm < n102 ∧ I102 mm S)   S → mW D cI cB b S H → va_S (mA b) s.heap H locs → lv_has ls 6 [(0, .ref b)] → W p l e (headSpec (ws_ yX7_meetsRows cX7_meetsRows 6 none) ({ frames := 6, cells := 0, slots := 0, locals := 156 } : Room)).room s m ([.ref b] : List Value).toArray below meth c H locs 0 0 (MQ below (mQv D cI cB b post) ([.ref b] : List Value).toArray s 0 0 (mA b)) (F0 m 113 ls []) := by
        intro   S H locs ls h hP hS hl
        obtain ⟨I113, n113, hI, hstep113⟩ := h
        induction n113 using Nat.strongRecOn generalizing S H locs ls with
        | ind n113 ih113 =>
          have h : wp_meetsRows_b113  post (fun S => ∃ mm, mm < n102 ∧ I102 mm S) (fun S => ∃ mm, mm < n113 ∧ I113 mm S)   S := hstep113 n113 _ hI
          clear hI
          unfold wp_meetsRows_b113 at h
          refine lv_aload_n hx hb dX7_meetsRows_113 rfl (lv_at hl 0 rfl) ?_
          refine m_get (v := .ref (b + 18)) hx hb hts hown hK hP 46 (by decide) q1256 rfl rfl dX7_meetsRows_114 ?_
          refine m_cSp (As := [.ref (b + 18)]) (rest := []) ⟨hx, hb, hml, hown, hts⟩ (met_degreeX l D cI cB b 18 mok_18 S _ h) (va_cwS 1 hts (lw_S q1757 q1758 q128 q1759) rfl rfl rfl cwd_degreeX ⟨Nat.le_of_ble_eq_true rfl, Nat.le_of_ble_eq_true rfl⟩) hK hP hS rfl hl.1 rfl (Nat.le_of_ble_eq_true rfl) dX7_meetsRows_117 ⟨Nat.zero_le _, Nat.zero_le _⟩ (fun r_31 H locs h hP hS => ?_)
          refine lv_aload_n hx hb dX7_meetsRows_120 rfl (lv_at hl 0 rfl) ?_
          refine m_get (v := .ref (b + 19)) hx hb hts hown hK hP 47 (by decide) q1257 rfl rfl dX7_meetsRows_121 ?_
          refine m_cSp (As := [.ref (b + 19)]) (rest := [.int r_31]) ⟨hx, hb, hml, hown, hts⟩ (met_degreeX l D cI cB b 19 mok_19 S _ h) (va_cwS 1 hts (lw_S q1757 q1758 q128 q1759) rfl rfl rfl cwd_degreeX ⟨Nat.le_of_ble_eq_true rfl, Nat.le_of_ble_eq_true rfl⟩) hK hP hS rfl hl.1 rfl (Nat.le_of_ble_eq_true rfl) dX7_meetsRows_124 ⟨Nat.zero_le _, Nat.zero_le _⟩ (fun r_33 H locs h hP hS => ?_)
          refine lv_icmp_lt (tgt := 145) hx hb dX7_meetsRows_127 (by decide) (fun c_37 => ?_) (fun c_37 => ?_)
          · have h := h.1 c_37
            refine lv_iconst (v := 0) hx hb dX7_meetsRows_145 (by decide) ?_
            refine lv_istore_n (lv' := [(1, .int 0), (0, .ref b)]) hx hb dX7_meetsRows_146 rfl hl (by decide) rfl (fun ls hl => ?_)
            exact L147 _ _ _ _ _ h hP hS (lv_sub hl [1, 0] rfl)
          · have h := h.2 c_37
            refine lv_aload_n hx hb dX7_meetsRows_130 rfl (lv_at hl 0 rfl) ?_
            refine lv_aload_n hx hb dX7_meetsRows_131 rfl (lv_at hl 0 rfl) ?_
            refine m_get (v := .ref (b + 18)) hx hb hts hown hK hP 46 (by decide) q1256 rfl rfl dX7_meetsRows_132 ?_
            refine lv_aload_n hx hb dX7_meetsRows_135 rfl (lv_at hl 0 rfl) ?_
            refine m_get (v := .ref (b + 19)) hx hb hts hown hK hP 47 (by decide) q1257 rfl rfl dX7_meetsRows_136 ?_
            refine m_cVv (As := [.ref (b + 18), .ref (b + 19)]) (rest := []) ⟨hx, hb, hml, hown, hts⟩ (met_takesOff l D cI cB b 18 19 mok_18 mok_19 S _ h) (cwV 2 hts (lw_V q1790 q1792 qs112 q128 q1793) rfl rfl rfl cwd_takesOff ⟨Nat.le_of_ble_eq_true rfl, Nat.le_of_ble_eq_true rfl⟩) hK hP hS rfl hl.1 rfl (Nat.le_of_ble_eq_true rfl) dX7_meetsRows_139 ⟨Nat.zero_le _, Nat.zero_le _⟩ (fun S_36 H locs h hP hS => ?_)
            refine lv_goto (tgt := 113) hx hb dX7_meetsRows_142 (by decide) ?_
            obtain ⟨mm, hmm, h⟩ := h
            exact ih113 mm hmm _ _ _ _ hP hS (lv_sub hl [0] rfl) h
      unfold wp_meetsRows_b102 at h
      refine lv_aload_n hx hb dX7_meetsRows_102 rfl (lv_at hl 0 rfl) ?_
      refine m_get (v := .ref (b + 19)) hx hb hts hown hK hP 47 (by decide) q1257 rfl rfl dX7_meetsRows_103 ?_
      refine m_cSp (As := [.ref (b + 19)]) (rest := []) ⟨hx, hb, hml, hown, hts⟩ (met_degreeX l D cI cB b 19 mok_19 S _ h) (va_cwS 1 hts (lw_S q1757 q1758 q128 q1759) rfl rfl rfl cwd_degreeX ⟨Nat.le_of_ble_eq_true rfl, Nat.le_of_ble_eq_true rfl⟩) hK hP hS rfl hl.1 rfl (Nat.le_of_ble_eq_true rfl) dX7_meetsRows_106 ⟨Nat.zero_le _, Nat.zero_le _⟩ (fun r_38 H locs h hP hS => ?_)
      refine lv_iconst (v := (-1)) hx hb dX7_meetsRows_109 (by decide) ?_
      refine lv_icmp_eq (tgt := 188) hx hb dX7_meetsRows_110 (by decide) (fun c_42 => ?_) (fun c_42 => ?_)
      · have h := h.1 c_42
        refine lv_aload_n hx hb dX7_meetsRows_188 rfl (lv_at hl 0 rfl) ?_
        refine m_get (v := .ref (b + 24)) hx hb hts hown hK hP 52 (by decide) q1262 rfl rfl dX7_meetsRows_189 ?_
        refine lv_iconst (v := 0) hx hb dX7_meetsRows_192 (by decide) ?_
        refine m_cSp (As := [.ref (b + 24), .int 0]) (rest := []) ⟨hx, hb, hml, hown, hts⟩ (met_heightOf l D cI cB b 24 0 mok_24 S _ h) (va_cwS 2 hts (lw_S q1760 q1761 q128 q1762) rfl rfl rfl cwd_heightOf ⟨Nat.le_of_ble_eq_true rfl, Nat.le_of_ble_eq_true rfl⟩) hK hP hS rfl hl.1 rfl (Nat.le_of_ble_eq_true rfl) dX7_meetsRows_193 ⟨Nat.zero_le _, Nat.zero_le _⟩ (fun r_40 H locs h hP hS => ?_)
        refine lv_istore_n (lv' := [(1, .int r_40), (0, .ref b)]) hx hb dX7_meetsRows_196 rfl hl (by decide) rfl (fun ls hl => ?_)
        refine lv_iconst (v := 0) hx hb dX7_meetsRows_197 (by decide) ?_
        refine lv_istore_n (lv' := [(2, .int 0), (1, .int r_40), (0, .ref b)]) hx hb dX7_meetsRows_198 rfl hl (by decide) rfl (fun ls hl => ?_)
        exact L199 _ _ _ _ _ _ h hP hS (lv_sub hl [2, 1, 0] rfl)
      · have h := h.2 c_42
        exact L113  _ _ _ _ h hP hS (lv_sub hl [0] rfl)
  have L25 : ∀  (x1 : Int32) (S : St) (H : Heap) (locs : List Loc) (ls : Array Slot), wp_meetsRows_l25  post  x1 S → mW D cI cB b S H → va_S (mA b) s.heap H locs → lv_has ls 6 [(0, .ref b), (1, .int x1)] → W p l e (headSpec (ws_ yX7_meetsRows cX7_meetsRows 6 none) ({ frames := 6, cells := 0, slots := 0, locals := 156 } : Room)).room s m ([.ref b] : List Value).toArray below meth c H locs 0 0 (MQ below (mQv D cI cB b post) ([.ref b] : List Value).toArray s 0 0 (mA b)) (F0 m 25 ls []) := by
    intro  x1 S H locs ls h hP hS hl
    obtain ⟨I25, n25, hI, hstep25⟩ := h
    induction n25 using Nat.strongRecOn generalizing x1 S H locs ls with
    | ind n25 ih25 =>
      have h : wp_meetsRows_b25  post (fun x1 S => ∃ mm, mm < n25 ∧ I25 mm (x1, S))  x1 S := hstep25 n25 _ hI
      clear hI
      unfold wp_meetsRows_b25 at h
      refine lv_iload_n hx hb dX7_meetsRows_25 rfl (lv_at hl 1 rfl) ?_
      refine lv_ldc (v := 36864) hx hb hown (hts _ q1209) dX7_meetsRows_26 ?_
      refine lv_icmp_ge (tgt := 49) hx hb dX7_meetsRows_28 (by decide) (fun c_47 => ?_) (fun c_47 => ?_)
      · have h := h.1 c_47
        exact W.vret hx hb hr (fun t ht hW => ⟨⟨S, rfl, h, by rw [ht]; exact hP, va_K.moved hW.alike hK⟩, hS.F ht⟩) hS.2.2 dX7_meetsRows_49
      · have h := h.2 c_47
        refine lv_aload_n hx hb dX7_meetsRows_31 rfl (lv_at hl 0 rfl) ?_
        refine m_get (v := .ref (b + 18)) hx hb hts hown hK hP 46 (by decide) q1256 rfl rfl dX7_meetsRows_32 ?_
        refine lv_iload_n hx hb dX7_meetsRows_35 rfl (lv_at hl 1 rfl) ?_
        refine lv_aload_n hx hb dX7_meetsRows_36 rfl (lv_at hl 0 rfl) ?_
        refine m_get (v := .ref (b + 19)) hx hb hts hown hK hP 47 (by decide) q1257 rfl rfl dX7_meetsRows_37 ?_
        refine lv_iload_n hx hb dX7_meetsRows_40 rfl (lv_at hl 1 rfl) ?_
        obtain ⟨j_43, hj_43, ej_43, h⟩ := h
        refine m_iald hx hb hK hP (k := 19) mok_19 ej_43 hj_43 dX7_meetsRows_41 ?_
        obtain ⟨j_44, hj_44, ej_44, h⟩ := h
        obtain ⟨S_45, eS_45⟩ : ∃ z : St, z = bw S 18 j_44 (S 19 j_43) := ⟨_, rfl⟩
        have h := h S_45 eS_45
        refine m_iast hx hb hK hP hS (k := 18) mok_18 ej_44 hj_44 dX7_meetsRows_42 (fun H locs hP hS => ?_)
        rw [← eS_45] at hP
        obtain ⟨x1_46, ex1_46⟩ : ∃ y : Int32, y = x1 + 1 := ⟨_, rfl⟩
        have h := h x1_46 ex1_46
        refine lv_iinc (v := x1_46) (lv' := [(1, .int x1_46), (0, .ref b)]) hx hb dX7_meetsRows_43 hl (k := 1) rfl (by rw [ex1_46]; rfl) (by decide) rfl (fun ls hl => ?_)
        refine lv_goto (tgt := 25) hx hb dX7_meetsRows_46 (by decide) ?_
        obtain ⟨mm, hmm, h⟩ := h
        exact ih25 mm hmm _ _ _ _ _ hP hS (lv_sub hl [1, 0] rfl) h
  unfold wp_meetsRows at h
  refine lv_aload_n hx hb dX7_meetsRows_0 rfl (lv_at hl 0 rfl) ?_
  refine m_get (v := .ref (b + 19)) hx hb hts hown hK hP 47 (by decide) q1257 rfl rfl dX7_meetsRows_1 ?_
  refine m_cSp (As := [.ref (b + 19)]) (rest := []) ⟨hx, hb, hml, hown, hts⟩ (met_degreeX l D cI cB b 19 mok_19 S _ h) (va_cwS 1 hts (lw_S q1757 q1758 q128 q1759) rfl rfl rfl cwd_degreeX ⟨Nat.le_of_ble_eq_true rfl, Nat.le_of_ble_eq_true rfl⟩) hK hP hS rfl hl.1 rfl (Nat.le_of_ble_eq_true rfl) dX7_meetsRows_4 ⟨Nat.zero_le _, Nat.zero_le _⟩ (fun r_48 H locs h hP hS => ?_)
  refine lv_iconst (v := (-1)) hx hb dX7_meetsRows_7 (by decide) ?_
  refine lv_icmp_ne (tgt := 12) hx hb dX7_meetsRows_8 (by decide) (fun c_63 => ?_) (fun c_63 => ?_)
  · have h := h.1 c_63
    refine lv_aload_n hx hb dX7_meetsRows_12 rfl (lv_at hl 0 rfl) ?_
    refine m_get (v := .ref (b + 18)) hx hb hts hown hK hP 46 (by decide) q1256 rfl rfl dX7_meetsRows_13 ?_
    refine m_cSp (As := [.ref (b + 18)]) (rest := []) ⟨hx, hb, hml, hown, hts⟩ (met_degreeX l D cI cB b 18 mok_18 S _ h) (va_cwS 1 hts (lw_S q1757 q1758 q128 q1759) rfl rfl rfl cwd_degreeX ⟨Nat.le_of_ble_eq_true rfl, Nat.le_of_ble_eq_true rfl⟩) hK hP hS rfl hl.1 rfl (Nat.le_of_ble_eq_true rfl) dX7_meetsRows_16 ⟨Nat.zero_le _, Nat.zero_le _⟩ (fun r_50 H locs h hP hS => ?_)
    refine lv_iconst (v := (-1)) hx hb dX7_meetsRows_19 (by decide) ?_
    refine lv_icmp_ne (tgt := 50) hx hb dX7_meetsRows_20 (by decide) (fun c_62 => ?_) (fun c_62 => ?_)
    · have h := h.1 c_62
      refine lv_aload_n hx hb dX7_meetsRows_50 rfl (lv_at hl 0 rfl) ?_
      refine lv_aload_n hx hb dX7_meetsRows_51 rfl (lv_at hl 0 rfl) ?_
      refine m_get (v := .ref (b + 18)) hx hb hts hown hK hP 46 (by decide) q1256 rfl rfl dX7_meetsRows_52 ?_
      refine lv_aload_n hx hb dX7_meetsRows_55 rfl (lv_at hl 0 rfl) ?_
      refine m_get (v := .ref (b + 24)) hx hb hts hown hK hP 52 (by decide) q1262 rfl rfl dX7_meetsRows_56 ?_
      refine m_cVv (As := [.ref (b + 18), .ref (b + 24)]) (rest := []) ⟨hx, hb, hml, hown, hts⟩ (met_contentOf l D cI cB b 18 24 mok_18 mok_24 S _ h) (cwV 2 hts (lw_V q1763 q1765 qs106 q128 q1766) rfl rfl rfl cwd_contentOf ⟨Nat.le_of_ble_eq_true rfl, Nat.le_of_ble_eq_true rfl⟩) hK hP hS rfl hl.1 rfl (Nat.le_of_ble_eq_true rfl) dX7_meetsRows_59 ⟨Nat.zero_le _, Nat.zero_le _⟩ (fun S_53 H locs h hP hS => ?_)
      refine lv_aload_n hx hb dX7_meetsRows_62 rfl (lv_at hl 0 rfl) ?_
      refine lv_aload_n hx hb dX7_meetsRows_63 rfl (lv_at hl 0 rfl) ?_
      refine m_get (v := .ref (b + 19)) hx hb hts hown hK hP 47 (by decide) q1257 rfl rfl dX7_meetsRows_64 ?_
      refine lv_aload_n hx hb dX7_meetsRows_67 rfl (lv_at hl 0 rfl) ?_
      refine m_get (v := .ref (b + 20)) hx hb hts hown hK hP 48 (by decide) q1258 rfl rfl dX7_meetsRows_68 ?_
      refine m_cVv (As := [.ref (b + 19), .ref (b + 20)]) (rest := []) ⟨hx, hb, hml, hown, hts⟩ (met_contentOf l D cI cB b 19 20 mok_19 mok_20 S_53 _ h) (cwV 2 hts (lw_V q1763 q1765 qs106 q128 q1766) rfl rfl rfl cwd_contentOf ⟨Nat.le_of_ble_eq_true rfl, Nat.le_of_ble_eq_true rfl⟩) hK hP hS rfl hl.1 rfl (Nat.le_of_ble_eq_true rfl) dX7_meetsRows_71 ⟨Nat.zero_le _, Nat.zero_le _⟩ (fun S_55 H locs h hP hS => ?_)
      refine lv_aload_n hx hb dX7_meetsRows_74 rfl (lv_at hl 0 rfl) ?_
      refine lv_aload_n hx hb dX7_meetsRows_75 rfl (lv_at hl 0 rfl) ?_
      refine m_get (v := .ref (b + 24)) hx hb hts hown hK hP 52 (by decide) q1262 rfl rfl dX7_meetsRows_76 ?_
      refine lv_aload_n hx hb dX7_meetsRows_79 rfl (lv_at hl 0 rfl) ?_
      refine m_get (v := .ref (b + 20)) hx hb hts hown hK hP 48 (by decide) q1258 rfl rfl dX7_meetsRows_80 ?_
      refine m_cVv (As := [.ref (b + 24), .ref (b + 20)]) (rest := []) ⟨hx, hb, hml, hown, hts⟩ (met_meets l D cI cB b 24 20 mok_24 mok_20 S_55 _ h) (cwV 2 hts (lw_V q1770 q1772 qs107 q128 q1773) rfl rfl rfl cwd_meets ⟨Nat.le_of_ble_eq_true rfl, Nat.le_of_ble_eq_true rfl⟩) hK hP hS rfl hl.1 rfl (Nat.le_of_ble_eq_true rfl) dX7_meetsRows_83 ⟨Nat.zero_le _, Nat.zero_le _⟩ (fun S_57 H locs h hP hS => ?_)
      refine lv_aload_n hx hb dX7_meetsRows_86 rfl (lv_at hl 0 rfl) ?_
      refine lv_aload_n hx hb dX7_meetsRows_87 rfl (lv_at hl 0 rfl) ?_
      refine m_get (v := .ref (b + 18)) hx hb hts hown hK hP 46 (by decide) q1256 rfl rfl dX7_meetsRows_88 ?_
      refine m_cVv (As := [.ref (b + 18)]) (rest := []) ⟨hx, hb, hml, hown, hts⟩ (met_primitives l D cI cB b 18 mok_18 S_57 _ h) (cwV 1 hts (lw_V q1782 q1784 qs110 q128 q1785) rfl rfl rfl cwd_primitives ⟨Nat.le_of_ble_eq_true rfl, Nat.le_of_ble_eq_true rfl⟩) hK hP hS rfl hl.1 rfl (Nat.le_of_ble_eq_true rfl) dX7_meetsRows_91 ⟨Nat.zero_le _, Nat.zero_le _⟩ (fun S_59 H locs h hP hS => ?_)
      refine lv_aload_n hx hb dX7_meetsRows_94 rfl (lv_at hl 0 rfl) ?_
      refine lv_aload_n hx hb dX7_meetsRows_95 rfl (lv_at hl 0 rfl) ?_
      refine m_get (v := .ref (b + 19)) hx hb hts hown hK hP 47 (by decide) q1257 rfl rfl dX7_meetsRows_96 ?_
      refine m_cVv (As := [.ref (b + 19)]) (rest := []) ⟨hx, hb, hml, hown, hts⟩ (met_primitives l D cI cB b 19 mok_19 S_59 _ h) (cwV 1 hts (lw_V q1782 q1784 qs110 q128 q1785) rfl rfl rfl cwd_primitives ⟨Nat.le_of_ble_eq_true rfl, Nat.le_of_ble_eq_true rfl⟩) hK hP hS rfl hl.1 rfl (Nat.le_of_ble_eq_true rfl) dX7_meetsRows_99 ⟨Nat.zero_le _, Nat.zero_le _⟩ (fun S_61 H locs h hP hS => ?_)
      exact L102  _ _ _ _ h hP hS (lv_sub hl [0] rfl)
    · have h := h.2 c_62
      refine lv_iconst (v := 0) hx hb dX7_meetsRows_23 (by decide) ?_
      refine lv_istore_n (lv' := [(1, .int 0), (0, .ref b)]) hx hb dX7_meetsRows_24 rfl hl (by decide) rfl (fun ls hl => ?_)
      exact L25 _ _ _ _ _ h hP hS (lv_sub hl [1, 0] rfl)
  · have h := h.2 c_63
    exact W.vret hx hb hr (fun t ht hW => ⟨⟨S, rfl, h, by rw [ht]; exact hP, va_K.moved hW.alike hK⟩, hS.F ht⟩) hS.2.2 dX7_meetsRows_11
def wp_laysWork_b14 (p1 : Nat) (post : St → Prop) (R6 : Int32 → St → Prop) (R14 : Int32 → St → Prop) (x2 : Int32) (x3 : Int32) (S : St) : Prop :=
          ((16 ≤ x3 →
            ∀ x2_1 : Int32, x2_1 = x2 + 1 →
            R6 x2_1 S) ∧
           (¬ (16 ≤ x3) →
            wp_keyOf x2 x3 0 S (fun r_2 =>
            ∃ j_4 : Nat, j_4 < mlen p1 ∧ ((2304 * x2) + x3) = nI j_4 ∧
            ∃ j_5 : Nat, j_5 < 4096 ∧ r_2 = nI j_5 ∧ ∀ S_6 : St, S_6 = bw S 6 j_5 (S p1 j_4) →
            ∀ x3_7 : Int32, x3_7 = x3 + 1 →
            R14 x3_7 S_6)))
def wp_laysWork_l14 (p1 : Nat) (post : St → Prop) (R6 : Int32 → St → Prop) (x2 : Int32) (x3 : Int32) (S : St) : Prop := wLoop (fun (R : (Int32 × St) → Prop) (v : Int32 × St) => wp_laysWork_b14 p1 post R6 (fun x3 S => R (x3, S)) x2 v.1 v.2) (x3, S)
def wp_laysWork_b6 (p1 : Nat) (post : St → Prop) (R6 : Int32 → St → Prop)  (x2 : Int32) (S : St) : Prop :=
      ((16 ≤ x2 →
        post S) ∧
       (¬ (16 ≤ x2) →
        wp_laysWork_l14 p1 post R6 x2 0 S))
def wp_laysWork_l6 (p1 : Nat) (post : St → Prop)  (x2 : Int32) (S : St) : Prop := wLoop (fun (R : (Int32 × St) → Prop) (v : Int32 × St) => wp_laysWork_b6 p1 post (fun x2 S => R (x2, S))  v.1 v.2) (x2, S)
def wp_laysWork (p1 : Nat) (S : St) (post : St → Prop) : Prop :=
  wp_clears  S (fun S_11 =>
  wp_laysWork_l6 p1 post 0 S_11)
set_option maxHeartbeats 4000000 in
theorem met_laysWork (l : Launch) (D : va_G) (cI cB : ClassId) (b : Nat) (p1 : Nat) (hp1 : mok p1) (S : St) (post : St → Prop) (h : wp_laysWork p1 S post) : Met l yX7_laysWork (ws_ yX7_laysWork cX7_laysWork 4 none) ({ frames := 1, cells := 0, slots := 0, locals := 22 } : Room) (mPc D cI cB b [.ref b, .ref (b + p1)] S) (mQv D cI cB b post) 0 0 (mA b) := by
  refine Met.ofW (cc := cX7_laysWork) (maxL := 4) (ret := none) (by decide) rfl ?_
  intro p e s m args below meth c s₁ B hml hv
  obtain ⟨rfl, hP, hK⟩ := hv
  have hx := B.exec
  have hb := B.bytes
  have hr := B.returns
  have hts := atoms_spec (ws := ws_ yX7_laysWork cX7_laysWork 4 none) B.pre
  have hts : ∀ w ∈ lw_all, w.before _ s = true := fun w h => hts w (List.mem_cons_of_mem _ h)
  have hown : s.vm.findClass RX7 = some m.cls := findClass_of_methodNamed B.named
  have hlocks := B.notSynchronized
  have hS : va_S (mA b) s.heap s.heap [] := va_S.rf
  have hl := lv_entry ([.ref b, .ref (b + p1)]) (n := 4) (Nat.le_of_ble_eq_true rfl)
  rw [lg_entry_eq]
  generalize (lg_sl ([.ref b, .ref (b + p1)]) ++ List.replicate (4 - (lg_sl ([.ref b, .ref (b + p1)])).length) Slot.unset).toArray = ls at hl ⊢
  have hl : lv_has ls 4 [(0, .ref b), (1, .ref (b + p1))] := hl
  have L6 : ∀  (x2 : Int32) (S : St) (H : Heap) (locs : List Loc) (ls : Array Slot), wp_laysWork_l6 p1 post  x2 S → mW D cI cB b S H → va_S (mA b) s.heap H locs → lv_has ls 4 [(0, .ref b), (1, .ref (b + p1)), (2, .int x2)] → W p l e (headSpec (ws_ yX7_laysWork cX7_laysWork 4 none) ({ frames := 1, cells := 0, slots := 0, locals := 22 } : Room)).room s m ([.ref b, .ref (b + p1)] : List Value).toArray below meth c H locs 0 0 (MQ below (mQv D cI cB b post) ([.ref b, .ref (b + p1)] : List Value).toArray s 0 0 (mA b)) (F0 m 6 ls []) := by
    intro  x2 S H locs ls h hP hS hl
    obtain ⟨I6, n6, hI, hstep6⟩ := h
    induction n6 using Nat.strongRecOn generalizing x2 S H locs ls with
    | ind n6 ih6 =>
      have h : wp_laysWork_b6 p1 post (fun x2 S => ∃ mm, mm < n6 ∧ I6 mm (x2, S))  x2 S := hstep6 n6 _ hI
      clear hI
      have L14 : ∀ (x2 : Int32) (x3 : Int32) (S : St) (H : Heap) (locs : List Loc) (ls : Array Slot), wp_laysWork_l14 p1 post (fun x2 S => ∃ mm, mm < n6 ∧ I6 mm (x2, S)) x2 x3 S → mW D cI cB b S H → va_S (mA b) s.heap H locs → lv_has ls 4 [(0, .ref b), (1, .ref (b + p1)), (2, .int x2), (3, .int x3)] → W p l e (headSpec (ws_ yX7_laysWork cX7_laysWork 4 none) ({ frames := 1, cells := 0, slots := 0, locals := 22 } : Room)).room s m ([.ref b, .ref (b + p1)] : List Value).toArray below meth c H locs 0 0 (MQ below (mQv D cI cB b post) ([.ref b, .ref (b + p1)] : List Value).toArray s 0 0 (mA b)) (F0 m 14 ls []) := by
        intro x2 x3 S H locs ls h hP hS hl
        obtain ⟨I14, n14, hI, hstep14⟩ := h
        induction n14 using Nat.strongRecOn generalizing x3 S H locs ls with
        | ind n14 ih14 =>
          have h : wp_laysWork_b14 p1 post (fun x2 S => ∃ mm, mm < n6 ∧ I6 mm (x2, S)) (fun x3 S => ∃ mm, mm < n14 ∧ I14 mm (x3, S)) x2 x3 S := hstep14 n14 _ hI
          clear hI
          unfold wp_laysWork_b14 at h
          refine lv_iload_n hx hb dX7_laysWork_14 rfl (lv_at hl 3 rfl) ?_
          refine lv_bipush (v := 16) hx hb dX7_laysWork_15 (by decide) ?_
          refine lv_icmp_ge (tgt := 46) hx hb dX7_laysWork_17 (by decide) (fun c_8 => ?_) (fun c_8 => ?_)
          · have h := h.1 c_8
            obtain ⟨x2_1, ex2_1⟩ : ∃ y : Int32, y = x2 + 1 := ⟨_, rfl⟩
            have h := h x2_1 ex2_1
            refine lv_iinc (v := x2_1) (lv' := [(2, .int x2_1), (0, .ref b), (1, .ref (b + p1)), (3, .int x3)]) hx hb dX7_laysWork_46 hl (k := 2) rfl (by rw [ex2_1]; rfl) (by decide) rfl (fun ls hl => ?_)
            refine lv_goto (tgt := 6) hx hb dX7_laysWork_49 (by decide) ?_
            obtain ⟨mm, hmm, h⟩ := h
            exact ih6 mm hmm _ _ _ _ _ hP hS (lv_sub hl [1, 2, 0] rfl) h
          · have h := h.2 c_8
            refine lv_aload_n hx hb dX7_laysWork_20 rfl (lv_at hl 0 rfl) ?_
            refine m_get (v := .ref (b + 6)) hx hb hts hown hK hP 28 (by decide) q1238 rfl rfl dX7_laysWork_21 ?_
            refine lv_iload_n hx hb dX7_laysWork_24 rfl (lv_at hl 2 rfl) ?_
            refine lv_iload_n hx hb dX7_laysWork_25 rfl (lv_at hl 3 rfl) ?_
            refine lv_iconst (v := 0) hx hb dX7_laysWork_26 (by decide) ?_
            refine m_cSp (As := [.int x2, .int x3, .int 0]) (rest := [.ref (b + 6)]) ⟨hx, hb, hml, hown, hts⟩ (met_keyOf l D cI cB b x2 x3 0  S _ h) (va_cwS 3 hts (lw_S q1570 q1571 q128 q1572) rfl rfl rfl cwd_keyOf ⟨Nat.le_of_ble_eq_true rfl, Nat.le_of_ble_eq_true rfl⟩) hK hP hS rfl hl.1 rfl (Nat.le_of_ble_eq_true rfl) dX7_laysWork_27 ⟨Nat.zero_le _, Nat.zero_le _⟩ (fun r_2 H locs h hP hS => ?_)
            refine lv_aload_n hx hb dX7_laysWork_30 rfl (lv_at hl 1 rfl) ?_
            refine lv_sipush (v := 2304) hx hb dX7_laysWork_31 (by decide) ?_
            refine lv_iload_n hx hb dX7_laysWork_34 rfl (lv_at hl 2 rfl) ?_
            refine lv_imul hx hb dX7_laysWork_35 ?_
            refine lv_iload_n hx hb dX7_laysWork_36 rfl (lv_at hl 3 rfl) ?_
            refine lv_iadd hx hb dX7_laysWork_37 ?_
            obtain ⟨j_4, hj_4, ej_4, h⟩ := h
            refine m_iald hx hb hK hP (k := p1) hp1 ej_4 hj_4 dX7_laysWork_38 ?_
            obtain ⟨j_5, hj_5, ej_5, h⟩ := h
            obtain ⟨S_6, eS_6⟩ : ∃ z : St, z = bw S 6 j_5 (S p1 j_4) := ⟨_, rfl⟩
            have h := h S_6 eS_6
            refine m_iast hx hb hK hP hS (k := 6) mok_6 ej_5 hj_5 dX7_laysWork_39 (fun H locs hP hS => ?_)
            rw [← eS_6] at hP
            obtain ⟨x3_7, ex3_7⟩ : ∃ y : Int32, y = x3 + 1 := ⟨_, rfl⟩
            have h := h x3_7 ex3_7
            refine lv_iinc (v := x3_7) (lv' := [(3, .int x3_7), (0, .ref b), (1, .ref (b + p1)), (2, .int x2)]) hx hb dX7_laysWork_40 hl (k := 3) rfl (by rw [ex3_7]; rfl) (by decide) rfl (fun ls hl => ?_)
            refine lv_goto (tgt := 14) hx hb dX7_laysWork_43 (by decide) ?_
            obtain ⟨mm, hmm, h⟩ := h
            exact ih14 mm hmm _ _ _ _ _ hP hS (lv_sub hl [1, 2, 3, 0] rfl) h
      unfold wp_laysWork_b6 at h
      refine lv_iload_n hx hb dX7_laysWork_6 rfl (lv_at hl 2 rfl) ?_
      refine lv_bipush (v := 16) hx hb dX7_laysWork_7 (by decide) ?_
      refine lv_icmp_ge (tgt := 52) hx hb dX7_laysWork_9 (by decide) (fun c_9 => ?_) (fun c_9 => ?_)
      · have h := h.1 c_9
        exact W.vret hx hb hr (fun t ht hW => ⟨⟨S, rfl, h, by rw [ht]; exact hP, va_K.moved hW.alike hK⟩, hS.F ht⟩) hS.2.2 dX7_laysWork_52
      · have h := h.2 c_9
        refine lv_iconst (v := 0) hx hb dX7_laysWork_12 (by decide) ?_
        refine lv_istore_n (lv' := [(3, .int 0), (0, .ref b), (1, .ref (b + p1)), (2, .int x2)]) hx hb dX7_laysWork_13 rfl hl (by decide) rfl (fun ls hl => ?_)
        exact L14 _ _ _ _ _ _ h hP hS (lv_sub hl [1, 2, 3, 0] rfl)
  unfold wp_laysWork at h
  refine lv_aload_n hx hb dX7_laysWork_0 rfl (lv_at hl 0 rfl) ?_
  refine m_cVv (As := []) (rest := []) ⟨hx, hb, hml, hown, hts⟩ (met_clears l D cI cB b   S _ h) (cwV 0 hts (lw_V q1673 q1675 qs97 q128 q1676) rfl rfl rfl cwd_clears ⟨Nat.le_of_ble_eq_true rfl, Nat.le_of_ble_eq_true rfl⟩) hK hP hS rfl hl.1 rfl (Nat.le_of_ble_eq_true rfl) dX7_laysWork_1 ⟨Nat.zero_le _, Nat.zero_le _⟩ (fun S_11 H locs h hP hS => ?_)
  refine lv_iconst (v := 0) hx hb dX7_laysWork_4 (by decide) ?_
  refine lv_istore_n (lv' := [(2, .int 0), (0, .ref b), (1, .ref (b + p1))]) hx hb dX7_laysWork_5 rfl hl (by decide) rfl (fun ls hl => ?_)
  exact L6 _ _ _ _ _ h hP hS (lv_sub hl [1, 2, 0] rfl)
def wp_monicWork_b55  (post : St → Prop) (R55 : Int32 → St → Prop) (x2 : Int32) (x3 : Int32) (S : St) : Prop :=
      ((4096 ≤ x3 →
        post S) ∧
       (¬ (4096 ≤ x3) →
        ∃ j_1 : Nat, j_1 < 4096 ∧ x3 = nI j_1 ∧
        ¬ (S 0 5) = 0 ∧
        ∃ j_2 : Nat, j_2 < 4096 ∧ x3 = nI j_2 ∧ ∀ S_3 : St, S_3 = bw S 6 j_2 (jrem ((S 6 j_1) * x2) (S 0 5)) →
        ∀ x3_4 : Int32, x3_4 = x3 + 1 →
        R55 x3_4 S_3))
def wp_monicWork_l55  (post : St → Prop) (x2 : Int32) (x3 : Int32) (S : St) : Prop := wLoop (fun (R : (Int32 × St) → Prop) (v : Int32 × St) => wp_monicWork_b55  post (fun x3 S => R (x3, S)) x2 v.1 v.2) (x3, S)
def wp_monicWork_j29  (post : St → Prop) (x1 : Int32) (S : St) : Prop :=
    ((¬ x1 = 4096 →
      ∃ j_6 : Nat, j_6 < 4096 ∧ x1 = nI j_6 ∧
      ∃ j_7 : Nat, j_7 < 4096 ∧ (S 4 j_6) = nI j_7 ∧
      wp_inverse (S 6 j_7) S (fun r_8 =>
      wp_monicWork_l55  post r_8 0 S)) ∧
     (x1 = 4096 →
      post S))
def wp_monicWork_b2  (post : St → Prop) (R2 : Int32 → Prop)  (x1 : Int32) (S : St) : Prop :=
      ((4096 ≤ x1 →
        wp_monicWork_j29  post x1 S) ∧
       (¬ (4096 ≤ x1) →
        ∃ j_11 : Nat, j_11 < 4096 ∧ x1 = nI j_11 ∧
        ∃ j_12 : Nat, j_12 < 4096 ∧ (S 4 j_11) = nI j_12 ∧
        ((¬ (S 6 j_12) = 0 →
          wp_monicWork_j29  post x1 S) ∧
         ((S 6 j_12) = 0 →
          ∀ x1_13 : Int32, x1_13 = x1 + 1 →
          R2 x1_13))))
def wp_monicWork_l2  (post : St → Prop)  (x1 : Int32) (S : St) : Prop := wLoop (fun (R : Int32 → Prop) (v : Int32) => wp_monicWork_b2  post (fun x1 => R x1)  v S) x1
def wp_monicWork  (S : St) (post : St → Prop) : Prop :=
  wp_monicWork_l2  post 0 S
set_option maxHeartbeats 4000000 in
theorem met_monicWork (l : Launch) (D : va_G) (cI cB : ClassId) (b : Nat)   (S : St) (post : St → Prop) (h : wp_monicWork  S post) : Met l yX7_monicWork (ws_ yX7_monicWork cX7_monicWork 4 none) ({ frames := 1, cells := 0, slots := 0, locals := 22 } : Room) (mPc D cI cB b [.ref b] S) (mQv D cI cB b post) 0 0 (mA b) := by
  refine Met.ofW (cc := cX7_monicWork) (maxL := 4) (ret := none) (by decide) rfl ?_
  intro p e s m args below meth c s₁ B hml hv
  obtain ⟨rfl, hP, hK⟩ := hv
  have hx := B.exec
  have hb := B.bytes
  have hr := B.returns
  have hts := atoms_spec (ws := ws_ yX7_monicWork cX7_monicWork 4 none) B.pre
  have hts : ∀ w ∈ lw_all, w.before _ s = true := fun w h => hts w (List.mem_cons_of_mem _ h)
  have hown : s.vm.findClass RX7 = some m.cls := findClass_of_methodNamed B.named
  have hlocks := B.notSynchronized
  have hS : va_S (mA b) s.heap s.heap [] := va_S.rf
  have hl := lv_entry ([.ref b]) (n := 4) (Nat.le_of_ble_eq_true rfl)
  rw [lg_entry_eq]
  generalize (lg_sl ([.ref b]) ++ List.replicate (4 - (lg_sl ([.ref b])).length) Slot.unset).toArray = ls at hl ⊢
  have hl : lv_has ls 4 [(0, .ref b)] := hl
  have L55 : ∀ (x2 : Int32) (x3 : Int32) (S : St) (H : Heap) (locs : List Loc) (ls : Array Slot), wp_monicWork_l55  post x2 x3 S → mW D cI cB b S H → va_S (mA b) s.heap H locs → lv_has ls 4 [(0, .ref b), (2, .int x2), (3, .int x3)] → W p l e (headSpec (ws_ yX7_monicWork cX7_monicWork 4 none) ({ frames := 1, cells := 0, slots := 0, locals := 22 } : Room)).room s m ([.ref b] : List Value).toArray below meth c H locs 0 0 (MQ below (mQv D cI cB b post) ([.ref b] : List Value).toArray s 0 0 (mA b)) (F0 m 55 ls []) := by
    intro x2 x3 S H locs ls h hP hS hl
    obtain ⟨I55, n55, hI, hstep55⟩ := h
    induction n55 using Nat.strongRecOn generalizing x3 S H locs ls with
    | ind n55 ih55 =>
      have h : wp_monicWork_b55  post (fun x3 S => ∃ mm, mm < n55 ∧ I55 mm (x3, S)) x2 x3 S := hstep55 n55 _ hI
      clear hI
      unfold wp_monicWork_b55 at h
      refine lv_iload_n hx hb dX7_monicWork_55 rfl (lv_at hl 2 rfl) ?_
      refine lv_sipush (v := 4096) hx hb dX7_monicWork_56 (by decide) ?_
      refine lv_icmp_ge (tgt := 87) hx hb dX7_monicWork_59 (by decide) (fun c_5 => ?_) (fun c_5 => ?_)
      · have h := h.1 c_5
        exact W.vret hx hb hr (fun t ht hW => ⟨⟨S, rfl, h, by rw [ht]; exact hP, va_K.moved hW.alike hK⟩, hS.F ht⟩) hS.2.2 dX7_monicWork_87
      · have h := h.2 c_5
        refine lv_aload_n hx hb dX7_monicWork_62 rfl (lv_at hl 0 rfl) ?_
        refine m_get (v := .ref (b + 6)) hx hb hts hown hK hP 28 (by decide) q1238 rfl rfl dX7_monicWork_63 ?_
        refine lv_iload_n hx hb dX7_monicWork_66 rfl (lv_at hl 2 rfl) ?_
        refine lv_aload_n hx hb dX7_monicWork_67 rfl (lv_at hl 0 rfl) ?_
        refine m_get (v := .ref (b + 6)) hx hb hts hown hK hP 28 (by decide) q1238 rfl rfl dX7_monicWork_68 ?_
        refine lv_iload_n hx hb dX7_monicWork_71 rfl (lv_at hl 2 rfl) ?_
        obtain ⟨j_1, hj_1, ej_1, h⟩ := h
        refine m_iald hx hb hK hP (k := 6) mok_6 ej_1 hj_1 dX7_monicWork_72 ?_
        refine lv_iload_n hx hb dX7_monicWork_73 rfl (lv_at hl 1 rfl) ?_
        refine lv_imul hx hb dX7_monicWork_74 ?_
        refine lv_aload_n hx hb dX7_monicWork_75 rfl (lv_at hl 0 rfl) ?_
        refine m_get (v := .int (S 0 5)) hx hb hts hown hK hP 5 (by decide) q1215 rfl rfl dX7_monicWork_76 ?_
        obtain ⟨hne, h⟩ := h
        refine m_irem hx hb dX7_monicWork_79 hne ?_
        obtain ⟨j_2, hj_2, ej_2, h⟩ := h
        obtain ⟨S_3, eS_3⟩ : ∃ z : St, z = bw S 6 j_2 (jrem ((S 6 j_1) * x2) (S 0 5)) := ⟨_, rfl⟩
        have h := h S_3 eS_3
        refine m_iast hx hb hK hP hS (k := 6) mok_6 ej_2 hj_2 dX7_monicWork_80 (fun H locs hP hS => ?_)
        rw [← eS_3] at hP
        obtain ⟨x3_4, ex3_4⟩ : ∃ y : Int32, y = x3 + 1 := ⟨_, rfl⟩
        have h := h x3_4 ex3_4
        refine lv_iinc (v := x3_4) (lv' := [(3, .int x3_4), (0, .ref b), (2, .int x2)]) hx hb dX7_monicWork_81 hl (k := 2) rfl (by rw [ex3_4]; rfl) (by decide) rfl (fun ls hl => ?_)
        refine lv_goto (tgt := 55) hx hb dX7_monicWork_84 (by decide) ?_
        obtain ⟨mm, hmm, h⟩ := h
        exact ih55 mm hmm _ _ _ _ _ hP hS (lv_sub hl [1, 2, 0] rfl) h
  have J29 : ∀ (x1 : Int32) (S : St) (H : Heap) (locs : List Loc) (ls : Array Slot), wp_monicWork_j29  post x1 S → mW D cI cB b S H → va_S (mA b) s.heap H locs → lv_has ls 4 [(0, .ref b), (1, .int x1)] → W p l e (headSpec (ws_ yX7_monicWork cX7_monicWork 4 none) ({ frames := 1, cells := 0, slots := 0, locals := 22 } : Room)).room s m ([.ref b] : List Value).toArray below meth c H locs 0 0 (MQ below (mQv D cI cB b post) ([.ref b] : List Value).toArray s 0 0 (mA b)) (F0 m 29 ls []) := by
    intro x1 S H locs ls h hP hS hl
    unfold wp_monicWork_j29 at h
    refine lv_iload_n hx hb dX7_monicWork_29 rfl (lv_at hl 1 rfl) ?_
    refine lv_sipush (v := 4096) hx hb dX7_monicWork_30 (by decide) ?_
    refine lv_icmp_ne (tgt := 37) hx hb dX7_monicWork_33 (by decide) (fun c_10 => ?_) (fun c_10 => ?_)
    · have h := h.1 c_10
      refine lv_aload_n hx hb dX7_monicWork_37 rfl (lv_at hl 0 rfl) ?_
      refine lv_aload_n hx hb dX7_monicWork_38 rfl (lv_at hl 0 rfl) ?_
      refine m_get (v := .ref (b + 6)) hx hb hts hown hK hP 28 (by decide) q1238 rfl rfl dX7_monicWork_39 ?_
      refine lv_aload_n hx hb dX7_monicWork_42 rfl (lv_at hl 0 rfl) ?_
      refine m_get (v := .ref (b + 4)) hx hb hts hown hK hP 24 (by decide) q1234 rfl rfl dX7_monicWork_43 ?_
      refine lv_iload_n hx hb dX7_monicWork_46 rfl (lv_at hl 1 rfl) ?_
      obtain ⟨j_6, hj_6, ej_6, h⟩ := h
      refine m_iald hx hb hK hP (k := 4) mok_4 ej_6 hj_6 dX7_monicWork_47 ?_
      obtain ⟨j_7, hj_7, ej_7, h⟩ := h
      refine m_iald hx hb hK hP (k := 6) mok_6 ej_7 hj_7 dX7_monicWork_48 ?_
      refine m_cVp (As := [.int (S 6 j_7)]) (rest := []) ⟨hx, hb, hml, hown, hts⟩ (met_inverse l D cI cB b (S 6 j_7)  S _ h) (cwV 1 hts (lw_V q1639 q1641 qs92 q128 q1642) rfl rfl rfl cwd_inverse ⟨Nat.le_of_ble_eq_true rfl, Nat.le_of_ble_eq_true rfl⟩) hK hP hS rfl hl.1 rfl (Nat.le_of_ble_eq_true rfl) dX7_monicWork_49 ⟨Nat.zero_le _, Nat.zero_le _⟩ (fun r_8 H locs h hP hS => ?_)
      refine lv_istore_n (lv' := [(2, .int r_8), (0, .ref b), (1, .int x1)]) hx hb dX7_monicWork_52 rfl hl (by decide) rfl (fun ls hl => ?_)
      refine lv_iconst (v := 0) hx hb dX7_monicWork_53 (by decide) ?_
      refine lv_istore_n (lv' := [(3, .int 0), (2, .int r_8), (0, .ref b), (1, .int x1)]) hx hb dX7_monicWork_54 rfl hl (by decide) rfl (fun ls hl => ?_)
      exact L55 _ _ _ _ _ _ h hP hS (lv_sub hl [2, 1, 0] rfl)
    · have h := h.2 c_10
      exact W.vret hx hb hr (fun t ht hW => ⟨⟨S, rfl, h, by rw [ht]; exact hP, va_K.moved hW.alike hK⟩, hS.F ht⟩) hS.2.2 dX7_monicWork_36
  have L2 : ∀  (x1 : Int32) (S : St) (H : Heap) (locs : List Loc) (ls : Array Slot), wp_monicWork_l2  post  x1 S → mW D cI cB b S H → va_S (mA b) s.heap H locs → lv_has ls 4 [(0, .ref b), (1, .int x1)] → W p l e (headSpec (ws_ yX7_monicWork cX7_monicWork 4 none) ({ frames := 1, cells := 0, slots := 0, locals := 22 } : Room)).room s m ([.ref b] : List Value).toArray below meth c H locs 0 0 (MQ below (mQv D cI cB b post) ([.ref b] : List Value).toArray s 0 0 (mA b)) (F0 m 2 ls []) := by
    intro  x1 S H locs ls h hP hS hl
    obtain ⟨I2, n2, hI, hstep2⟩ := h
    induction n2 using Nat.strongRecOn generalizing x1 H locs ls with
    | ind n2 ih2 =>
      have h : wp_monicWork_b2  post (fun x1 => ∃ mm, mm < n2 ∧ I2 mm x1)  x1 S := hstep2 n2 _ hI
      clear hI
      unfold wp_monicWork_b2 at h
      refine lv_iload_n hx hb dX7_monicWork_2 rfl (lv_at hl 1 rfl) ?_
      refine lv_sipush (v := 4096) hx hb dX7_monicWork_3 (by decide) ?_
      refine lv_icmp_ge (tgt := 29) hx hb dX7_monicWork_6 (by decide) (fun c_15 => ?_) (fun c_15 => ?_)
      · have h := h.1 c_15
        exact J29 _ _ _ _ _ h hP hS (lv_sub hl [0, 1] rfl)
      · have h := h.2 c_15
        refine lv_aload_n hx hb dX7_monicWork_9 rfl (lv_at hl 0 rfl) ?_
        refine m_get (v := .ref (b + 6)) hx hb hts hown hK hP 28 (by decide) q1238 rfl rfl dX7_monicWork_10 ?_
        refine lv_aload_n hx hb dX7_monicWork_13 rfl (lv_at hl 0 rfl) ?_
        refine m_get (v := .ref (b + 4)) hx hb hts hown hK hP 24 (by decide) q1234 rfl rfl dX7_monicWork_14 ?_
        refine lv_iload_n hx hb dX7_monicWork_17 rfl (lv_at hl 1 rfl) ?_
        obtain ⟨j_11, hj_11, ej_11, h⟩ := h
        refine m_iald hx hb hK hP (k := 4) mok_4 ej_11 hj_11 dX7_monicWork_18 ?_
        obtain ⟨j_12, hj_12, ej_12, h⟩ := h
        refine m_iald hx hb hK hP (k := 6) mok_6 ej_12 hj_12 dX7_monicWork_19 ?_
        refine lv_if_ne (tgt := 29) hx hb dX7_monicWork_20 (by decide) (fun c_14 => ?_) (fun c_14 => ?_)
        · have h := h.1 c_14
          exact J29 _ _ _ _ _ h hP hS (lv_sub hl [0, 1] rfl)
        · have h := h.2 c_14
          obtain ⟨x1_13, ex1_13⟩ : ∃ y : Int32, y = x1 + 1 := ⟨_, rfl⟩
          have h := h x1_13 ex1_13
          refine lv_iinc (v := x1_13) (lv' := [(1, .int x1_13), (0, .ref b)]) hx hb dX7_monicWork_23 hl (k := 1) rfl (by rw [ex1_13]; rfl) (by decide) rfl (fun ls hl => ?_)
          refine lv_goto (tgt := 2) hx hb dX7_monicWork_26 (by decide) ?_
          obtain ⟨mm, hmm, h⟩ := h
          exact ih2 mm hmm _ _ _ _ hP hS (lv_sub hl [1, 0] rfl) h
  unfold wp_monicWork at h
  refine lv_iconst (v := 0) hx hb dX7_monicWork_0 (by decide) ?_
  refine lv_istore_n (lv' := [(1, .int 0), (0, .ref b)]) hx hb dX7_monicWork_1 rfl hl (by decide) rfl (fun ls hl => ?_)
  exact L2 _ _ _ _ _ h hP hS (lv_sub hl [1, 0] rfl)
def wp_common_j37 (p1 : Int32) (p2 : Int32) (p3 : Int32) (post : Int32 → St → Prop)  (S : St) : Prop :=
    wp_refused 5 S (fun r_1 S_2 =>
    post r_1 S_2)
def wp_common (p1 : Int32) (p2 : Int32) (p3 : Int32) (S : St) (post : Int32 → St → Prop) : Prop :=
  ∀ S_3 : St, S_3 = bw S 0 0 0 →
  wp_areRegs p1 p2 p3 S_3 (fun r_4 =>
  ((¬ r_4 = 0 →
    wp_hasThird p1 S_3 (fun r_6 =>
    ((¬ r_6 = 0 →
      wp_common_j37 p1 p2 p3 post  S_3) ∧
     (r_6 = 0 →
      wp_hasThird p2 S_3 (fun r_8 =>
      ((r_8 = 0 →
        wp_laysRows p1 18 S_3 (fun S_11 =>
        wp_laysRows p2 19 S_11 (fun S_13 =>
        wp_meetsRows  S_13 (fun S_15 =>
        wp_laysWork 18 S_15 (fun S_17 =>
        wp_monicWork  S_17 (fun S_19 =>
        wp_lays p3 S_19 (fun r_20 S_21 =>
        post r_20 S_21))))))) ∧
       (¬ (r_8 = 0) →
        wp_common_j37 p1 p2 p3 post  S_3))))))) ∧
   (r_4 = 0 →
    wp_refused 1 S_3 (fun r_24 S_25 =>
    post r_24 S_25))))
set_option maxHeartbeats 4000000 in
theorem met_common (l : Launch) (D : va_G) (cI cB : ClassId) (b : Nat) (p1 : Int32) (p2 : Int32) (p3 : Int32)  (S : St) (post : Int32 → St → Prop) (h : wp_common p1 p2 p3 S post) : Met l yX7_common (ws_ yX7_common cX7_common 4 (some .int)) ({ frames := 7, cells := 0, slots := 0, locals := 181 } : Room) (mPc D cI cB b [.ref b, .int p1, .int p2, .int p3] S) (mQi D cI cB b post) 0 0 (mA b) := by
  refine Met.ofW (cc := cX7_common) (maxL := 4) (ret := (some .int)) (by decide) rfl ?_
  intro p e s m args below meth c s₁ B hml hv
  obtain ⟨rfl, hP, hK⟩ := hv
  have hx := B.exec
  have hb := B.bytes
  have hr := B.returns
  have hts := atoms_spec (ws := ws_ yX7_common cX7_common 4 (some .int)) B.pre
  have hts : ∀ w ∈ lw_all, w.before _ s = true := fun w h => hts w (List.mem_cons_of_mem _ h)
  have hown : s.vm.findClass RX7 = some m.cls := findClass_of_methodNamed B.named
  have hlocks := B.notSynchronized
  have hS : va_S (mA b) s.heap s.heap [] := va_S.rf
  have hl := lv_entry ([.ref b, .int p1, .int p2, .int p3]) (n := 4) (Nat.le_of_ble_eq_true rfl)
  rw [lg_entry_eq]
  generalize (lg_sl ([.ref b, .int p1, .int p2, .int p3]) ++ List.replicate (4 - (lg_sl ([.ref b, .int p1, .int p2, .int p3])).length) Slot.unset).toArray = ls at hl ⊢
  have hl : lv_has ls 4 [(0, .ref b), (1, .int p1), (2, .int p2), (3, .int p3)] := hl
  have J37 : ∀  (S : St) (H : Heap) (locs : List Loc) (ls : Array Slot), wp_common_j37 p1 p2 p3 post  S → mW D cI cB b S H → va_S (mA b) s.heap H locs → lv_has ls 4 [(0, .ref b)] → W p l e (headSpec (ws_ yX7_common cX7_common 4 (some .int)) ({ frames := 7, cells := 0, slots := 0, locals := 181 } : Room)).room s m ([.ref b, .int p1, .int p2, .int p3] : List Value).toArray below meth c H locs 0 0 (MQ below (mQi D cI cB b post) ([.ref b, .int p1, .int p2, .int p3] : List Value).toArray s 0 0 (mA b)) (F0 m 37 ls []) := by
    intro  S H locs ls h hP hS hl
    unfold wp_common_j37 at h
    refine lv_aload_n hx hb dX7_common_37 rfl (lv_at hl 0 rfl) ?_
    refine lv_iconst (v := 5) hx hb dX7_common_38 (by decide) ?_
    refine m_cVi (As := [.int 5]) (rest := []) ⟨hx, hb, hml, hown, hts⟩ (met_refused l D cI cB b 5  S _ h) (cwV 1 hts (lw_V q1382 q1384 qs58 q128 q1385) rfl rfl rfl cwd_refused ⟨Nat.le_of_ble_eq_true rfl, Nat.le_of_ble_eq_true rfl⟩) hK hP hS rfl hl.1 rfl (Nat.le_of_ble_eq_true rfl) dX7_common_39 ⟨Nat.zero_le _, Nat.zero_le _⟩ (fun r_1 S_2 H locs h hP hS => ?_)
    exact W.iret (v := r_1) hx hb hr (fun t ht hW => ⟨⟨r_1, S_2, rfl, h, by rw [ht]; exact hP, va_K.moved hW.alike hK⟩, hS.F ht⟩) hS.2.2 dX7_common_42
  unfold wp_common at h
  refine lv_aload_n hx hb dX7_common_0 rfl (lv_at hl 0 rfl) ?_
  refine lv_iconst (v := 0) hx hb dX7_common_1 (by decide) ?_
  obtain ⟨S_3, eS_3⟩ : ∃ z : St, z = bw S 0 0 0 := ⟨_, rfl⟩
  have h := h S_3 eS_3
  refine m_put (S1 := S_3) (v := .int 0) (ty := .int) hx hb hts hown hK hP hS 0 (by decide) q1210 rfl rfl (tyX7_ok 0 (by decide)) rfl rfl (by rw [eS_3]; exact mset_0 b S 0) (by rw [eS_3]; exact bw_0) dX7_common_2 (fun H locs hP hS => ?_)
  refine lv_aload_n hx hb dX7_common_5 rfl (lv_at hl 0 rfl) ?_
  refine lv_iload_n hx hb dX7_common_6 rfl (lv_at hl 1 rfl) ?_
  refine lv_iload_n hx hb dX7_common_7 rfl (lv_at hl 2 rfl) ?_
  refine lv_iload_n hx hb dX7_common_8 rfl (lv_at hl 3 rfl) ?_
  refine m_cVp (As := [.int p1, .int p2, .int p3]) (rest := []) ⟨hx, hb, hml, hown, hts⟩ (met_areRegs l D cI cB b p1 p2 p3  S_3 _ h) (cwV 3 hts (lw_V q1689 q1691 qs100 q128 q1692) rfl rfl rfl cwd_areRegs ⟨Nat.le_of_ble_eq_true rfl, Nat.le_of_ble_eq_true rfl⟩) hK hP hS rfl hl.1 rfl (Nat.le_of_ble_eq_true rfl) dX7_common_9 ⟨Nat.zero_le _, Nat.zero_le _⟩ (fun r_4 H locs h hP hS => ?_)
  refine lv_if_ne (tgt := 21) hx hb dX7_common_12 (by decide) (fun c_26 => ?_) (fun c_26 => ?_)
  · have h := h.1 c_26
    refine lv_aload_n hx hb dX7_common_21 rfl (lv_at hl 0 rfl) ?_
    refine lv_iload_n hx hb dX7_common_22 rfl (lv_at hl 1 rfl) ?_
    refine m_cVp (As := [.int p1]) (rest := []) ⟨hx, hb, hml, hown, hts⟩ (met_hasThird l D cI cB b p1  S_3 _ h) (cwV 1 hts (lw_V q1745 q1747 qs103 q128 q1748) rfl rfl rfl cwd_hasThird ⟨Nat.le_of_ble_eq_true rfl, Nat.le_of_ble_eq_true rfl⟩) hK hP hS rfl hl.1 rfl (Nat.le_of_ble_eq_true rfl) dX7_common_23 ⟨Nat.zero_le _, Nat.zero_le _⟩ (fun r_6 H locs h hP hS => ?_)
    refine lv_if_ne (tgt := 37) hx hb dX7_common_26 (by decide) (fun c_23 => ?_) (fun c_23 => ?_)
    · have h := h.1 c_23
      exact J37  _ _ _ _ h hP hS (lv_sub hl [0] rfl)
    · have h := h.2 c_23
      refine lv_aload_n hx hb dX7_common_29 rfl (lv_at hl 0 rfl) ?_
      refine lv_iload_n hx hb dX7_common_30 rfl (lv_at hl 2 rfl) ?_
      refine m_cVp (As := [.int p2]) (rest := []) ⟨hx, hb, hml, hown, hts⟩ (met_hasThird l D cI cB b p2  S_3 _ h) (cwV 1 hts (lw_V q1745 q1747 qs103 q128 q1748) rfl rfl rfl cwd_hasThird ⟨Nat.le_of_ble_eq_true rfl, Nat.le_of_ble_eq_true rfl⟩) hK hP hS rfl hl.1 rfl (Nat.le_of_ble_eq_true rfl) dX7_common_31 ⟨Nat.zero_le _, Nat.zero_le _⟩ (fun r_8 H locs h hP hS => ?_)
      refine lv_if_eq (tgt := 43) hx hb dX7_common_34 (by decide) (fun c_22 => ?_) (fun c_22 => ?_)
      · have h := h.1 c_22
        refine lv_aload_n hx hb dX7_common_43 rfl (lv_at hl 0 rfl) ?_
        refine lv_iload_n hx hb dX7_common_44 rfl (lv_at hl 1 rfl) ?_
        refine lv_aload_n hx hb dX7_common_45 rfl (lv_at hl 0 rfl) ?_
        refine m_get (v := .ref (b + 18)) hx hb hts hown hK hP 46 (by decide) q1256 rfl rfl dX7_common_46 ?_
        refine m_cVv (As := [.int p1, .ref (b + 18)]) (rest := []) ⟨hx, hb, hml, hown, hts⟩ (met_laysRows l D cI cB b p1 18 mok_18 S_3 _ h) (cwV 2 hts (lw_V q1749 q1751 qs104 q128 q1752) rfl rfl rfl cwd_laysRows ⟨Nat.le_of_ble_eq_true rfl, Nat.le_of_ble_eq_true rfl⟩) hK hP hS rfl hl.1 rfl (Nat.le_of_ble_eq_true rfl) dX7_common_49 ⟨Nat.zero_le _, Nat.zero_le _⟩ (fun S_11 H locs h hP hS => ?_)
        refine lv_aload_n hx hb dX7_common_52 rfl (lv_at hl 0 rfl) ?_
        refine lv_iload_n hx hb dX7_common_53 rfl (lv_at hl 2 rfl) ?_
        refine lv_aload_n hx hb dX7_common_54 rfl (lv_at hl 0 rfl) ?_
        refine m_get (v := .ref (b + 19)) hx hb hts hown hK hP 47 (by decide) q1257 rfl rfl dX7_common_55 ?_
        refine m_cVv (As := [.int p2, .ref (b + 19)]) (rest := []) ⟨hx, hb, hml, hown, hts⟩ (met_laysRows l D cI cB b p2 19 mok_19 S_11 _ h) (cwV 2 hts (lw_V q1749 q1751 qs104 q128 q1752) rfl rfl rfl cwd_laysRows ⟨Nat.le_of_ble_eq_true rfl, Nat.le_of_ble_eq_true rfl⟩) hK hP hS rfl hl.1 rfl (Nat.le_of_ble_eq_true rfl) dX7_common_58 ⟨Nat.zero_le _, Nat.zero_le _⟩ (fun S_13 H locs h hP hS => ?_)
        refine lv_aload_n hx hb dX7_common_61 rfl (lv_at hl 0 rfl) ?_
        refine m_cVv (As := []) (rest := []) ⟨hx, hb, hml, hown, hts⟩ (met_meetsRows l D cI cB b   S_13 _ h) (cwV 0 hts (lw_V q1753 q1755 qs105 q128 q1756) rfl rfl rfl cwd_meetsRows ⟨Nat.le_of_ble_eq_true rfl, Nat.le_of_ble_eq_true rfl⟩) hK hP hS rfl hl.1 rfl (Nat.le_of_ble_eq_true rfl) dX7_common_62 ⟨Nat.zero_le _, Nat.zero_le _⟩ (fun S_15 H locs h hP hS => ?_)
        refine lv_aload_n hx hb dX7_common_65 rfl (lv_at hl 0 rfl) ?_
        refine lv_aload_n hx hb dX7_common_66 rfl (lv_at hl 0 rfl) ?_
        refine m_get (v := .ref (b + 18)) hx hb hts hown hK hP 46 (by decide) q1256 rfl rfl dX7_common_67 ?_
        refine m_cVv (As := [.ref (b + 18)]) (rest := []) ⟨hx, hb, hml, hown, hts⟩ (met_laysWork l D cI cB b 18 mok_18 S_15 _ h) (cwV 1 hts (lw_V q1794 q1796 qs113 q128 q1797) rfl rfl rfl cwd_laysWork ⟨Nat.le_of_ble_eq_true rfl, Nat.le_of_ble_eq_true rfl⟩) hK hP hS rfl hl.1 rfl (Nat.le_of_ble_eq_true rfl) dX7_common_70 ⟨Nat.zero_le _, Nat.zero_le _⟩ (fun S_17 H locs h hP hS => ?_)
        refine lv_aload_n hx hb dX7_common_73 rfl (lv_at hl 0 rfl) ?_
        refine m_cVv (As := []) (rest := []) ⟨hx, hb, hml, hown, hts⟩ (met_monicWork l D cI cB b   S_17 _ h) (cwV 0 hts (lw_V q1798 q1800 qs114 q128 q1801) rfl rfl rfl cwd_monicWork ⟨Nat.le_of_ble_eq_true rfl, Nat.le_of_ble_eq_true rfl⟩) hK hP hS rfl hl.1 rfl (Nat.le_of_ble_eq_true rfl) dX7_common_74 ⟨Nat.zero_le _, Nat.zero_le _⟩ (fun S_19 H locs h hP hS => ?_)
        refine lv_aload_n hx hb dX7_common_77 rfl (lv_at hl 0 rfl) ?_
        refine lv_iload_n hx hb dX7_common_78 rfl (lv_at hl 3 rfl) ?_
        refine m_cVi (As := [.int p3]) (rest := []) ⟨hx, hb, hml, hown, hts⟩ (met_lays l D cI cB b p3  S_19 _ h) (cwV 1 hts (lw_V q1693 q1695 qs101 q128 q1696) rfl rfl rfl cwd_lays ⟨Nat.le_of_ble_eq_true rfl, Nat.le_of_ble_eq_true rfl⟩) hK hP hS rfl hl.1 rfl (Nat.le_of_ble_eq_true rfl) dX7_common_79 ⟨Nat.zero_le _, Nat.zero_le _⟩ (fun r_20 S_21 H locs h hP hS => ?_)
        exact W.iret (v := r_20) hx hb hr (fun t ht hW => ⟨⟨r_20, S_21, rfl, h, by rw [ht]; exact hP, va_K.moved hW.alike hK⟩, hS.F ht⟩) hS.2.2 dX7_common_82
      · have h := h.2 c_22
        exact J37  _ _ _ _ h hP hS (lv_sub hl [0] rfl)
  · have h := h.2 c_26
    refine lv_aload_n hx hb dX7_common_15 rfl (lv_at hl 0 rfl) ?_
    refine lv_iconst (v := 1) hx hb dX7_common_16 (by decide) ?_
    refine m_cVi (As := [.int 1]) (rest := []) ⟨hx, hb, hml, hown, hts⟩ (met_refused l D cI cB b 1  S_3 _ h) (cwV 1 hts (lw_V q1382 q1384 qs58 q128 q1385) rfl rfl rfl cwd_refused ⟨Nat.le_of_ble_eq_true rfl, Nat.le_of_ble_eq_true rfl⟩) hK hP hS rfl hl.1 rfl (Nat.le_of_ble_eq_true rfl) dX7_common_17 ⟨Nat.zero_le _, Nat.zero_le _⟩ (fun r_24 S_25 H locs h hP hS => ?_)
    exact W.iret (v := r_24) hx hb hr (fun t ht hW => ⟨⟨r_24, S_25, rfl, h, by rw [ht]; exact hP, va_K.moved hW.alike hK⟩, hS.F ht⟩) hS.2.2 dX7_common_20
def wp_content_j21 (p1 : Int32) (p2 : Int32) (post : Int32 → St → Prop)  (S : St) : Prop :=
    wp_refused 1 S (fun r_1 S_2 =>
    post r_1 S_2)
def wp_content_b68 (p1 : Int32) (p2 : Int32) (post : Int32 → St → Prop) (R68 : Int32 → St → Prop)  (x3 : Int32) (S : St) : Prop :=
      ((16 ≤ x3 →
        wp_lays p2 S (fun r_3 S_4 =>
        post r_3 S_4)) ∧
       (¬ (16 ≤ x3) →
        wp_keyOf 0 x3 0 S (fun r_5 =>
        ∃ j_7 : Nat, j_7 < 2304 ∧ x3 = nI j_7 ∧
        ∃ j_8 : Nat, j_8 < 4096 ∧ r_5 = nI j_8 ∧ ∀ S_9 : St, S_9 = bw S 6 j_8 (S 21 j_7) →
        ∀ x3_10 : Int32, x3_10 = x3 + 1 →
        R68 x3_10 S_9)))
def wp_content_l68 (p1 : Int32) (p2 : Int32) (post : Int32 → St → Prop)  (x3 : Int32) (S : St) : Prop := wLoop (fun (R : (Int32 × St) → Prop) (v : Int32 × St) => wp_content_b68 p1 p2 post (fun x3 S => R (x3, S))  v.1 v.2) (x3, S)
def wp_content (p1 : Int32) (p2 : Int32) (S : St) (post : Int32 → St → Prop) : Prop :=
  ∀ S_12 : St, S_12 = bw S 0 0 0 →
  wp_isReg p1 S_12 (fun r_13 =>
  ((r_13 = 0 →
    wp_content_j21 p1 p2 post  S_12) ∧
   (¬ (r_13 = 0) →
    wp_isReg p2 S_12 (fun r_15 =>
    ((¬ r_15 = 0 →
      wp_hasThird p1 S_12 (fun r_17 =>
      ((r_17 = 0 →
        wp_laysRows p1 18 S_12 (fun S_20 =>
        wp_contentOf 18 21 S_20 (fun S_22 =>
        wp_clears  S_22 (fun S_24 =>
        wp_content_l68 p1 p2 post 0 S_24)))) ∧
       (¬ (r_17 = 0) →
        wp_refused 5 S_12 (fun r_25 S_26 =>
        post r_25 S_26))))) ∧
     (r_15 = 0 →
      wp_content_j21 p1 p2 post  S_12))))))
set_option maxHeartbeats 4000000 in
theorem met_content (l : Launch) (D : va_G) (cI cB : ClassId) (b : Nat) (p1 : Int32) (p2 : Int32)  (S : St) (post : Int32 → St → Prop) (h : wp_content p1 p2 S post) : Met l yX7_content (ws_ yX7_content cX7_content 4 (some .int)) ({ frames := 4, cells := 0, slots := 0, locals := 101 } : Room) (mPc D cI cB b [.ref b, .int p1, .int p2] S) (mQi D cI cB b post) 0 0 (mA b) := by
  refine Met.ofW (cc := cX7_content) (maxL := 4) (ret := (some .int)) (by decide) rfl ?_
  intro p e s m args below meth c s₁ B hml hv
  obtain ⟨rfl, hP, hK⟩ := hv
  have hx := B.exec
  have hb := B.bytes
  have hr := B.returns
  have hts := atoms_spec (ws := ws_ yX7_content cX7_content 4 (some .int)) B.pre
  have hts : ∀ w ∈ lw_all, w.before _ s = true := fun w h => hts w (List.mem_cons_of_mem _ h)
  have hown : s.vm.findClass RX7 = some m.cls := findClass_of_methodNamed B.named
  have hlocks := B.notSynchronized
  have hS : va_S (mA b) s.heap s.heap [] := va_S.rf
  have hl := lv_entry ([.ref b, .int p1, .int p2]) (n := 4) (Nat.le_of_ble_eq_true rfl)
  rw [lg_entry_eq]
  generalize (lg_sl ([.ref b, .int p1, .int p2]) ++ List.replicate (4 - (lg_sl ([.ref b, .int p1, .int p2])).length) Slot.unset).toArray = ls at hl ⊢
  have hl : lv_has ls 4 [(0, .ref b), (1, .int p1), (2, .int p2)] := hl
  have J21 : ∀  (S : St) (H : Heap) (locs : List Loc) (ls : Array Slot), wp_content_j21 p1 p2 post  S → mW D cI cB b S H → va_S (mA b) s.heap H locs → lv_has ls 4 [(0, .ref b)] → W p l e (headSpec (ws_ yX7_content cX7_content 4 (some .int)) ({ frames := 4, cells := 0, slots := 0, locals := 101 } : Room)).room s m ([.ref b, .int p1, .int p2] : List Value).toArray below meth c H locs 0 0 (MQ below (mQi D cI cB b post) ([.ref b, .int p1, .int p2] : List Value).toArray s 0 0 (mA b)) (F0 m 21 ls []) := by
    intro  S H locs ls h hP hS hl
    unfold wp_content_j21 at h
    refine lv_aload_n hx hb dX7_content_21 rfl (lv_at hl 0 rfl) ?_
    refine lv_iconst (v := 1) hx hb dX7_content_22 (by decide) ?_
    refine m_cVi (As := [.int 1]) (rest := []) ⟨hx, hb, hml, hown, hts⟩ (met_refused l D cI cB b 1  S _ h) (cwV 1 hts (lw_V q1382 q1384 qs58 q128 q1385) rfl rfl rfl cwd_refused ⟨Nat.le_of_ble_eq_true rfl, Nat.le_of_ble_eq_true rfl⟩) hK hP hS rfl hl.1 rfl (Nat.le_of_ble_eq_true rfl) dX7_content_23 ⟨Nat.zero_le _, Nat.zero_le _⟩ (fun r_1 S_2 H locs h hP hS => ?_)
    exact W.iret (v := r_1) hx hb hr (fun t ht hW => ⟨⟨r_1, S_2, rfl, h, by rw [ht]; exact hP, va_K.moved hW.alike hK⟩, hS.F ht⟩) hS.2.2 dX7_content_26
  have L68 : ∀  (x3 : Int32) (S : St) (H : Heap) (locs : List Loc) (ls : Array Slot), wp_content_l68 p1 p2 post  x3 S → mW D cI cB b S H → va_S (mA b) s.heap H locs → lv_has ls 4 [(0, .ref b), (2, .int p2), (3, .int x3)] → W p l e (headSpec (ws_ yX7_content cX7_content 4 (some .int)) ({ frames := 4, cells := 0, slots := 0, locals := 101 } : Room)).room s m ([.ref b, .int p1, .int p2] : List Value).toArray below meth c H locs 0 0 (MQ below (mQi D cI cB b post) ([.ref b, .int p1, .int p2] : List Value).toArray s 0 0 (mA b)) (F0 m 68 ls []) := by
    intro  x3 S H locs ls h hP hS hl
    obtain ⟨I68, n68, hI, hstep68⟩ := h
    induction n68 using Nat.strongRecOn generalizing x3 S H locs ls with
    | ind n68 ih68 =>
      have h : wp_content_b68 p1 p2 post (fun x3 S => ∃ mm, mm < n68 ∧ I68 mm (x3, S))  x3 S := hstep68 n68 _ hI
      clear hI
      unfold wp_content_b68 at h
      refine lv_iload_n hx hb dX7_content_68 rfl (lv_at hl 2 rfl) ?_
      refine lv_bipush (v := 16) hx hb dX7_content_69 (by decide) ?_
      refine lv_icmp_ge (tgt := 97) hx hb dX7_content_71 (by decide) (fun c_11 => ?_) (fun c_11 => ?_)
      · have h := h.1 c_11
        refine lv_aload_n hx hb dX7_content_97 rfl (lv_at hl 0 rfl) ?_
        refine lv_iload_n hx hb dX7_content_98 rfl (lv_at hl 1 rfl) ?_
        refine m_cVi (As := [.int p2]) (rest := []) ⟨hx, hb, hml, hown, hts⟩ (met_lays l D cI cB b p2  S _ h) (cwV 1 hts (lw_V q1693 q1695 qs101 q128 q1696) rfl rfl rfl cwd_lays ⟨Nat.le_of_ble_eq_true rfl, Nat.le_of_ble_eq_true rfl⟩) hK hP hS rfl hl.1 rfl (Nat.le_of_ble_eq_true rfl) dX7_content_99 ⟨Nat.zero_le _, Nat.zero_le _⟩ (fun r_3 S_4 H locs h hP hS => ?_)
        exact W.iret (v := r_3) hx hb hr (fun t ht hW => ⟨⟨r_3, S_4, rfl, h, by rw [ht]; exact hP, va_K.moved hW.alike hK⟩, hS.F ht⟩) hS.2.2 dX7_content_102
      · have h := h.2 c_11
        refine lv_aload_n hx hb dX7_content_74 rfl (lv_at hl 0 rfl) ?_
        refine m_get (v := .ref (b + 6)) hx hb hts hown hK hP 28 (by decide) q1238 rfl rfl dX7_content_75 ?_
        refine lv_iconst (v := 0) hx hb dX7_content_78 (by decide) ?_
        refine lv_iload_n hx hb dX7_content_79 rfl (lv_at hl 2 rfl) ?_
        refine lv_iconst (v := 0) hx hb dX7_content_80 (by decide) ?_
        refine m_cSp (As := [.int 0, .int x3, .int 0]) (rest := [.ref (b + 6)]) ⟨hx, hb, hml, hown, hts⟩ (met_keyOf l D cI cB b 0 x3 0  S _ h) (va_cwS 3 hts (lw_S q1570 q1571 q128 q1572) rfl rfl rfl cwd_keyOf ⟨Nat.le_of_ble_eq_true rfl, Nat.le_of_ble_eq_true rfl⟩) hK hP hS rfl hl.1 rfl (Nat.le_of_ble_eq_true rfl) dX7_content_81 ⟨Nat.zero_le _, Nat.zero_le _⟩ (fun r_5 H locs h hP hS => ?_)
        refine lv_aload_n hx hb dX7_content_84 rfl (lv_at hl 0 rfl) ?_
        refine m_get (v := .ref (b + 21)) hx hb hts hown hK hP 49 (by decide) q1259 rfl rfl dX7_content_85 ?_
        refine lv_iload_n hx hb dX7_content_88 rfl (lv_at hl 2 rfl) ?_
        obtain ⟨j_7, hj_7, ej_7, h⟩ := h
        refine m_iald hx hb hK hP (k := 21) mok_21 ej_7 hj_7 dX7_content_89 ?_
        obtain ⟨j_8, hj_8, ej_8, h⟩ := h
        obtain ⟨S_9, eS_9⟩ : ∃ z : St, z = bw S 6 j_8 (S 21 j_7) := ⟨_, rfl⟩
        have h := h S_9 eS_9
        refine m_iast hx hb hK hP hS (k := 6) mok_6 ej_8 hj_8 dX7_content_90 (fun H locs hP hS => ?_)
        rw [← eS_9] at hP
        obtain ⟨x3_10, ex3_10⟩ : ∃ y : Int32, y = x3 + 1 := ⟨_, rfl⟩
        have h := h x3_10 ex3_10
        refine lv_iinc (v := x3_10) (lv' := [(3, .int x3_10), (0, .ref b), (2, .int p2)]) hx hb dX7_content_91 hl (k := 2) rfl (by rw [ex3_10]; rfl) (by decide) rfl (fun ls hl => ?_)
        refine lv_goto (tgt := 68) hx hb dX7_content_94 (by decide) ?_
        obtain ⟨mm, hmm, h⟩ := h
        exact ih68 mm hmm _ _ _ _ _ hP hS (lv_sub hl [1, 2, 0] rfl) h
  unfold wp_content at h
  refine lv_aload_n hx hb dX7_content_0 rfl (lv_at hl 0 rfl) ?_
  refine lv_iconst (v := 0) hx hb dX7_content_1 (by decide) ?_
  obtain ⟨S_12, eS_12⟩ : ∃ z : St, z = bw S 0 0 0 := ⟨_, rfl⟩
  have h := h S_12 eS_12
  refine m_put (S1 := S_12) (v := .int 0) (ty := .int) hx hb hts hown hK hP hS 0 (by decide) q1210 rfl rfl (tyX7_ok 0 (by decide)) rfl rfl (by rw [eS_12]; exact mset_0 b S 0) (by rw [eS_12]; exact bw_0) dX7_content_2 (fun H locs hP hS => ?_)
  refine lv_aload_n hx hb dX7_content_5 rfl (lv_at hl 0 rfl) ?_
  refine lv_iload_n hx hb dX7_content_6 rfl (lv_at hl 1 rfl) ?_
  refine m_cVp (As := [.int p1]) (rest := []) ⟨hx, hb, hml, hown, hts⟩ (met_isReg l D cI cB b p1  S_12 _ h) (cwV 1 hts (lw_V q1534 q1536 qs81 q128 q1537) rfl rfl rfl cwd_isReg ⟨Nat.le_of_ble_eq_true rfl, Nat.le_of_ble_eq_true rfl⟩) hK hP hS rfl hl.1 rfl (Nat.le_of_ble_eq_true rfl) dX7_content_7 ⟨Nat.zero_le _, Nat.zero_le _⟩ (fun r_13 H locs h hP hS => ?_)
  refine lv_if_eq (tgt := 21) hx hb dX7_content_10 (by decide) (fun c_29 => ?_) (fun c_29 => ?_)
  · have h := h.1 c_29
    exact J21  _ _ _ _ h hP hS (lv_sub hl [0] rfl)
  · have h := h.2 c_29
    refine lv_aload_n hx hb dX7_content_13 rfl (lv_at hl 0 rfl) ?_
    refine lv_iload_n hx hb dX7_content_14 rfl (lv_at hl 2 rfl) ?_
    refine m_cVp (As := [.int p2]) (rest := []) ⟨hx, hb, hml, hown, hts⟩ (met_isReg l D cI cB b p2  S_12 _ h) (cwV 1 hts (lw_V q1534 q1536 qs81 q128 q1537) rfl rfl rfl cwd_isReg ⟨Nat.le_of_ble_eq_true rfl, Nat.le_of_ble_eq_true rfl⟩) hK hP hS rfl hl.1 rfl (Nat.le_of_ble_eq_true rfl) dX7_content_15 ⟨Nat.zero_le _, Nat.zero_le _⟩ (fun r_15 H locs h hP hS => ?_)
    refine lv_if_ne (tgt := 27) hx hb dX7_content_18 (by decide) (fun c_28 => ?_) (fun c_28 => ?_)
    · have h := h.1 c_28
      refine lv_aload_n hx hb dX7_content_27 rfl (lv_at hl 0 rfl) ?_
      refine lv_iload_n hx hb dX7_content_28 rfl (lv_at hl 1 rfl) ?_
      refine m_cVp (As := [.int p1]) (rest := []) ⟨hx, hb, hml, hown, hts⟩ (met_hasThird l D cI cB b p1  S_12 _ h) (cwV 1 hts (lw_V q1745 q1747 qs103 q128 q1748) rfl rfl rfl cwd_hasThird ⟨Nat.le_of_ble_eq_true rfl, Nat.le_of_ble_eq_true rfl⟩) hK hP hS rfl hl.1 rfl (Nat.le_of_ble_eq_true rfl) dX7_content_29 ⟨Nat.zero_le _, Nat.zero_le _⟩ (fun r_17 H locs h hP hS => ?_)
      refine lv_if_eq (tgt := 41) hx hb dX7_content_32 (by decide) (fun c_27 => ?_) (fun c_27 => ?_)
      · have h := h.1 c_27
        refine lv_aload_n hx hb dX7_content_41 rfl (lv_at hl 0 rfl) ?_
        refine lv_iload_n hx hb dX7_content_42 rfl (lv_at hl 1 rfl) ?_
        refine lv_aload_n hx hb dX7_content_43 rfl (lv_at hl 0 rfl) ?_
        refine m_get (v := .ref (b + 18)) hx hb hts hown hK hP 46 (by decide) q1256 rfl rfl dX7_content_44 ?_
        refine m_cVv (As := [.int p1, .ref (b + 18)]) (rest := []) ⟨hx, hb, hml, hown, hts⟩ (met_laysRows l D cI cB b p1 18 mok_18 S_12 _ h) (cwV 2 hts (lw_V q1749 q1751 qs104 q128 q1752) rfl rfl rfl cwd_laysRows ⟨Nat.le_of_ble_eq_true rfl, Nat.le_of_ble_eq_true rfl⟩) hK hP hS rfl hl.1 rfl (Nat.le_of_ble_eq_true rfl) dX7_content_47 ⟨Nat.zero_le _, Nat.zero_le _⟩ (fun S_20 H locs h hP hS => ?_)
        refine lv_aload_n hx hb dX7_content_50 rfl (lv_at hl 0 rfl) ?_
        refine lv_aload_n hx hb dX7_content_51 rfl (lv_at hl 0 rfl) ?_
        refine m_get (v := .ref (b + 18)) hx hb hts hown hK hP 46 (by decide) q1256 rfl rfl dX7_content_52 ?_
        refine lv_aload_n hx hb dX7_content_55 rfl (lv_at hl 0 rfl) ?_
        refine m_get (v := .ref (b + 21)) hx hb hts hown hK hP 49 (by decide) q1259 rfl rfl dX7_content_56 ?_
        refine m_cVv (As := [.ref (b + 18), .ref (b + 21)]) (rest := []) ⟨hx, hb, hml, hown, hts⟩ (met_contentOf l D cI cB b 18 21 mok_18 mok_21 S_20 _ h) (cwV 2 hts (lw_V q1763 q1765 qs106 q128 q1766) rfl rfl rfl cwd_contentOf ⟨Nat.le_of_ble_eq_true rfl, Nat.le_of_ble_eq_true rfl⟩) hK hP hS rfl hl.1 rfl (Nat.le_of_ble_eq_true rfl) dX7_content_59 ⟨Nat.zero_le _, Nat.zero_le _⟩ (fun S_22 H locs h hP hS => ?_)
        refine lv_aload_n hx hb dX7_content_62 rfl (lv_at hl 0 rfl) ?_
        refine m_cVv (As := []) (rest := []) ⟨hx, hb, hml, hown, hts⟩ (met_clears l D cI cB b   S_22 _ h) (cwV 0 hts (lw_V q1673 q1675 qs97 q128 q1676) rfl rfl rfl cwd_clears ⟨Nat.le_of_ble_eq_true rfl, Nat.le_of_ble_eq_true rfl⟩) hK hP hS rfl hl.1 rfl (Nat.le_of_ble_eq_true rfl) dX7_content_63 ⟨Nat.zero_le _, Nat.zero_le _⟩ (fun S_24 H locs h hP hS => ?_)
        refine lv_iconst (v := 0) hx hb dX7_content_66 (by decide) ?_
        refine lv_istore_n (lv' := [(3, .int 0), (0, .ref b), (1, .int p1), (2, .int p2)]) hx hb dX7_content_67 rfl hl (by decide) rfl (fun ls hl => ?_)
        exact L68 _ _ _ _ _ h hP hS (lv_sub hl [1, 3, 0] rfl)
      · have h := h.2 c_27
        refine lv_aload_n hx hb dX7_content_35 rfl (lv_at hl 0 rfl) ?_
        refine lv_iconst (v := 5) hx hb dX7_content_36 (by decide) ?_
        refine m_cVi (As := [.int 5]) (rest := []) ⟨hx, hb, hml, hown, hts⟩ (met_refused l D cI cB b 5  S_12 _ h) (cwV 1 hts (lw_V q1382 q1384 qs58 q128 q1385) rfl rfl rfl cwd_refused ⟨Nat.le_of_ble_eq_true rfl, Nat.le_of_ble_eq_true rfl⟩) hK hP hS rfl hl.1 rfl (Nat.le_of_ble_eq_true rfl) dX7_content_37 ⟨Nat.zero_le _, Nat.zero_le _⟩ (fun r_25 S_26 H locs h hP hS => ?_)
        exact W.iret (v := r_25) hx hb hr (fun t ht hW => ⟨⟨r_25, S_26, rfl, h, by rw [ht]; exact hP, va_K.moved hW.alike hK⟩, hS.F ht⟩) hS.2.2 dX7_content_40
    · have h := h.2 c_28
      exact J21  _ _ _ _ h hP hS (lv_sub hl [0] rfl)
def wp_primitive_j21 (p1 : Int32) (p2 : Int32) (post : Int32 → St → Prop)  (S : St) : Prop :=
    wp_refused 1 S (fun r_1 S_2 =>
    post r_1 S_2)
def wp_primitive (p1 : Int32) (p2 : Int32) (S : St) (post : Int32 → St → Prop) : Prop :=
  ∀ S_3 : St, S_3 = bw S 0 0 0 →
  wp_isReg p1 S_3 (fun r_4 =>
  ((r_4 = 0 →
    wp_primitive_j21 p1 p2 post  S_3) ∧
   (¬ (r_4 = 0) →
    wp_isReg p2 S_3 (fun r_6 =>
    ((¬ r_6 = 0 →
      wp_hasThird p1 S_3 (fun r_8 =>
      ((r_8 = 0 →
        wp_laysRows p1 18 S_3 (fun S_11 =>
        wp_primitives 18 S_11 (fun S_13 =>
        wp_laysWork 18 S_13 (fun S_15 =>
        wp_lays p2 S_15 (fun r_16 S_17 =>
        post r_16 S_17))))) ∧
       (¬ (r_8 = 0) →
        wp_refused 5 S_3 (fun r_18 S_19 =>
        post r_18 S_19))))) ∧
     (r_6 = 0 →
      wp_primitive_j21 p1 p2 post  S_3))))))
set_option maxHeartbeats 4000000 in
theorem met_primitive (l : Launch) (D : va_G) (cI cB : ClassId) (b : Nat) (p1 : Int32) (p2 : Int32)  (S : St) (post : Int32 → St → Prop) (h : wp_primitive p1 p2 S post) : Met l yX7_primitive (ws_ yX7_primitive cX7_primitive 3 (some .int)) ({ frames := 5, cells := 0, slots := 0, locals := 124 } : Room) (mPc D cI cB b [.ref b, .int p1, .int p2] S) (mQi D cI cB b post) 0 0 (mA b) := by
  refine Met.ofW (cc := cX7_primitive) (maxL := 3) (ret := (some .int)) (by decide) rfl ?_
  intro p e s m args below meth c s₁ B hml hv
  obtain ⟨rfl, hP, hK⟩ := hv
  have hx := B.exec
  have hb := B.bytes
  have hr := B.returns
  have hts := atoms_spec (ws := ws_ yX7_primitive cX7_primitive 3 (some .int)) B.pre
  have hts : ∀ w ∈ lw_all, w.before _ s = true := fun w h => hts w (List.mem_cons_of_mem _ h)
  have hown : s.vm.findClass RX7 = some m.cls := findClass_of_methodNamed B.named
  have hlocks := B.notSynchronized
  have hS : va_S (mA b) s.heap s.heap [] := va_S.rf
  have hl := lv_entry ([.ref b, .int p1, .int p2]) (n := 3) (Nat.le_of_ble_eq_true rfl)
  rw [lg_entry_eq]
  generalize (lg_sl ([.ref b, .int p1, .int p2]) ++ List.replicate (3 - (lg_sl ([.ref b, .int p1, .int p2])).length) Slot.unset).toArray = ls at hl ⊢
  have hl : lv_has ls 3 [(0, .ref b), (1, .int p1), (2, .int p2)] := hl
  have J21 : ∀  (S : St) (H : Heap) (locs : List Loc) (ls : Array Slot), wp_primitive_j21 p1 p2 post  S → mW D cI cB b S H → va_S (mA b) s.heap H locs → lv_has ls 3 [(0, .ref b)] → W p l e (headSpec (ws_ yX7_primitive cX7_primitive 3 (some .int)) ({ frames := 5, cells := 0, slots := 0, locals := 124 } : Room)).room s m ([.ref b, .int p1, .int p2] : List Value).toArray below meth c H locs 0 0 (MQ below (mQi D cI cB b post) ([.ref b, .int p1, .int p2] : List Value).toArray s 0 0 (mA b)) (F0 m 21 ls []) := by
    intro  S H locs ls h hP hS hl
    unfold wp_primitive_j21 at h
    refine lv_aload_n hx hb dX7_primitive_21 rfl (lv_at hl 0 rfl) ?_
    refine lv_iconst (v := 1) hx hb dX7_primitive_22 (by decide) ?_
    refine m_cVi (As := [.int 1]) (rest := []) ⟨hx, hb, hml, hown, hts⟩ (met_refused l D cI cB b 1  S _ h) (cwV 1 hts (lw_V q1382 q1384 qs58 q128 q1385) rfl rfl rfl cwd_refused ⟨Nat.le_of_ble_eq_true rfl, Nat.le_of_ble_eq_true rfl⟩) hK hP hS rfl hl.1 rfl (Nat.le_of_ble_eq_true rfl) dX7_primitive_23 ⟨Nat.zero_le _, Nat.zero_le _⟩ (fun r_1 S_2 H locs h hP hS => ?_)
    exact W.iret (v := r_1) hx hb hr (fun t ht hW => ⟨⟨r_1, S_2, rfl, h, by rw [ht]; exact hP, va_K.moved hW.alike hK⟩, hS.F ht⟩) hS.2.2 dX7_primitive_26
  unfold wp_primitive at h
  refine lv_aload_n hx hb dX7_primitive_0 rfl (lv_at hl 0 rfl) ?_
  refine lv_iconst (v := 0) hx hb dX7_primitive_1 (by decide) ?_
  obtain ⟨S_3, eS_3⟩ : ∃ z : St, z = bw S 0 0 0 := ⟨_, rfl⟩
  have h := h S_3 eS_3
  refine m_put (S1 := S_3) (v := .int 0) (ty := .int) hx hb hts hown hK hP hS 0 (by decide) q1210 rfl rfl (tyX7_ok 0 (by decide)) rfl rfl (by rw [eS_3]; exact mset_0 b S 0) (by rw [eS_3]; exact bw_0) dX7_primitive_2 (fun H locs hP hS => ?_)
  refine lv_aload_n hx hb dX7_primitive_5 rfl (lv_at hl 0 rfl) ?_
  refine lv_iload_n hx hb dX7_primitive_6 rfl (lv_at hl 1 rfl) ?_
  refine m_cVp (As := [.int p1]) (rest := []) ⟨hx, hb, hml, hown, hts⟩ (met_isReg l D cI cB b p1  S_3 _ h) (cwV 1 hts (lw_V q1534 q1536 qs81 q128 q1537) rfl rfl rfl cwd_isReg ⟨Nat.le_of_ble_eq_true rfl, Nat.le_of_ble_eq_true rfl⟩) hK hP hS rfl hl.1 rfl (Nat.le_of_ble_eq_true rfl) dX7_primitive_7 ⟨Nat.zero_le _, Nat.zero_le _⟩ (fun r_4 H locs h hP hS => ?_)
  refine lv_if_eq (tgt := 21) hx hb dX7_primitive_10 (by decide) (fun c_22 => ?_) (fun c_22 => ?_)
  · have h := h.1 c_22
    exact J21  _ _ _ _ h hP hS (lv_sub hl [0] rfl)
  · have h := h.2 c_22
    refine lv_aload_n hx hb dX7_primitive_13 rfl (lv_at hl 0 rfl) ?_
    refine lv_iload_n hx hb dX7_primitive_14 rfl (lv_at hl 2 rfl) ?_
    refine m_cVp (As := [.int p2]) (rest := []) ⟨hx, hb, hml, hown, hts⟩ (met_isReg l D cI cB b p2  S_3 _ h) (cwV 1 hts (lw_V q1534 q1536 qs81 q128 q1537) rfl rfl rfl cwd_isReg ⟨Nat.le_of_ble_eq_true rfl, Nat.le_of_ble_eq_true rfl⟩) hK hP hS rfl hl.1 rfl (Nat.le_of_ble_eq_true rfl) dX7_primitive_15 ⟨Nat.zero_le _, Nat.zero_le _⟩ (fun r_6 H locs h hP hS => ?_)
    refine lv_if_ne (tgt := 27) hx hb dX7_primitive_18 (by decide) (fun c_21 => ?_) (fun c_21 => ?_)
    · have h := h.1 c_21
      refine lv_aload_n hx hb dX7_primitive_27 rfl (lv_at hl 0 rfl) ?_
      refine lv_iload_n hx hb dX7_primitive_28 rfl (lv_at hl 1 rfl) ?_
      refine m_cVp (As := [.int p1]) (rest := []) ⟨hx, hb, hml, hown, hts⟩ (met_hasThird l D cI cB b p1  S_3 _ h) (cwV 1 hts (lw_V q1745 q1747 qs103 q128 q1748) rfl rfl rfl cwd_hasThird ⟨Nat.le_of_ble_eq_true rfl, Nat.le_of_ble_eq_true rfl⟩) hK hP hS rfl hl.1 rfl (Nat.le_of_ble_eq_true rfl) dX7_primitive_29 ⟨Nat.zero_le _, Nat.zero_le _⟩ (fun r_8 H locs h hP hS => ?_)
      refine lv_if_eq (tgt := 41) hx hb dX7_primitive_32 (by decide) (fun c_20 => ?_) (fun c_20 => ?_)
      · have h := h.1 c_20
        refine lv_aload_n hx hb dX7_primitive_41 rfl (lv_at hl 0 rfl) ?_
        refine lv_iload_n hx hb dX7_primitive_42 rfl (lv_at hl 1 rfl) ?_
        refine lv_aload_n hx hb dX7_primitive_43 rfl (lv_at hl 0 rfl) ?_
        refine m_get (v := .ref (b + 18)) hx hb hts hown hK hP 46 (by decide) q1256 rfl rfl dX7_primitive_44 ?_
        refine m_cVv (As := [.int p1, .ref (b + 18)]) (rest := []) ⟨hx, hb, hml, hown, hts⟩ (met_laysRows l D cI cB b p1 18 mok_18 S_3 _ h) (cwV 2 hts (lw_V q1749 q1751 qs104 q128 q1752) rfl rfl rfl cwd_laysRows ⟨Nat.le_of_ble_eq_true rfl, Nat.le_of_ble_eq_true rfl⟩) hK hP hS rfl hl.1 rfl (Nat.le_of_ble_eq_true rfl) dX7_primitive_47 ⟨Nat.zero_le _, Nat.zero_le _⟩ (fun S_11 H locs h hP hS => ?_)
        refine lv_aload_n hx hb dX7_primitive_50 rfl (lv_at hl 0 rfl) ?_
        refine lv_aload_n hx hb dX7_primitive_51 rfl (lv_at hl 0 rfl) ?_
        refine m_get (v := .ref (b + 18)) hx hb hts hown hK hP 46 (by decide) q1256 rfl rfl dX7_primitive_52 ?_
        refine m_cVv (As := [.ref (b + 18)]) (rest := []) ⟨hx, hb, hml, hown, hts⟩ (met_primitives l D cI cB b 18 mok_18 S_11 _ h) (cwV 1 hts (lw_V q1782 q1784 qs110 q128 q1785) rfl rfl rfl cwd_primitives ⟨Nat.le_of_ble_eq_true rfl, Nat.le_of_ble_eq_true rfl⟩) hK hP hS rfl hl.1 rfl (Nat.le_of_ble_eq_true rfl) dX7_primitive_55 ⟨Nat.zero_le _, Nat.zero_le _⟩ (fun S_13 H locs h hP hS => ?_)
        refine lv_aload_n hx hb dX7_primitive_58 rfl (lv_at hl 0 rfl) ?_
        refine lv_aload_n hx hb dX7_primitive_59 rfl (lv_at hl 0 rfl) ?_
        refine m_get (v := .ref (b + 18)) hx hb hts hown hK hP 46 (by decide) q1256 rfl rfl dX7_primitive_60 ?_
        refine m_cVv (As := [.ref (b + 18)]) (rest := []) ⟨hx, hb, hml, hown, hts⟩ (met_laysWork l D cI cB b 18 mok_18 S_13 _ h) (cwV 1 hts (lw_V q1794 q1796 qs113 q128 q1797) rfl rfl rfl cwd_laysWork ⟨Nat.le_of_ble_eq_true rfl, Nat.le_of_ble_eq_true rfl⟩) hK hP hS rfl hl.1 rfl (Nat.le_of_ble_eq_true rfl) dX7_primitive_63 ⟨Nat.zero_le _, Nat.zero_le _⟩ (fun S_15 H locs h hP hS => ?_)
        refine lv_aload_n hx hb dX7_primitive_66 rfl (lv_at hl 0 rfl) ?_
        refine lv_iload_n hx hb dX7_primitive_67 rfl (lv_at hl 2 rfl) ?_
        refine m_cVi (As := [.int p2]) (rest := []) ⟨hx, hb, hml, hown, hts⟩ (met_lays l D cI cB b p2  S_15 _ h) (cwV 1 hts (lw_V q1693 q1695 qs101 q128 q1696) rfl rfl rfl cwd_lays ⟨Nat.le_of_ble_eq_true rfl, Nat.le_of_ble_eq_true rfl⟩) hK hP hS rfl hl.1 rfl (Nat.le_of_ble_eq_true rfl) dX7_primitive_68 ⟨Nat.zero_le _, Nat.zero_le _⟩ (fun r_16 S_17 H locs h hP hS => ?_)
        exact W.iret (v := r_16) hx hb hr (fun t ht hW => ⟨⟨r_16, S_17, rfl, h, by rw [ht]; exact hP, va_K.moved hW.alike hK⟩, hS.F ht⟩) hS.2.2 dX7_primitive_71
      · have h := h.2 c_20
        refine lv_aload_n hx hb dX7_primitive_35 rfl (lv_at hl 0 rfl) ?_
        refine lv_iconst (v := 5) hx hb dX7_primitive_36 (by decide) ?_
        refine m_cVi (As := [.int 5]) (rest := []) ⟨hx, hb, hml, hown, hts⟩ (met_refused l D cI cB b 5  S_3 _ h) (cwV 1 hts (lw_V q1382 q1384 qs58 q128 q1385) rfl rfl rfl cwd_refused ⟨Nat.le_of_ble_eq_true rfl, Nat.le_of_ble_eq_true rfl⟩) hK hP hS rfl hl.1 rfl (Nat.le_of_ble_eq_true rfl) dX7_primitive_37 ⟨Nat.zero_le _, Nat.zero_le _⟩ (fun r_18 S_19 H locs h hP hS => ?_)
        exact W.iret (v := r_18) hx hb hr (fun t ht hW => ⟨⟨r_18, S_19, rfl, h, by rw [ht]; exact hP, va_K.moved hW.alike hK⟩, hS.F ht⟩) hS.2.2 dX7_primitive_40
    · have h := h.2 c_21
      exact J21  _ _ _ _ h hP hS (lv_sub hl [0] rfl)
def wp_freeRegister_j26 (p1 : Int32) (post : Int32 → Prop) (R2 : Int32 → Prop) (x2 : Int32) (S : St) : Prop :=
        ∀ x2_1 : Int32, x2_1 = x2 + 1 →
        R2 x2_1
def wp_freeRegister_b2 (p1 : Int32) (post : Int32 → Prop) (R2 : Int32 → Prop)  (x2 : Int32) (S : St) : Prop :=
      ((8 ≤ x2 →
        post (-1)) ∧
       (¬ (8 ≤ x2) →
        ((¬ ((jshr p1 x2) &&& 1) = 0 →
          wp_freeRegister_j26 p1 post R2 x2 S) ∧
         (((jshr p1 x2) &&& 1) = 0 →
          wp_isZero x2 S (fun r_2 =>
          ((r_2 = 0 →
            wp_freeRegister_j26 p1 post R2 x2 S) ∧
           (¬ (r_2 = 0) →
            post x2)))))))
def wp_freeRegister_l2 (p1 : Int32) (post : Int32 → Prop)  (x2 : Int32) (S : St) : Prop := wLoop (fun (R : Int32 → Prop) (v : Int32) => wp_freeRegister_b2 p1 post (fun x2 => R x2)  v S) x2
def wp_freeRegister (p1 : Int32) (S : St) (post : Int32 → Prop) : Prop :=
  wp_freeRegister_l2 p1 post 0 S
set_option maxHeartbeats 4000000 in
theorem met_freeRegister (l : Launch) (D : va_G) (cI cB : ClassId) (b : Nat) (p1 : Int32)  (S : St) (post : Int32 → Prop) (h : wp_freeRegister p1 S post) : Met l yX7_freeRegister (ws_ yX7_freeRegister cX7_freeRegister 3 (some .int)) ({ frames := 3, cells := 0, slots := 0, locals := 66 } : Room) (mPc D cI cB b [.ref b, .int p1] S) (mQp D cI cB b S post) 0 0 (mA b) := by
  refine Met.ofW (cc := cX7_freeRegister) (maxL := 3) (ret := (some .int)) (by decide) rfl ?_
  intro p e s m args below meth c s₁ B hml hv
  obtain ⟨rfl, hP, hK⟩ := hv
  have hx := B.exec
  have hb := B.bytes
  have hr := B.returns
  have hts := atoms_spec (ws := ws_ yX7_freeRegister cX7_freeRegister 3 (some .int)) B.pre
  have hts : ∀ w ∈ lw_all, w.before _ s = true := fun w h => hts w (List.mem_cons_of_mem _ h)
  have hown : s.vm.findClass RX7 = some m.cls := findClass_of_methodNamed B.named
  have hlocks := B.notSynchronized
  have hS : va_S (mA b) s.heap s.heap [] := va_S.rf
  have hl := lv_entry ([.ref b, .int p1]) (n := 3) (Nat.le_of_ble_eq_true rfl)
  rw [lg_entry_eq]
  generalize (lg_sl ([.ref b, .int p1]) ++ List.replicate (3 - (lg_sl ([.ref b, .int p1])).length) Slot.unset).toArray = ls at hl ⊢
  have hl : lv_has ls 3 [(0, .ref b), (1, .int p1)] := hl
  have L2 : ∀  (x2 : Int32) (H : Heap) (locs : List Loc) (ls : Array Slot), wp_freeRegister_l2 p1 post  x2 S → mW D cI cB b S H → va_S (mA b) s.heap H locs → lv_has ls 3 [(0, .ref b), (1, .int p1), (2, .int x2)] → W p l e (headSpec (ws_ yX7_freeRegister cX7_freeRegister 3 (some .int)) ({ frames := 3, cells := 0, slots := 0, locals := 66 } : Room)).room s m ([.ref b, .int p1] : List Value).toArray below meth c H locs 0 0 (MQ below (mQp D cI cB b S post) ([.ref b, .int p1] : List Value).toArray s 0 0 (mA b)) (F0 m 2 ls []) := by
    intro  x2  H locs ls h hP hS hl
    obtain ⟨I2, n2, hI, hstep2⟩ := h
    induction n2 using Nat.strongRecOn generalizing x2 H locs ls with
    | ind n2 ih2 =>
      have h : wp_freeRegister_b2 p1 post (fun x2 => ∃ mm, mm < n2 ∧ I2 mm x2)  x2 S := hstep2 n2 _ hI
      clear hI
      have J26 : ∀ (x2 : Int32) (H : Heap) (locs : List Loc) (ls : Array Slot), wp_freeRegister_j26 p1 post (fun x2 => ∃ mm, mm < n2 ∧ I2 mm x2) x2 S → mW D cI cB b S H → va_S (mA b) s.heap H locs → lv_has ls 3 [(0, .ref b), (1, .int p1), (2, .int x2)] → W p l e (headSpec (ws_ yX7_freeRegister cX7_freeRegister 3 (some .int)) ({ frames := 3, cells := 0, slots := 0, locals := 66 } : Room)).room s m ([.ref b, .int p1] : List Value).toArray below meth c H locs 0 0 (MQ below (mQp D cI cB b S post) ([.ref b, .int p1] : List Value).toArray s 0 0 (mA b)) (F0 m 26 ls []) := by
        intro x2  H locs ls h hP hS hl
        unfold wp_freeRegister_j26 at h
        obtain ⟨x2_1, ex2_1⟩ : ∃ y : Int32, y = x2 + 1 := ⟨_, rfl⟩
        have h := h x2_1 ex2_1
        refine lv_iinc (v := x2_1) (lv' := [(2, .int x2_1), (0, .ref b), (1, .int p1)]) hx hb dX7_freeRegister_26 hl (k := 2) rfl (by rw [ex2_1]; rfl) (by decide) rfl (fun ls hl => ?_)
        refine lv_goto (tgt := 2) hx hb dX7_freeRegister_29 (by decide) ?_
        obtain ⟨mm, hmm, h⟩ := h
        exact ih2 mm hmm _ _ _ _ hP hS (lv_sub hl [1, 2, 0] rfl) h
      unfold wp_freeRegister_b2 at h
      refine lv_iload_n hx hb dX7_freeRegister_2 rfl (lv_at hl 2 rfl) ?_
      refine lv_bipush (v := 8) hx hb dX7_freeRegister_3 (by decide) ?_
      refine lv_icmp_ge (tgt := 32) hx hb dX7_freeRegister_5 (by decide) (fun c_6 => ?_) (fun c_6 => ?_)
      · have h := h.1 c_6
        refine lv_iconst (v := (-1)) hx hb dX7_freeRegister_32 (by decide) ?_
        exact W.iret (v := (-1)) hx hb hr (fun t ht hW => ⟨⟨(-1), (), rfl, h, by rw [ht]; exact hP, va_K.moved hW.alike hK⟩, hS.F ht⟩) hS.2.2 dX7_freeRegister_33
      · have h := h.2 c_6
        refine lv_iload_n hx hb dX7_freeRegister_8 rfl (lv_at hl 1 rfl) ?_
        refine lv_iload_n hx hb dX7_freeRegister_9 rfl (lv_at hl 2 rfl) ?_
        refine m_ishr hx hb dX7_freeRegister_10 ?_
        refine lv_iconst (v := 1) hx hb dX7_freeRegister_11 (by decide) ?_
        refine lv_iand hx hb dX7_freeRegister_12 ?_
        refine lv_if_ne (tgt := 26) hx hb dX7_freeRegister_13 (by decide) (fun c_5 => ?_) (fun c_5 => ?_)
        · have h := h.1 c_5
          exact J26 _  _ _ _ h hP hS (lv_sub hl [0, 1, 2] rfl)
        · have h := h.2 c_5
          refine lv_aload_n hx hb dX7_freeRegister_16 rfl (lv_at hl 0 rfl) ?_
          refine lv_iload_n hx hb dX7_freeRegister_17 rfl (lv_at hl 2 rfl) ?_
          refine m_cVp (As := [.int x2]) (rest := []) ⟨hx, hb, hml, hown, hts⟩ (met_isZero l D cI cB b x2  S _ h) (cwV 1 hts (lw_V q1518 q1520 qs78 q128 q1521) rfl rfl rfl cwd_isZero ⟨Nat.le_of_ble_eq_true rfl, Nat.le_of_ble_eq_true rfl⟩) hK hP hS rfl hl.1 rfl (Nat.le_of_ble_eq_true rfl) dX7_freeRegister_18 ⟨Nat.zero_le _, Nat.zero_le _⟩ (fun r_2 H locs h hP hS => ?_)
          refine lv_if_eq (tgt := 26) hx hb dX7_freeRegister_21 (by decide) (fun c_4 => ?_) (fun c_4 => ?_)
          · have h := h.1 c_4
            exact J26 _  _ _ _ h hP hS (lv_sub hl [0, 1, 2] rfl)
          · have h := h.2 c_4
            refine lv_iload_n hx hb dX7_freeRegister_24 rfl (lv_at hl 2 rfl) ?_
            exact W.iret (v := x2) hx hb hr (fun t ht hW => ⟨⟨x2, (), rfl, h, by rw [ht]; exact hP, va_K.moved hW.alike hK⟩, hS.F ht⟩) hS.2.2 dX7_freeRegister_25
  unfold wp_freeRegister at h
  refine lv_iconst (v := 0) hx hb dX7_freeRegister_0 (by decide) ?_
  refine lv_istore_n (lv' := [(2, .int 0), (0, .ref b), (1, .int p1)]) hx hb dX7_freeRegister_1 rfl hl (by decide) rfl (fun ls hl => ?_)
  exact L2 _  _ _ _ h hP hS (lv_sub hl [1, 2, 0] rfl)
def wp_complete_b88 (p1 : Int32) (post : Int32 → St → Prop) (R88 : Int32 → St → Prop) (x3 : Int32) (x5 : Int32) (S : St) : Prop :=
      ((4096 ≤ x5 →
        ∀ S_1 : St, S_1 = bw S 0 29 1 →
        wp_lays x3 S_1 (fun r_2 S_3 =>
        wp_good x3 S_3 (fun r_4 S_5 =>
        post r_4 S_5))) ∧
       (¬ (4096 ≤ x5) →
        ∃ j_6 : Nat, j_6 < 4096 ∧ x5 = nI j_6 ∧
        ∃ j_7 : Nat, j_7 < 4096 ∧ x5 = nI j_7 ∧ ∀ S_8 : St, S_8 = bw S 6 j_7 (S 8 j_6) →
        ∀ x5_9 : Int32, x5_9 = x5 + 1 →
        R88 x5_9 S_8))
def wp_complete_l88 (p1 : Int32) (post : Int32 → St → Prop) (x3 : Int32) (x5 : Int32) (S : St) : Prop := wLoop (fun (R : (Int32 × St) → Prop) (v : Int32 × St) => wp_complete_b88 p1 post (fun x5 S => R (x5, S)) x3 v.1 v.2) (x5, S)
def wp_complete (p1 : Int32) (S : St) (post : Int32 → St → Prop) : Prop :=
  ∀ S_11 : St, S_11 = bw S 0 0 0 →
  ((¬ (S_11 0 14) = 0 →
    wp_refusesSet p1 S_11 (fun r_12 =>
    ((r_12 ≤ 0 →
      wp_freeRegister p1 S_11 (fun r_14 =>
      ((¬ r_14 = (-1) →
        wp_firstMissing p1 0 S_11 (fun r_16 S_17 =>
        ((¬ r_16 = (-3) →
          ((¬ r_16 = (-1) →
            wp_complete_l88 p1 post r_14 0 S_17) ∧
           (r_16 = (-1) →
            wp_good (-2) S_17 (fun r_18 S_19 =>
            post r_18 S_19)))) ∧
         (r_16 = (-3) →
          wp_refused 3 S_17 (fun r_21 S_22 =>
          post r_21 S_22))))) ∧
       (r_14 = (-1) →
        wp_refused 5 S_11 (fun r_24 S_25 =>
        post r_24 S_25))))) ∧
     (¬ (r_12 ≤ 0) →
      wp_refused r_12 S_11 (fun r_27 S_28 =>
      post r_27 S_28))))) ∧
   ((S_11 0 14) = 0 →
    wp_refused 1 S_11 (fun r_30 S_31 =>
    post r_30 S_31)))
set_option maxHeartbeats 4000000 in
theorem met_complete (l : Launch) (D : va_G) (cI cB : ClassId) (b : Nat) (p1 : Int32)  (S : St) (post : Int32 → St → Prop) (h : wp_complete p1 S post) : Met l yX7_complete (ws_ yX7_complete cX7_complete 6 (some .int)) ({ frames := 5, cells := 0, slots := 0, locals := 122 } : Room) (mPc D cI cB b [.ref b, .int p1] S) (mQi D cI cB b post) 0 0 (mA b) := by
  refine Met.ofW (cc := cX7_complete) (maxL := 6) (ret := (some .int)) (by decide) rfl ?_
  intro p e s m args below meth c s₁ B hml hv
  obtain ⟨rfl, hP, hK⟩ := hv
  have hx := B.exec
  have hb := B.bytes
  have hr := B.returns
  have hts := atoms_spec (ws := ws_ yX7_complete cX7_complete 6 (some .int)) B.pre
  have hts : ∀ w ∈ lw_all, w.before _ s = true := fun w h => hts w (List.mem_cons_of_mem _ h)
  have hown : s.vm.findClass RX7 = some m.cls := findClass_of_methodNamed B.named
  have hlocks := B.notSynchronized
  have hS : va_S (mA b) s.heap s.heap [] := va_S.rf
  have hl := lv_entry ([.ref b, .int p1]) (n := 6) (Nat.le_of_ble_eq_true rfl)
  rw [lg_entry_eq]
  generalize (lg_sl ([.ref b, .int p1]) ++ List.replicate (6 - (lg_sl ([.ref b, .int p1])).length) Slot.unset).toArray = ls at hl ⊢
  have hl : lv_has ls 6 [(0, .ref b), (1, .int p1)] := hl
  have L88 : ∀ (x3 : Int32) (x5 : Int32) (S : St) (H : Heap) (locs : List Loc) (ls : Array Slot), wp_complete_l88 p1 post x3 x5 S → mW D cI cB b S H → va_S (mA b) s.heap H locs → lv_has ls 6 [(0, .ref b), (3, .int x3), (5, .int x5)] → W p l e (headSpec (ws_ yX7_complete cX7_complete 6 (some .int)) ({ frames := 5, cells := 0, slots := 0, locals := 122 } : Room)).room s m ([.ref b, .int p1] : List Value).toArray below meth c H locs 0 0 (MQ below (mQi D cI cB b post) ([.ref b, .int p1] : List Value).toArray s 0 0 (mA b)) (F0 m 88 ls []) := by
    intro x3 x5 S H locs ls h hP hS hl
    obtain ⟨I88, n88, hI, hstep88⟩ := h
    induction n88 using Nat.strongRecOn generalizing x5 S H locs ls with
    | ind n88 ih88 =>
      have h : wp_complete_b88 p1 post (fun x5 S => ∃ mm, mm < n88 ∧ I88 mm (x5, S)) x3 x5 S := hstep88 n88 _ hI
      clear hI
      unfold wp_complete_b88 at h
      refine lv_iload hx hb dX7_complete_88 (lv_at hl 2 rfl) ?_
      refine lv_sipush (v := 4096) hx hb dX7_complete_90 (by decide) ?_
      refine lv_icmp_ge (tgt := 116) hx hb dX7_complete_93 (by decide) (fun c_10 => ?_) (fun c_10 => ?_)
      · have h := h.1 c_10
        refine lv_aload_n hx hb dX7_complete_116 rfl (lv_at hl 0 rfl) ?_
        refine lv_iconst (v := 1) hx hb dX7_complete_117 (by decide) ?_
        obtain ⟨S_1, eS_1⟩ : ∃ z : St, z = bw S 0 29 1 := ⟨_, rfl⟩
        have h := h S_1 eS_1
        refine m_put (S1 := S_1) (v := .int 1) (ty := .boolean) hx hb hts hown hK hP hS 29 (by decide) q1239 rfl rfl (tyX7_ok 29 (by decide)) rfl rfl (by rw [eS_1]; exact mset_29 b S 1) (by rw [eS_1]; exact bw_0) dX7_complete_118 (fun H locs hP hS => ?_)
        refine lv_aload_n hx hb dX7_complete_121 rfl (lv_at hl 0 rfl) ?_
        refine lv_iload_n hx hb dX7_complete_122 rfl (lv_at hl 1 rfl) ?_
        refine m_cVi (As := [.int x3]) (rest := []) ⟨hx, hb, hml, hown, hts⟩ (met_lays l D cI cB b x3  S_1 _ h) (cwV 1 hts (lw_V q1693 q1695 qs101 q128 q1696) rfl rfl rfl cwd_lays ⟨Nat.le_of_ble_eq_true rfl, Nat.le_of_ble_eq_true rfl⟩) hK hP hS rfl hl.1 rfl (Nat.le_of_ble_eq_true rfl) dX7_complete_123 ⟨Nat.zero_le _, Nat.zero_le _⟩ (fun r_2 S_3 H locs h hP hS => ?_)
        refine lv_pop hx hb dX7_complete_126 rfl ?_
        refine lv_aload_n hx hb dX7_complete_127 rfl (lv_at hl 0 rfl) ?_
        refine lv_iload_n hx hb dX7_complete_128 rfl (lv_at hl 1 rfl) ?_
        refine m_cVi (As := [.int x3]) (rest := []) ⟨hx, hb, hml, hown, hts⟩ (met_good l D cI cB b x3  S_3 _ h) (cwV 1 hts (lw_V q1498 q1500 qs76 q128 q1501) rfl rfl rfl cwd_good ⟨Nat.le_of_ble_eq_true rfl, Nat.le_of_ble_eq_true rfl⟩) hK hP hS rfl hl.1 rfl (Nat.le_of_ble_eq_true rfl) dX7_complete_129 ⟨Nat.zero_le _, Nat.zero_le _⟩ (fun r_4 S_5 H locs h hP hS => ?_)
        exact W.iret (v := r_4) hx hb hr (fun t ht hW => ⟨⟨r_4, S_5, rfl, h, by rw [ht]; exact hP, va_K.moved hW.alike hK⟩, hS.F ht⟩) hS.2.2 dX7_complete_132
      · have h := h.2 c_10
        refine lv_aload_n hx hb dX7_complete_96 rfl (lv_at hl 0 rfl) ?_
        refine m_get (v := .ref (b + 6)) hx hb hts hown hK hP 28 (by decide) q1238 rfl rfl dX7_complete_97 ?_
        refine lv_iload hx hb dX7_complete_100 (lv_at hl 2 rfl) ?_
        refine lv_aload_n hx hb dX7_complete_102 rfl (lv_at hl 0 rfl) ?_
        refine m_get (v := .ref (b + 8)) hx hb hts hown hK hP 31 (by decide) q1241 rfl rfl dX7_complete_103 ?_
        refine lv_iload hx hb dX7_complete_106 (lv_at hl 2 rfl) ?_
        obtain ⟨j_6, hj_6, ej_6, h⟩ := h
        refine m_iald hx hb hK hP (k := 8) mok_8 ej_6 hj_6 dX7_complete_108 ?_
        obtain ⟨j_7, hj_7, ej_7, h⟩ := h
        obtain ⟨S_8, eS_8⟩ : ∃ z : St, z = bw S 6 j_7 (S 8 j_6) := ⟨_, rfl⟩
        have h := h S_8 eS_8
        refine m_iast hx hb hK hP hS (k := 6) mok_6 ej_7 hj_7 dX7_complete_109 (fun H locs hP hS => ?_)
        rw [← eS_8] at hP
        obtain ⟨x5_9, ex5_9⟩ : ∃ y : Int32, y = x5 + 1 := ⟨_, rfl⟩
        have h := h x5_9 ex5_9
        refine lv_iinc (v := x5_9) (lv' := [(5, .int x5_9), (0, .ref b), (3, .int x3)]) hx hb dX7_complete_110 hl (k := 2) rfl (by rw [ex5_9]; rfl) (by decide) rfl (fun ls hl => ?_)
        refine lv_goto (tgt := 88) hx hb dX7_complete_113 (by decide) ?_
        obtain ⟨mm, hmm, h⟩ := h
        exact ih88 mm hmm _ _ _ _ _ hP hS (lv_sub hl [1, 2, 0] rfl) h
  unfold wp_complete at h
  refine lv_aload_n hx hb dX7_complete_0 rfl (lv_at hl 0 rfl) ?_
  refine lv_iconst (v := 0) hx hb dX7_complete_1 (by decide) ?_
  obtain ⟨S_11, eS_11⟩ : ∃ z : St, z = bw S 0 0 0 := ⟨_, rfl⟩
  have h := h S_11 eS_11
  refine m_put (S1 := S_11) (v := .int 0) (ty := .int) hx hb hts hown hK hP hS 0 (by decide) q1210 rfl rfl (tyX7_ok 0 (by decide)) rfl rfl (by rw [eS_11]; exact mset_0 b S 0) (by rw [eS_11]; exact bw_0) dX7_complete_2 (fun H locs hP hS => ?_)
  refine lv_aload_n hx hb dX7_complete_5 rfl (lv_at hl 0 rfl) ?_
  refine m_get (v := .int (S_11 0 14)) hx hb hts hown hK hP 14 (by decide) q1224 rfl rfl dX7_complete_6 ?_
  refine lv_if_ne (tgt := 18) hx hb dX7_complete_9 (by decide) (fun c_32 => ?_) (fun c_32 => ?_)
  · have h := h.1 c_32
    refine lv_aload_n hx hb dX7_complete_18 rfl (lv_at hl 0 rfl) ?_
    refine lv_iload_n hx hb dX7_complete_19 rfl (lv_at hl 1 rfl) ?_
    refine m_cVp (As := [.int p1]) (rest := []) ⟨hx, hb, hml, hown, hts⟩ (met_refusesSet l D cI cB b p1  S_11 _ h) (cwV 1 hts (lw_V q1623 q1625 qs88 q128 q1626) rfl rfl rfl cwd_refusesSet ⟨Nat.le_of_ble_eq_true rfl, Nat.le_of_ble_eq_true rfl⟩) hK hP hS rfl hl.1 rfl (Nat.le_of_ble_eq_true rfl) dX7_complete_20 ⟨Nat.zero_le _, Nat.zero_le _⟩ (fun r_12 H locs h hP hS => ?_)
    refine lv_istore_n (lv' := [(2, .int r_12), (0, .ref b), (1, .int p1)]) hx hb dX7_complete_23 rfl hl (by decide) rfl (fun ls hl => ?_)
    refine lv_iload_n hx hb dX7_complete_24 rfl (lv_at hl 0 rfl) ?_
    refine lv_if_le (tgt := 34) hx hb dX7_complete_25 (by decide) (fun c_29 => ?_) (fun c_29 => ?_)
    · have h := h.1 c_29
      refine lv_aload_n hx hb dX7_complete_34 rfl (lv_at hl 1 rfl) ?_
      refine lv_iload_n hx hb dX7_complete_35 rfl (lv_at hl 2 rfl) ?_
      refine m_cVp (As := [.int p1]) (rest := []) ⟨hx, hb, hml, hown, hts⟩ (met_freeRegister l D cI cB b p1  S_11 _ h) (cwV 1 hts (lw_V q1814 q1816 qs115 q128 q1817) rfl rfl rfl cwd_freeRegister ⟨Nat.le_of_ble_eq_true rfl, Nat.le_of_ble_eq_true rfl⟩) hK hP hS rfl hl.1 rfl (Nat.le_of_ble_eq_true rfl) dX7_complete_36 ⟨Nat.zero_le _, Nat.zero_le _⟩ (fun r_14 H locs h hP hS => ?_)
      refine lv_istore_n (lv' := [(3, .int r_14), (2, .int r_12), (0, .ref b), (1, .int p1)]) hx hb dX7_complete_39 rfl hl (by decide) rfl (fun ls hl => ?_)
      refine lv_iload_n hx hb dX7_complete_40 rfl (lv_at hl 0 rfl) ?_
      refine lv_iconst (v := (-1)) hx hb dX7_complete_41 (by decide) ?_
      refine lv_icmp_ne (tgt := 51) hx hb dX7_complete_42 (by decide) (fun c_26 => ?_) (fun c_26 => ?_)
      · have h := h.1 c_26
        refine lv_aload_n hx hb dX7_complete_51 rfl (lv_at hl 2 rfl) ?_
        refine lv_iload_n hx hb dX7_complete_52 rfl (lv_at hl 3 rfl) ?_
        refine lv_iconst (v := 0) hx hb dX7_complete_53 (by decide) ?_
        refine m_cVi (As := [.int p1, .int 0]) (rest := []) ⟨hx, hb, hml, hown, hts⟩ (met_firstMissing l D cI cB b p1 0  S_11 _ h) (cwV 2 hts (lw_V q1665 q1667 qs95 q128 q1668) rfl rfl rfl cwd_firstMissing ⟨Nat.le_of_ble_eq_true rfl, Nat.le_of_ble_eq_true rfl⟩) hK hP hS rfl hl.1 rfl (Nat.le_of_ble_eq_true rfl) dX7_complete_54 ⟨Nat.zero_le _, Nat.zero_le _⟩ (fun r_16 S_17 H locs h hP hS => ?_)
        refine lv_istore (lv' := [(4, .int r_16), (3, .int r_14), (2, .int r_12), (0, .ref b), (1, .int p1)]) hx hb dX7_complete_57 hl (by decide) rfl (fun ls hl => ?_)
        refine lv_iload hx hb dX7_complete_59 (lv_at hl 0 rfl) ?_
        refine lv_bipush (v := (-3)) hx hb dX7_complete_61 (by decide) ?_
        refine lv_icmp_ne (tgt := 72) hx hb dX7_complete_63 (by decide) (fun c_23 => ?_) (fun c_23 => ?_)
        · have h := h.1 c_23
          refine lv_iload hx hb dX7_complete_72 (lv_at hl 0 rfl) ?_
          refine lv_iconst (v := (-1)) hx hb dX7_complete_74 (by decide) ?_
          refine lv_icmp_ne (tgt := 85) hx hb dX7_complete_75 (by decide) (fun c_20 => ?_) (fun c_20 => ?_)
          · have h := h.1 c_20
            refine lv_iconst (v := 0) hx hb dX7_complete_85 (by decide) ?_
            refine lv_istore (lv' := [(5, .int 0), (4, .int r_16), (3, .int r_14), (2, .int r_12), (0, .ref b), (1, .int p1)]) hx hb dX7_complete_86 hl (by decide) rfl (fun ls hl => ?_)
            exact L88 _ _ _ _ _ _ h hP hS (lv_sub hl [4, 2, 0] rfl)
          · have h := h.2 c_20
            refine lv_aload_n hx hb dX7_complete_78 rfl (lv_at hl 3 rfl) ?_
            refine lv_bipush (v := (-2)) hx hb dX7_complete_79 (by decide) ?_
            refine m_cVi (As := [.int (-2)]) (rest := []) ⟨hx, hb, hml, hown, hts⟩ (met_good l D cI cB b (-2)  S_17 _ h) (cwV 1 hts (lw_V q1498 q1500 qs76 q128 q1501) rfl rfl rfl cwd_good ⟨Nat.le_of_ble_eq_true rfl, Nat.le_of_ble_eq_true rfl⟩) hK hP hS rfl hl.1 rfl (Nat.le_of_ble_eq_true rfl) dX7_complete_81 ⟨Nat.zero_le _, Nat.zero_le _⟩ (fun r_18 S_19 H locs h hP hS => ?_)
            exact W.iret (v := r_18) hx hb hr (fun t ht hW => ⟨⟨r_18, S_19, rfl, h, by rw [ht]; exact hP, va_K.moved hW.alike hK⟩, hS.F ht⟩) hS.2.2 dX7_complete_84
        · have h := h.2 c_23
          refine lv_aload_n hx hb dX7_complete_66 rfl (lv_at hl 3 rfl) ?_
          refine lv_iconst (v := 3) hx hb dX7_complete_67 (by decide) ?_
          refine m_cVi (As := [.int 3]) (rest := []) ⟨hx, hb, hml, hown, hts⟩ (met_refused l D cI cB b 3  S_17 _ h) (cwV 1 hts (lw_V q1382 q1384 qs58 q128 q1385) rfl rfl rfl cwd_refused ⟨Nat.le_of_ble_eq_true rfl, Nat.le_of_ble_eq_true rfl⟩) hK hP hS rfl hl.1 rfl (Nat.le_of_ble_eq_true rfl) dX7_complete_68 ⟨Nat.zero_le _, Nat.zero_le _⟩ (fun r_21 S_22 H locs h hP hS => ?_)
          exact W.iret (v := r_21) hx hb hr (fun t ht hW => ⟨⟨r_21, S_22, rfl, h, by rw [ht]; exact hP, va_K.moved hW.alike hK⟩, hS.F ht⟩) hS.2.2 dX7_complete_71
      · have h := h.2 c_26
        refine lv_aload_n hx hb dX7_complete_45 rfl (lv_at hl 2 rfl) ?_
        refine lv_iconst (v := 5) hx hb dX7_complete_46 (by decide) ?_
        refine m_cVi (As := [.int 5]) (rest := []) ⟨hx, hb, hml, hown, hts⟩ (met_refused l D cI cB b 5  S_11 _ h) (cwV 1 hts (lw_V q1382 q1384 qs58 q128 q1385) rfl rfl rfl cwd_refused ⟨Nat.le_of_ble_eq_true rfl, Nat.le_of_ble_eq_true rfl⟩) hK hP hS rfl hl.1 rfl (Nat.le_of_ble_eq_true rfl) dX7_complete_47 ⟨Nat.zero_le _, Nat.zero_le _⟩ (fun r_24 S_25 H locs h hP hS => ?_)
        exact W.iret (v := r_24) hx hb hr (fun t ht hW => ⟨⟨r_24, S_25, rfl, h, by rw [ht]; exact hP, va_K.moved hW.alike hK⟩, hS.F ht⟩) hS.2.2 dX7_complete_50
    · have h := h.2 c_29
      refine lv_aload_n hx hb dX7_complete_28 rfl (lv_at hl 1 rfl) ?_
      refine lv_iload_n hx hb dX7_complete_29 rfl (lv_at hl 0 rfl) ?_
      refine m_cVi (As := [.int r_12]) (rest := []) ⟨hx, hb, hml, hown, hts⟩ (met_refused l D cI cB b r_12  S_11 _ h) (cwV 1 hts (lw_V q1382 q1384 qs58 q128 q1385) rfl rfl rfl cwd_refused ⟨Nat.le_of_ble_eq_true rfl, Nat.le_of_ble_eq_true rfl⟩) hK hP hS rfl hl.1 rfl (Nat.le_of_ble_eq_true rfl) dX7_complete_30 ⟨Nat.zero_le _, Nat.zero_le _⟩ (fun r_27 S_28 H locs h hP hS => ?_)
      exact W.iret (v := r_27) hx hb hr (fun t ht hW => ⟨⟨r_27, S_28, rfl, h, by rw [ht]; exact hP, va_K.moved hW.alike hK⟩, hS.F ht⟩) hS.2.2 dX7_complete_33
  · have h := h.2 c_32
    refine lv_aload_n hx hb dX7_complete_12 rfl (lv_at hl 0 rfl) ?_
    refine lv_iconst (v := 1) hx hb dX7_complete_13 (by decide) ?_
    refine m_cVi (As := [.int 1]) (rest := []) ⟨hx, hb, hml, hown, hts⟩ (met_refused l D cI cB b 1  S_11 _ h) (cwV 1 hts (lw_V q1382 q1384 qs58 q128 q1385) rfl rfl rfl cwd_refused ⟨Nat.le_of_ble_eq_true rfl, Nat.le_of_ble_eq_true rfl⟩) hK hP hS rfl hl.1 rfl (Nat.le_of_ble_eq_true rfl) dX7_complete_14 ⟨Nat.zero_le _, Nat.zero_le _⟩ (fun r_30 S_31 H locs h hP hS => ?_)
    exact W.iret (v := r_30) hx hb hr (fun t ht hW => ⟨⟨r_30, S_31, rfl, h, by rw [ht]; exact hP, va_K.moved hW.alike hK⟩, hS.F ht⟩) hS.2.2 dX7_complete_17
def wp_order_j64 (p1 : Int32) (p2 : Int32) (p3 : Int32) (post : Int32 → St → Prop) (x4 : Int32) (S : St) : Prop :=
    wp_remembers (-1) S (fun S_2 =>
    ∀ S_3 : St, S_3 = bw S_2 0 6 p1 →
    ∀ S_4 : St, S_4 = bw S_3 0 7 p2 →
    ∀ S_5 : St, S_5 = bw S_4 0 8 p3 →
    wp_laysOrder  S_5 (fun S_7 =>
    ((x4 = 0 →
      wp_good 1 S_7 (fun r_8 S_9 =>
      post r_8 S_9)) ∧
     (¬ (x4 = 0) →
      wp_good 0 S_7 (fun r_10 S_11 =>
      post r_10 S_11)))))
def wp_order_j61 (p1 : Int32) (p2 : Int32) (p3 : Int32) (post : Int32 → St → Prop)  (S : St) : Prop :=
    wp_order_j64 p1 p2 p3 post 0 S
def wp_order (p1 : Int32) (p2 : Int32) (p3 : Int32) (S : St) (post : Int32 → St → Prop) : Prop :=
  ∀ S_13 : St, S_13 = bw S 0 0 0 →
  ((¬ (S_13 0 14) = 0 →
    wp_isOrder p1 p2 p3 S_13 (fun r_14 =>
    ((¬ r_14 = 0 →
      ((¬ (S_13 0 6) = p1 →
        wp_order_j61 p1 p2 p3 post  S_13) ∧
       ((S_13 0 6) = p1 →
        ((¬ (S_13 0 7) = p2 →
          wp_order_j61 p1 p2 p3 post  S_13) ∧
         ((S_13 0 7) = p2 →
          ((¬ (S_13 0 8) = p3 →
            wp_order_j61 p1 p2 p3 post  S_13) ∧
           ((S_13 0 8) = p3 →
            wp_order_j64 p1 p2 p3 post 1 S_13))))))) ∧
     (r_14 = 0 →
      wp_refused 2 S_13 (fun r_19 S_20 =>
      post r_19 S_20))))) ∧
   ((S_13 0 14) = 0 →
    wp_refused 1 S_13 (fun r_22 S_23 =>
    post r_22 S_23)))
set_option maxHeartbeats 4000000 in
theorem met_order (l : Launch) (D : va_G) (cI cB : ClassId) (b : Nat) (p1 : Int32) (p2 : Int32) (p3 : Int32)  (S : St) (post : Int32 → St → Prop) (h : wp_order p1 p2 p3 S post) : Met l yX7_order (ws_ yX7_order cX7_order 5 (some .int)) ({ frames := 3, cells := 0, slots := 0, locals := 66 } : Room) (mPc D cI cB b [.ref b, .int p1, .int p2, .int p3] S) (mQi D cI cB b post) 0 0 (mA b) := by
  refine Met.ofW (cc := cX7_order) (maxL := 5) (ret := (some .int)) (by decide) rfl ?_
  intro p e s m args below meth c s₁ B hml hv
  obtain ⟨rfl, hP, hK⟩ := hv
  have hx := B.exec
  have hb := B.bytes
  have hr := B.returns
  have hts := atoms_spec (ws := ws_ yX7_order cX7_order 5 (some .int)) B.pre
  have hts : ∀ w ∈ lw_all, w.before _ s = true := fun w h => hts w (List.mem_cons_of_mem _ h)
  have hown : s.vm.findClass RX7 = some m.cls := findClass_of_methodNamed B.named
  have hlocks := B.notSynchronized
  have hS : va_S (mA b) s.heap s.heap [] := va_S.rf
  have hl := lv_entry ([.ref b, .int p1, .int p2, .int p3]) (n := 5) (Nat.le_of_ble_eq_true rfl)
  rw [lg_entry_eq]
  generalize (lg_sl ([.ref b, .int p1, .int p2, .int p3]) ++ List.replicate (5 - (lg_sl ([.ref b, .int p1, .int p2, .int p3])).length) Slot.unset).toArray = ls at hl ⊢
  have hl : lv_has ls 5 [(0, .ref b), (1, .int p1), (2, .int p2), (3, .int p3)] := hl
  have J64 : ∀ (x4 : Int32) (S : St) (H : Heap) (locs : List Loc) (ls : Array Slot), wp_order_j64 p1 p2 p3 post x4 S → mW D cI cB b S H → va_S (mA b) s.heap H locs → lv_has ls 5 [(0, .ref b), (1, .int p1), (2, .int p2), (3, .int p3), (4, .int x4)] → W p l e (headSpec (ws_ yX7_order cX7_order 5 (some .int)) ({ frames := 3, cells := 0, slots := 0, locals := 66 } : Room)).room s m ([.ref b, .int p1, .int p2, .int p3] : List Value).toArray below meth c H locs 0 0 (MQ below (mQi D cI cB b post) ([.ref b, .int p1, .int p2, .int p3] : List Value).toArray s 0 0 (mA b)) (F0 m 64 ls []) := by
    intro x4 S H locs ls h hP hS hl
    unfold wp_order_j64 at h
    refine lv_aload_n hx hb dX7_order_64 rfl (lv_at hl 0 rfl) ?_
    refine lv_iconst (v := (-1)) hx hb dX7_order_65 (by decide) ?_
    refine m_cVv (As := [.int (-1)]) (rest := []) ⟨hx, hb, hml, hown, hts⟩ (met_remembers l D cI cB b (-1)  S _ h) (cwV 1 hts (lw_V q1697 q1699 qs102 q128 q1700) rfl rfl rfl cwd_remembers ⟨Nat.le_of_ble_eq_true rfl, Nat.le_of_ble_eq_true rfl⟩) hK hP hS rfl hl.1 rfl (Nat.le_of_ble_eq_true rfl) dX7_order_66 ⟨Nat.zero_le _, Nat.zero_le _⟩ (fun S_2 H locs h hP hS => ?_)
    refine lv_aload_n hx hb dX7_order_69 rfl (lv_at hl 0 rfl) ?_
    refine lv_iload_n hx hb dX7_order_70 rfl (lv_at hl 1 rfl) ?_
    obtain ⟨S_3, eS_3⟩ : ∃ z : St, z = bw S_2 0 6 p1 := ⟨_, rfl⟩
    have h := h S_3 eS_3
    refine m_put (S1 := S_3) (v := .int p1) (ty := .int) hx hb hts hown hK hP hS 6 (by decide) q1216 rfl rfl (tyX7_ok 6 (by decide)) rfl rfl (by rw [eS_3]; exact mset_6 b S_2 p1) (by rw [eS_3]; exact bw_0) dX7_order_71 (fun H locs hP hS => ?_)
    refine lv_aload_n hx hb dX7_order_74 rfl (lv_at hl 0 rfl) ?_
    refine lv_iload_n hx hb dX7_order_75 rfl (lv_at hl 2 rfl) ?_
    obtain ⟨S_4, eS_4⟩ : ∃ z : St, z = bw S_3 0 7 p2 := ⟨_, rfl⟩
    have h := h S_4 eS_4
    refine m_put (S1 := S_4) (v := .int p2) (ty := .int) hx hb hts hown hK hP hS 7 (by decide) q1217 rfl rfl (tyX7_ok 7 (by decide)) rfl rfl (by rw [eS_4]; exact mset_7 b S_3 p2) (by rw [eS_4]; exact bw_0) dX7_order_76 (fun H locs hP hS => ?_)
    refine lv_aload_n hx hb dX7_order_79 rfl (lv_at hl 0 rfl) ?_
    refine lv_iload_n hx hb dX7_order_80 rfl (lv_at hl 3 rfl) ?_
    obtain ⟨S_5, eS_5⟩ : ∃ z : St, z = bw S_4 0 8 p3 := ⟨_, rfl⟩
    have h := h S_5 eS_5
    refine m_put (S1 := S_5) (v := .int p3) (ty := .int) hx hb hts hown hK hP hS 8 (by decide) q1218 rfl rfl (tyX7_ok 8 (by decide)) rfl rfl (by rw [eS_5]; exact mset_8 b S_4 p3) (by rw [eS_5]; exact bw_0) dX7_order_81 (fun H locs hP hS => ?_)
    refine lv_aload_n hx hb dX7_order_84 rfl (lv_at hl 0 rfl) ?_
    refine m_cVv (As := []) (rest := []) ⟨hx, hb, hml, hown, hts⟩ (met_laysOrder l D cI cB b   S_5 _ h) (cwV 0 hts (lw_V q1486 q1488 qs73 q128 q1489) rfl rfl rfl cwd_laysOrder ⟨Nat.le_of_ble_eq_true rfl, Nat.le_of_ble_eq_true rfl⟩) hK hP hS rfl hl.1 rfl (Nat.le_of_ble_eq_true rfl) dX7_order_85 ⟨Nat.zero_le _, Nat.zero_le _⟩ (fun S_7 H locs h hP hS => ?_)
    refine lv_aload_n hx hb dX7_order_88 rfl (lv_at hl 0 rfl) ?_
    refine lv_iload hx hb dX7_order_89 (lv_at hl 4 rfl) ?_
    refine lv_if_eq (tgt := 98) hx hb dX7_order_91 (by decide) (fun c_12 => ?_) (fun c_12 => ?_)
    · have h := h.1 c_12
      refine lv_iconst (v := 1) hx hb dX7_order_98 (by decide) ?_
      refine m_cVi (As := [.int 1]) (rest := []) ⟨hx, hb, hml, hown, hts⟩ (met_good l D cI cB b 1  S_7 _ h) (cwV 1 hts (lw_V q1498 q1500 qs76 q128 q1501) rfl rfl rfl cwd_good ⟨Nat.le_of_ble_eq_true rfl, Nat.le_of_ble_eq_true rfl⟩) hK hP hS rfl hl.1 rfl (Nat.le_of_ble_eq_true rfl) dX7_order_99 ⟨Nat.zero_le _, Nat.zero_le _⟩ (fun r_8 S_9 H locs h hP hS => ?_)
      exact W.iret (v := r_8) hx hb hr (fun t ht hW => ⟨⟨r_8, S_9, rfl, h, by rw [ht]; exact hP, va_K.moved hW.alike hK⟩, hS.F ht⟩) hS.2.2 dX7_order_102
    · have h := h.2 c_12
      refine lv_iconst (v := 0) hx hb dX7_order_94 (by decide) ?_
      refine lv_goto (tgt := 99) hx hb dX7_order_95 (by decide) ?_
      refine m_cVi (As := [.int 0]) (rest := []) ⟨hx, hb, hml, hown, hts⟩ (met_good l D cI cB b 0  S_7 _ h) (cwV 1 hts (lw_V q1498 q1500 qs76 q128 q1501) rfl rfl rfl cwd_good ⟨Nat.le_of_ble_eq_true rfl, Nat.le_of_ble_eq_true rfl⟩) hK hP hS rfl hl.1 rfl (Nat.le_of_ble_eq_true rfl) dX7_order_99 ⟨Nat.zero_le _, Nat.zero_le _⟩ (fun r_10 S_11 H locs h hP hS => ?_)
      exact W.iret (v := r_10) hx hb hr (fun t ht hW => ⟨⟨r_10, S_11, rfl, h, by rw [ht]; exact hP, va_K.moved hW.alike hK⟩, hS.F ht⟩) hS.2.2 dX7_order_102
  have J61 : ∀  (S : St) (H : Heap) (locs : List Loc) (ls : Array Slot), wp_order_j61 p1 p2 p3 post  S → mW D cI cB b S H → va_S (mA b) s.heap H locs → lv_has ls 5 [(0, .ref b), (1, .int p1), (2, .int p2), (3, .int p3)] → W p l e (headSpec (ws_ yX7_order cX7_order 5 (some .int)) ({ frames := 3, cells := 0, slots := 0, locals := 66 } : Room)).room s m ([.ref b, .int p1, .int p2, .int p3] : List Value).toArray below meth c H locs 0 0 (MQ below (mQi D cI cB b post) ([.ref b, .int p1, .int p2, .int p3] : List Value).toArray s 0 0 (mA b)) (F0 m 61 ls []) := by
    intro  S H locs ls h hP hS hl
    unfold wp_order_j61 at h
    refine lv_iconst (v := 0) hx hb dX7_order_61 (by decide) ?_
    refine lv_istore (lv' := [(4, .int 0), (0, .ref b), (1, .int p1), (2, .int p2), (3, .int p3)]) hx hb dX7_order_62 hl (by decide) rfl (fun ls hl => ?_)
    exact J64 _ _ _ _ _ h hP hS (lv_sub hl [1, 2, 3, 4, 0] rfl)
  unfold wp_order at h
  refine lv_aload_n hx hb dX7_order_0 rfl (lv_at hl 0 rfl) ?_
  refine lv_iconst (v := 0) hx hb dX7_order_1 (by decide) ?_
  obtain ⟨S_13, eS_13⟩ : ∃ z : St, z = bw S 0 0 0 := ⟨_, rfl⟩
  have h := h S_13 eS_13
  refine m_put (S1 := S_13) (v := .int 0) (ty := .int) hx hb hts hown hK hP hS 0 (by decide) q1210 rfl rfl (tyX7_ok 0 (by decide)) rfl rfl (by rw [eS_13]; exact mset_0 b S 0) (by rw [eS_13]; exact bw_0) dX7_order_2 (fun H locs hP hS => ?_)
  refine lv_aload_n hx hb dX7_order_5 rfl (lv_at hl 0 rfl) ?_
  refine m_get (v := .int (S_13 0 14)) hx hb hts hown hK hP 14 (by decide) q1224 rfl rfl dX7_order_6 ?_
  refine lv_if_ne (tgt := 18) hx hb dX7_order_9 (by decide) (fun c_24 => ?_) (fun c_24 => ?_)
  · have h := h.1 c_24
    refine lv_iload_n hx hb dX7_order_18 rfl (lv_at hl 1 rfl) ?_
    refine lv_iload_n hx hb dX7_order_19 rfl (lv_at hl 2 rfl) ?_
    refine lv_iload_n hx hb dX7_order_20 rfl (lv_at hl 3 rfl) ?_
    refine m_cSp (As := [.int p1, .int p2, .int p3]) (rest := []) ⟨hx, hb, hml, hown, hts⟩ (met_isOrder l D cI cB b p1 p2 p3  S_13 _ h) (va_cwS 3 hts (lw_S q1612 q1613 q128 q1614) rfl rfl rfl cwd_isOrder ⟨Nat.le_of_ble_eq_true rfl, Nat.le_of_ble_eq_true rfl⟩) hK hP hS rfl hl.1 rfl (Nat.le_of_ble_eq_true rfl) dX7_order_21 ⟨Nat.zero_le _, Nat.zero_le _⟩ (fun r_14 H locs h hP hS => ?_)
    refine lv_if_ne (tgt := 33) hx hb dX7_order_24 (by decide) (fun c_21 => ?_) (fun c_21 => ?_)
    · have h := h.1 c_21
      refine lv_aload_n hx hb dX7_order_33 rfl (lv_at hl 0 rfl) ?_
      refine m_get (v := .int (S_13 0 6)) hx hb hts hown hK hP 6 (by decide) q1216 rfl rfl dX7_order_34 ?_
      refine lv_iload_n hx hb dX7_order_37 rfl (lv_at hl 1 rfl) ?_
      refine lv_icmp_ne (tgt := 61) hx hb dX7_order_38 (by decide) (fun c_18 => ?_) (fun c_18 => ?_)
      · have h := h.1 c_18
        exact J61  _ _ _ _ h hP hS (lv_sub hl [0, 1, 2, 3] rfl)
      · have h := h.2 c_18
        refine lv_aload_n hx hb dX7_order_41 rfl (lv_at hl 0 rfl) ?_
        refine m_get (v := .int (S_13 0 7)) hx hb hts hown hK hP 7 (by decide) q1217 rfl rfl dX7_order_42 ?_
        refine lv_iload_n hx hb dX7_order_45 rfl (lv_at hl 2 rfl) ?_
        refine lv_icmp_ne (tgt := 61) hx hb dX7_order_46 (by decide) (fun c_17 => ?_) (fun c_17 => ?_)
        · have h := h.1 c_17
          exact J61  _ _ _ _ h hP hS (lv_sub hl [0, 1, 2, 3] rfl)
        · have h := h.2 c_17
          refine lv_aload_n hx hb dX7_order_49 rfl (lv_at hl 0 rfl) ?_
          refine m_get (v := .int (S_13 0 8)) hx hb hts hown hK hP 8 (by decide) q1218 rfl rfl dX7_order_50 ?_
          refine lv_iload_n hx hb dX7_order_53 rfl (lv_at hl 3 rfl) ?_
          refine lv_icmp_ne (tgt := 61) hx hb dX7_order_54 (by decide) (fun c_16 => ?_) (fun c_16 => ?_)
          · have h := h.1 c_16
            exact J61  _ _ _ _ h hP hS (lv_sub hl [0, 1, 2, 3] rfl)
          · have h := h.2 c_16
            refine lv_iconst (v := 1) hx hb dX7_order_57 (by decide) ?_
            refine lv_goto (tgt := 62) hx hb dX7_order_58 (by decide) ?_
            refine lv_istore (lv' := [(4, .int 1), (0, .ref b), (1, .int p1), (2, .int p2), (3, .int p3)]) hx hb dX7_order_62 hl (by decide) rfl (fun ls hl => ?_)
            exact J64 _ _ _ _ _ h hP hS (lv_sub hl [1, 2, 3, 4, 0] rfl)
    · have h := h.2 c_21
      refine lv_aload_n hx hb dX7_order_27 rfl (lv_at hl 0 rfl) ?_
      refine lv_iconst (v := 2) hx hb dX7_order_28 (by decide) ?_
      refine m_cVi (As := [.int 2]) (rest := []) ⟨hx, hb, hml, hown, hts⟩ (met_refused l D cI cB b 2  S_13 _ h) (cwV 1 hts (lw_V q1382 q1384 qs58 q128 q1385) rfl rfl rfl cwd_refused ⟨Nat.le_of_ble_eq_true rfl, Nat.le_of_ble_eq_true rfl⟩) hK hP hS rfl hl.1 rfl (Nat.le_of_ble_eq_true rfl) dX7_order_29 ⟨Nat.zero_le _, Nat.zero_le _⟩ (fun r_19 S_20 H locs h hP hS => ?_)
      exact W.iret (v := r_19) hx hb hr (fun t ht hW => ⟨⟨r_19, S_20, rfl, h, by rw [ht]; exact hP, va_K.moved hW.alike hK⟩, hS.F ht⟩) hS.2.2 dX7_order_32
  · have h := h.2 c_24
    refine lv_aload_n hx hb dX7_order_12 rfl (lv_at hl 0 rfl) ?_
    refine lv_iconst (v := 1) hx hb dX7_order_13 (by decide) ?_
    refine m_cVi (As := [.int 1]) (rest := []) ⟨hx, hb, hml, hown, hts⟩ (met_refused l D cI cB b 1  S_13 _ h) (cwV 1 hts (lw_V q1382 q1384 qs58 q128 q1385) rfl rfl rfl cwd_refused ⟨Nat.le_of_ble_eq_true rfl, Nat.le_of_ble_eq_true rfl⟩) hK hP hS rfl hl.1 rfl (Nat.le_of_ble_eq_true rfl) dX7_order_14 ⟨Nat.zero_le _, Nat.zero_le _⟩ (fun r_22 S_23 H locs h hP hS => ?_)
    exact W.iret (v := r_22) hx hb hr (fun t ht hW => ⟨⟨r_22, S_23, rfl, h, by rw [ht]; exact hP, va_K.moved hW.alike hK⟩, hS.F ht⟩) hS.2.2 dX7_order_17
def wp_undo_j19  (post : Int32 → St → Prop)  (S : St) : Prop :=
    wp_refused 1 S (fun r_1 S_2 =>
    post 0 S_2)
def wp_undo_j94  (post : Int32 → St → Prop)  (S : St) : Prop :=
    ∃ j_3 : Nat, j_3 < 8 ∧ (S 0 45) = nI j_3 ∧
    ∀ S_4 : St, S_4 = bw S 0 6 (S 15 j_3) →
    ∃ j_5 : Nat, j_5 < 8 ∧ (S_4 0 45) = nI j_5 ∧
    ∀ S_6 : St, S_6 = bw S_4 0 7 (S_4 16 j_5) →
    ∃ j_7 : Nat, j_7 < 8 ∧ (S_6 0 45) = nI j_7 ∧
    ∀ S_8 : St, S_8 = bw S_6 0 8 (S_6 17 j_7) →
    wp_laysOrder  S_8 (fun S_10 =>
    wp_good 0 S_10 (fun r_11 S_12 =>
    post 1 S_12))
def wp_undo_b49  (post : Int32 → St → Prop) (R49 : Int32 → St → Prop) (x1 : Int32) (x2 : Int32) (S : St) : Prop :=
      ((x1 = (-1) →
        wp_undo_j94  post  S) ∧
       (¬ (x1 = (-1)) →
        ((4096 ≤ x2 →
          wp_undo_j94  post  S) ∧
         (¬ (4096 ≤ x2) →
          ∃ j_13 : Nat, j_13 < 32768 ∧ ((4096 * (S 0 45)) + x2) = nI j_13 ∧
          ∃ j_14 : Nat, j_14 < 32768 ∧ ((4096 * x1) + x2) = nI j_14 ∧ ∀ S_15 : St, S_15 = bw S 1 j_14 (S 13 j_13) →
          ∀ x2_16 : Int32, x2_16 = x2 + 1 →
          R49 x2_16 S_15))))
def wp_undo_l49  (post : Int32 → St → Prop) (x1 : Int32) (x2 : Int32) (S : St) : Prop := wLoop (fun (R : (Int32 × St) → Prop) (v : Int32 × St) => wp_undo_b49  post (fun x2 S => R (x2, S)) x1 v.1 v.2) (x2, S)
def wp_undo  (S : St) (post : Int32 → St → Prop) : Prop :=
  ∀ S_19 : St, S_19 = bw S 0 0 0 →
  (((S_19 0 14) = 0 →
    wp_undo_j19  post  S_19) ∧
   (¬ ((S_19 0 14) = 0) →
    ((¬ (S_19 0 45) = 0 →
      ∀ S_20 : St, S_20 = bw S_19 0 45 ((S_19 0 45) - 1) →
      ∃ j_21 : Nat, j_21 < 8 ∧ (S_20 0 45) = nI j_21 ∧
      wp_undo_l49  post (S_20 14 j_21) 0 S_20) ∧
     ((S_19 0 45) = 0 →
      wp_undo_j19  post  S_19))))
set_option maxHeartbeats 4000000 in
theorem met_undo (l : Launch) (D : va_G) (cI cB : ClassId) (b : Nat)   (S : St) (post : Int32 → St → Prop) (h : wp_undo  S post) : Met l yX7_undo (ws_ yX7_undo cX7_undo 3 (some .boolean)) ({ frames := 3, cells := 0, slots := 0, locals := 66 } : Room) (mPc D cI cB b [.ref b] S) (mQi D cI cB b post) 0 0 (mA b) := by
  refine Met.ofW (cc := cX7_undo) (maxL := 3) (ret := (some .boolean)) (by decide) rfl ?_
  intro p e s m args below meth c s₁ B hml hv
  obtain ⟨rfl, hP, hK⟩ := hv
  have hx := B.exec
  have hb := B.bytes
  have hr := B.returns
  have hts := atoms_spec (ws := ws_ yX7_undo cX7_undo 3 (some .boolean)) B.pre
  have hts : ∀ w ∈ lw_all, w.before _ s = true := fun w h => hts w (List.mem_cons_of_mem _ h)
  have hown : s.vm.findClass RX7 = some m.cls := findClass_of_methodNamed B.named
  have hlocks := B.notSynchronized
  have hS : va_S (mA b) s.heap s.heap [] := va_S.rf
  have hl := lv_entry ([.ref b]) (n := 3) (Nat.le_of_ble_eq_true rfl)
  rw [lg_entry_eq]
  generalize (lg_sl ([.ref b]) ++ List.replicate (3 - (lg_sl ([.ref b])).length) Slot.unset).toArray = ls at hl ⊢
  have hl : lv_has ls 3 [(0, .ref b)] := hl
  have J19 : ∀  (S : St) (H : Heap) (locs : List Loc) (ls : Array Slot), wp_undo_j19  post  S → mW D cI cB b S H → va_S (mA b) s.heap H locs → lv_has ls 3 [(0, .ref b)] → W p l e (headSpec (ws_ yX7_undo cX7_undo 3 (some .boolean)) ({ frames := 3, cells := 0, slots := 0, locals := 66 } : Room)).room s m ([.ref b] : List Value).toArray below meth c H locs 0 0 (MQ below (mQi D cI cB b post) ([.ref b] : List Value).toArray s 0 0 (mA b)) (F0 m 19 ls []) := by
    intro  S H locs ls h hP hS hl
    unfold wp_undo_j19 at h
    refine lv_aload_n hx hb dX7_undo_19 rfl (lv_at hl 0 rfl) ?_
    refine lv_iconst (v := 1) hx hb dX7_undo_20 (by decide) ?_
    refine m_cVi (As := [.int 1]) (rest := []) ⟨hx, hb, hml, hown, hts⟩ (met_refused l D cI cB b 1  S _ h) (cwV 1 hts (lw_V q1382 q1384 qs58 q128 q1385) rfl rfl rfl cwd_refused ⟨Nat.le_of_ble_eq_true rfl, Nat.le_of_ble_eq_true rfl⟩) hK hP hS rfl hl.1 rfl (Nat.le_of_ble_eq_true rfl) dX7_undo_21 ⟨Nat.zero_le _, Nat.zero_le _⟩ (fun r_1 S_2 H locs h hP hS => ?_)
    refine lv_pop hx hb dX7_undo_24 rfl ?_
    refine lv_iconst (v := 0) hx hb dX7_undo_25 (by decide) ?_
    exact W.zret (v := 0) hx hb hr rfl (fun t ht hW => ⟨⟨0, S_2, rfl, h, by rw [ht]; exact hP, va_K.moved hW.alike hK⟩, hS.F ht⟩) hS.2.2 dX7_undo_26
  have J94 : ∀  (S : St) (H : Heap) (locs : List Loc) (ls : Array Slot), wp_undo_j94  post  S → mW D cI cB b S H → va_S (mA b) s.heap H locs → lv_has ls 3 [(0, .ref b)] → W p l e (headSpec (ws_ yX7_undo cX7_undo 3 (some .boolean)) ({ frames := 3, cells := 0, slots := 0, locals := 66 } : Room)).room s m ([.ref b] : List Value).toArray below meth c H locs 0 0 (MQ below (mQi D cI cB b post) ([.ref b] : List Value).toArray s 0 0 (mA b)) (F0 m 94 ls []) := by
    intro  S H locs ls h hP hS hl
    unfold wp_undo_j94 at h
    refine lv_aload_n hx hb dX7_undo_94 rfl (lv_at hl 0 rfl) ?_
    refine lv_aload_n hx hb dX7_undo_95 rfl (lv_at hl 0 rfl) ?_
    refine m_get (v := .ref (b + 15)) hx hb hts hown hK hP 42 (by decide) q1252 rfl rfl dX7_undo_96 ?_
    refine lv_aload_n hx hb dX7_undo_99 rfl (lv_at hl 0 rfl) ?_
    refine m_get (v := .int (S 0 45)) hx hb hts hown hK hP 45 (by decide) q1255 rfl rfl dX7_undo_100 ?_
    obtain ⟨j_3, hj_3, ej_3, h⟩ := h
    refine m_iald hx hb hK hP (k := 15) mok_15 ej_3 hj_3 dX7_undo_103 ?_
    obtain ⟨S_4, eS_4⟩ : ∃ z : St, z = bw S 0 6 (S 15 j_3) := ⟨_, rfl⟩
    have h := h S_4 eS_4
    refine m_put (S1 := S_4) (v := .int (S 15 j_3)) (ty := .int) hx hb hts hown hK hP hS 6 (by decide) q1216 rfl rfl (tyX7_ok 6 (by decide)) rfl rfl (by rw [eS_4]; exact mset_6 b S (S 15 j_3)) (by rw [eS_4]; exact bw_0) dX7_undo_104 (fun H locs hP hS => ?_)
    refine lv_aload_n hx hb dX7_undo_107 rfl (lv_at hl 0 rfl) ?_
    refine lv_aload_n hx hb dX7_undo_108 rfl (lv_at hl 0 rfl) ?_
    refine m_get (v := .ref (b + 16)) hx hb hts hown hK hP 43 (by decide) q1253 rfl rfl dX7_undo_109 ?_
    refine lv_aload_n hx hb dX7_undo_112 rfl (lv_at hl 0 rfl) ?_
    refine m_get (v := .int (S_4 0 45)) hx hb hts hown hK hP 45 (by decide) q1255 rfl rfl dX7_undo_113 ?_
    obtain ⟨j_5, hj_5, ej_5, h⟩ := h
    refine m_iald hx hb hK hP (k := 16) mok_16 ej_5 hj_5 dX7_undo_116 ?_
    obtain ⟨S_6, eS_6⟩ : ∃ z : St, z = bw S_4 0 7 (S_4 16 j_5) := ⟨_, rfl⟩
    have h := h S_6 eS_6
    refine m_put (S1 := S_6) (v := .int (S_4 16 j_5)) (ty := .int) hx hb hts hown hK hP hS 7 (by decide) q1217 rfl rfl (tyX7_ok 7 (by decide)) rfl rfl (by rw [eS_6]; exact mset_7 b S_4 (S_4 16 j_5)) (by rw [eS_6]; exact bw_0) dX7_undo_117 (fun H locs hP hS => ?_)
    refine lv_aload_n hx hb dX7_undo_120 rfl (lv_at hl 0 rfl) ?_
    refine lv_aload_n hx hb dX7_undo_121 rfl (lv_at hl 0 rfl) ?_
    refine m_get (v := .ref (b + 17)) hx hb hts hown hK hP 44 (by decide) q1254 rfl rfl dX7_undo_122 ?_
    refine lv_aload_n hx hb dX7_undo_125 rfl (lv_at hl 0 rfl) ?_
    refine m_get (v := .int (S_6 0 45)) hx hb hts hown hK hP 45 (by decide) q1255 rfl rfl dX7_undo_126 ?_
    obtain ⟨j_7, hj_7, ej_7, h⟩ := h
    refine m_iald hx hb hK hP (k := 17) mok_17 ej_7 hj_7 dX7_undo_129 ?_
    obtain ⟨S_8, eS_8⟩ : ∃ z : St, z = bw S_6 0 8 (S_6 17 j_7) := ⟨_, rfl⟩
    have h := h S_8 eS_8
    refine m_put (S1 := S_8) (v := .int (S_6 17 j_7)) (ty := .int) hx hb hts hown hK hP hS 8 (by decide) q1218 rfl rfl (tyX7_ok 8 (by decide)) rfl rfl (by rw [eS_8]; exact mset_8 b S_6 (S_6 17 j_7)) (by rw [eS_8]; exact bw_0) dX7_undo_130 (fun H locs hP hS => ?_)
    refine lv_aload_n hx hb dX7_undo_133 rfl (lv_at hl 0 rfl) ?_
    refine m_cVv (As := []) (rest := []) ⟨hx, hb, hml, hown, hts⟩ (met_laysOrder l D cI cB b   S_8 _ h) (cwV 0 hts (lw_V q1486 q1488 qs73 q128 q1489) rfl rfl rfl cwd_laysOrder ⟨Nat.le_of_ble_eq_true rfl, Nat.le_of_ble_eq_true rfl⟩) hK hP hS rfl hl.1 rfl (Nat.le_of_ble_eq_true rfl) dX7_undo_134 ⟨Nat.zero_le _, Nat.zero_le _⟩ (fun S_10 H locs h hP hS => ?_)
    refine lv_aload_n hx hb dX7_undo_137 rfl (lv_at hl 0 rfl) ?_
    refine lv_iconst (v := 0) hx hb dX7_undo_138 (by decide) ?_
    refine m_cVi (As := [.int 0]) (rest := []) ⟨hx, hb, hml, hown, hts⟩ (met_good l D cI cB b 0  S_10 _ h) (cwV 1 hts (lw_V q1498 q1500 qs76 q128 q1501) rfl rfl rfl cwd_good ⟨Nat.le_of_ble_eq_true rfl, Nat.le_of_ble_eq_true rfl⟩) hK hP hS rfl hl.1 rfl (Nat.le_of_ble_eq_true rfl) dX7_undo_139 ⟨Nat.zero_le _, Nat.zero_le _⟩ (fun r_11 S_12 H locs h hP hS => ?_)
    refine lv_pop hx hb dX7_undo_142 rfl ?_
    refine lv_iconst (v := 1) hx hb dX7_undo_143 (by decide) ?_
    exact W.zret (v := 1) hx hb hr rfl (fun t ht hW => ⟨⟨1, S_12, rfl, h, by rw [ht]; exact hP, va_K.moved hW.alike hK⟩, hS.F ht⟩) hS.2.2 dX7_undo_144
  have L49 : ∀ (x1 : Int32) (x2 : Int32) (S : St) (H : Heap) (locs : List Loc) (ls : Array Slot), wp_undo_l49  post x1 x2 S → mW D cI cB b S H → va_S (mA b) s.heap H locs → lv_has ls 3 [(0, .ref b), (1, .int x1), (2, .int x2)] → W p l e (headSpec (ws_ yX7_undo cX7_undo 3 (some .boolean)) ({ frames := 3, cells := 0, slots := 0, locals := 66 } : Room)).room s m ([.ref b] : List Value).toArray below meth c H locs 0 0 (MQ below (mQi D cI cB b post) ([.ref b] : List Value).toArray s 0 0 (mA b)) (F0 m 49 ls []) := by
    intro x1 x2 S H locs ls h hP hS hl
    obtain ⟨I49, n49, hI, hstep49⟩ := h
    induction n49 using Nat.strongRecOn generalizing x2 S H locs ls with
    | ind n49 ih49 =>
      have h : wp_undo_b49  post (fun x2 S => ∃ mm, mm < n49 ∧ I49 mm (x2, S)) x1 x2 S := hstep49 n49 _ hI
      clear hI
      unfold wp_undo_b49 at h
      refine lv_iload_n hx hb dX7_undo_49 rfl (lv_at hl 1 rfl) ?_
      refine lv_iconst (v := (-1)) hx hb dX7_undo_50 (by decide) ?_
      refine lv_icmp_eq (tgt := 94) hx hb dX7_undo_51 (by decide) (fun c_18 => ?_) (fun c_18 => ?_)
      · have h := h.1 c_18
        exact J94  _ _ _ _ h hP hS (lv_sub hl [0] rfl)
      · have h := h.2 c_18
        refine lv_iload_n hx hb dX7_undo_54 rfl (lv_at hl 2 rfl) ?_
        refine lv_sipush (v := 4096) hx hb dX7_undo_55 (by decide) ?_
        refine lv_icmp_ge (tgt := 94) hx hb dX7_undo_58 (by decide) (fun c_17 => ?_) (fun c_17 => ?_)
        · have h := h.1 c_17
          exact J94  _ _ _ _ h hP hS (lv_sub hl [0] rfl)
        · have h := h.2 c_17
          refine lv_aload_n hx hb dX7_undo_61 rfl (lv_at hl 0 rfl) ?_
          refine m_get (v := .ref (b + 1)) hx hb hts hown hK hP 3 (by decide) q1213 rfl rfl dX7_undo_62 ?_
          refine lv_sipush (v := 4096) hx hb dX7_undo_65 (by decide) ?_
          refine lv_iload_n hx hb dX7_undo_68 rfl (lv_at hl 1 rfl) ?_
          refine lv_imul hx hb dX7_undo_69 ?_
          refine lv_iload_n hx hb dX7_undo_70 rfl (lv_at hl 2 rfl) ?_
          refine lv_iadd hx hb dX7_undo_71 ?_
          refine lv_aload_n hx hb dX7_undo_72 rfl (lv_at hl 0 rfl) ?_
          refine m_get (v := .ref (b + 13)) hx hb hts hown hK hP 40 (by decide) q1250 rfl rfl dX7_undo_73 ?_
          refine lv_sipush (v := 4096) hx hb dX7_undo_76 (by decide) ?_
          refine lv_aload_n hx hb dX7_undo_79 rfl (lv_at hl 0 rfl) ?_
          refine m_get (v := .int (S 0 45)) hx hb hts hown hK hP 45 (by decide) q1255 rfl rfl dX7_undo_80 ?_
          refine lv_imul hx hb dX7_undo_83 ?_
          refine lv_iload_n hx hb dX7_undo_84 rfl (lv_at hl 2 rfl) ?_
          refine lv_iadd hx hb dX7_undo_85 ?_
          obtain ⟨j_13, hj_13, ej_13, h⟩ := h
          refine m_iald hx hb hK hP (k := 13) mok_13 ej_13 hj_13 dX7_undo_86 ?_
          obtain ⟨j_14, hj_14, ej_14, h⟩ := h
          obtain ⟨S_15, eS_15⟩ : ∃ z : St, z = bw S 1 j_14 (S 13 j_13) := ⟨_, rfl⟩
          have h := h S_15 eS_15
          refine m_iast hx hb hK hP hS (k := 1) mok_1 ej_14 hj_14 dX7_undo_87 (fun H locs hP hS => ?_)
          rw [← eS_15] at hP
          obtain ⟨x2_16, ex2_16⟩ : ∃ y : Int32, y = x2 + 1 := ⟨_, rfl⟩
          have h := h x2_16 ex2_16
          refine lv_iinc (v := x2_16) (lv' := [(2, .int x2_16), (0, .ref b), (1, .int x1)]) hx hb dX7_undo_88 hl (k := 2) rfl (by rw [ex2_16]; rfl) (by decide) rfl (fun ls hl => ?_)
          refine lv_goto (tgt := 49) hx hb dX7_undo_91 (by decide) ?_
          obtain ⟨mm, hmm, h⟩ := h
          exact ih49 mm hmm _ _ _ _ _ hP hS (lv_sub hl [1, 2, 0] rfl) h
  unfold wp_undo at h
  refine lv_aload_n hx hb dX7_undo_0 rfl (lv_at hl 0 rfl) ?_
  refine lv_iconst (v := 0) hx hb dX7_undo_1 (by decide) ?_
  obtain ⟨S_19, eS_19⟩ : ∃ z : St, z = bw S 0 0 0 := ⟨_, rfl⟩
  have h := h S_19 eS_19
  refine m_put (S1 := S_19) (v := .int 0) (ty := .int) hx hb hts hown hK hP hS 0 (by decide) q1210 rfl rfl (tyX7_ok 0 (by decide)) rfl rfl (by rw [eS_19]; exact mset_0 b S 0) (by rw [eS_19]; exact bw_0) dX7_undo_2 (fun H locs hP hS => ?_)
  refine lv_aload_n hx hb dX7_undo_5 rfl (lv_at hl 0 rfl) ?_
  refine m_get (v := .int (S_19 0 14)) hx hb hts hown hK hP 14 (by decide) q1224 rfl rfl dX7_undo_6 ?_
  refine lv_if_eq (tgt := 19) hx hb dX7_undo_9 (by decide) (fun c_23 => ?_) (fun c_23 => ?_)
  · have h := h.1 c_23
    exact J19  _ _ _ _ h hP hS (lv_sub hl [0] rfl)
  · have h := h.2 c_23
    refine lv_aload_n hx hb dX7_undo_12 rfl (lv_at hl 0 rfl) ?_
    refine m_get (v := .int (S_19 0 45)) hx hb hts hown hK hP 45 (by decide) q1255 rfl rfl dX7_undo_13 ?_
    refine lv_if_ne (tgt := 27) hx hb dX7_undo_16 (by decide) (fun c_22 => ?_) (fun c_22 => ?_)
    · have h := h.1 c_22
      refine lv_aload_n hx hb dX7_undo_27 rfl (lv_at hl 0 rfl) ?_
      refine lv_dup hx hb dX7_undo_28 rfl ?_
      refine m_get (v := .int (S_19 0 45)) hx hb hts hown hK hP 45 (by decide) q1255 rfl rfl dX7_undo_29 ?_
      refine lv_iconst (v := 1) hx hb dX7_undo_32 (by decide) ?_
      refine lv_isub hx hb dX7_undo_33 ?_
      obtain ⟨S_20, eS_20⟩ : ∃ z : St, z = bw S_19 0 45 ((S_19 0 45) - 1) := ⟨_, rfl⟩
      have h := h S_20 eS_20
      refine m_put (S1 := S_20) (v := .int ((S_19 0 45) - 1)) (ty := .int) hx hb hts hown hK hP hS 45 (by decide) q1255 rfl rfl (tyX7_ok 45 (by decide)) rfl rfl (by rw [eS_20]; exact mset_45 b S_19 ((S_19 0 45) - 1)) (by rw [eS_20]; exact bw_0) dX7_undo_34 (fun H locs hP hS => ?_)
      refine lv_aload_n hx hb dX7_undo_37 rfl (lv_at hl 0 rfl) ?_
      refine m_get (v := .ref (b + 14)) hx hb hts hown hK hP 41 (by decide) q1251 rfl rfl dX7_undo_38 ?_
      refine lv_aload_n hx hb dX7_undo_41 rfl (lv_at hl 0 rfl) ?_
      refine m_get (v := .int (S_20 0 45)) hx hb hts hown hK hP 45 (by decide) q1255 rfl rfl dX7_undo_42 ?_
      obtain ⟨j_21, hj_21, ej_21, h⟩ := h
      refine m_iald hx hb hK hP (k := 14) mok_14 ej_21 hj_21 dX7_undo_45 ?_
      refine lv_istore_n (lv' := [(1, .int (S_20 14 j_21)), (0, .ref b)]) hx hb dX7_undo_46 rfl hl (by decide) rfl (fun ls hl => ?_)
      refine lv_iconst (v := 0) hx hb dX7_undo_47 (by decide) ?_
      refine lv_istore_n (lv' := [(2, .int 0), (1, .int (S_20 14 j_21)), (0, .ref b)]) hx hb dX7_undo_48 rfl hl (by decide) rfl (fun ls hl => ?_)
      exact L49 _ _ _ _ _ _ h hP hS (lv_sub hl [2, 1, 0] rfl)
    · have h := h.2 c_22
      exact J19  _ _ _ _ h hP hS (lv_sub hl [0] rfl)
def wp_constant_j59 (p1 : Int32) (post : Int32 → St → Prop)  (S : St) : Prop :=
    ∀ S_1 : St, S_1 = bw S 0 0 1 →
    post 0 S_1
def wp_constant_j53 (p1 : Int32) (post : Int32 → St → Prop) (R9 : Int32 → Int32 → Prop) (x2 : Int32) (x3 : Int32) (S : St) : Prop :=
        ∀ x3_2 : Int32, x3_2 = x3 + 1 →
        R9 x2 x3_2
def wp_constant_b9 (p1 : Int32) (post : Int32 → St → Prop) (R9 : Int32 → Int32 → Prop)  (x2 : Int32) (x3 : Int32) (S : St) : Prop :=
      (((S 0 14) = 0 →
        wp_constant_j59 p1 post  S) ∧
       (¬ ((S 0 14) = 0) →
        ((8 ≤ x3 →
          wp_constant_j59 p1 post  S) ∧
         (¬ (8 ≤ x3) →
          wp_termsOf x3 S (fun r_3 =>
          ((¬ r_3 = 1 →
            wp_constant_j53 p1 post R9 x2 x3 S) ∧
           (r_3 = 1 →
            wp_coef x3 0 S (fun r_5 =>
            ((¬ r_5 = 0 →
              ((¬ x2 = p1 →
                ∀ x2_7 : Int32, x2_7 = x2 + 1 →
                wp_constant_j53 p1 post R9 x2_7 x3 S) ∧
               (x2 = p1 →
                post x3 S))) ∧
             (r_5 = 0 →
              wp_constant_j53 p1 post R9 x2 x3 S))))))))))
def wp_constant_l9 (p1 : Int32) (post : Int32 → St → Prop)  (x2 : Int32) (x3 : Int32) (S : St) : Prop := wLoop (fun (R : (Int32 × Int32) → Prop) (v : Int32 × Int32) => wp_constant_b9 p1 post (fun x2 x3 => R (x2, x3))  v.1 v.2 S) (x2, x3)
def wp_constant (p1 : Int32) (S : St) (post : Int32 → St → Prop) : Prop :=
  ∀ S_13 : St, S_13 = bw S 0 0 0 →
  wp_constant_l9 p1 post 0 0 S_13
set_option maxHeartbeats 4000000 in
theorem met_constant (l : Launch) (D : va_G) (cI cB : ClassId) (b : Nat) (p1 : Int32)  (S : St) (post : Int32 → St → Prop) (h : wp_constant p1 S post) : Met l yX7_constant (ws_ yX7_constant cX7_constant 4 (some .int)) ({ frames := 2, cells := 0, slots := 0, locals := 45 } : Room) (mPc D cI cB b [.ref b, .int p1] S) (mQi D cI cB b post) 0 0 (mA b) := by
  refine Met.ofW (cc := cX7_constant) (maxL := 4) (ret := (some .int)) (by decide) rfl ?_
  intro p e s m args below meth c s₁ B hml hv
  obtain ⟨rfl, hP, hK⟩ := hv
  have hx := B.exec
  have hb := B.bytes
  have hr := B.returns
  have hts := atoms_spec (ws := ws_ yX7_constant cX7_constant 4 (some .int)) B.pre
  have hts : ∀ w ∈ lw_all, w.before _ s = true := fun w h => hts w (List.mem_cons_of_mem _ h)
  have hown : s.vm.findClass RX7 = some m.cls := findClass_of_methodNamed B.named
  have hlocks := B.notSynchronized
  have hS : va_S (mA b) s.heap s.heap [] := va_S.rf
  have hl := lv_entry ([.ref b, .int p1]) (n := 4) (Nat.le_of_ble_eq_true rfl)
  rw [lg_entry_eq]
  generalize (lg_sl ([.ref b, .int p1]) ++ List.replicate (4 - (lg_sl ([.ref b, .int p1])).length) Slot.unset).toArray = ls at hl ⊢
  have hl : lv_has ls 4 [(0, .ref b), (1, .int p1)] := hl
  have J59 : ∀  (S : St) (H : Heap) (locs : List Loc) (ls : Array Slot), wp_constant_j59 p1 post  S → mW D cI cB b S H → va_S (mA b) s.heap H locs → lv_has ls 4 [(0, .ref b)] → W p l e (headSpec (ws_ yX7_constant cX7_constant 4 (some .int)) ({ frames := 2, cells := 0, slots := 0, locals := 45 } : Room)).room s m ([.ref b, .int p1] : List Value).toArray below meth c H locs 0 0 (MQ below (mQi D cI cB b post) ([.ref b, .int p1] : List Value).toArray s 0 0 (mA b)) (F0 m 59 ls []) := by
    intro  S H locs ls h hP hS hl
    unfold wp_constant_j59 at h
    refine lv_aload_n hx hb dX7_constant_59 rfl (lv_at hl 0 rfl) ?_
    refine lv_iconst (v := 1) hx hb dX7_constant_60 (by decide) ?_
    obtain ⟨S_1, eS_1⟩ : ∃ z : St, z = bw S 0 0 1 := ⟨_, rfl⟩
    have h := h S_1 eS_1
    refine m_put (S1 := S_1) (v := .int 1) (ty := .int) hx hb hts hown hK hP hS 0 (by decide) q1210 rfl rfl (tyX7_ok 0 (by decide)) rfl rfl (by rw [eS_1]; exact mset_0 b S 1) (by rw [eS_1]; exact bw_0) dX7_constant_61 (fun H locs hP hS => ?_)
    refine lv_iconst (v := 0) hx hb dX7_constant_64 (by decide) ?_
    exact W.iret (v := 0) hx hb hr (fun t ht hW => ⟨⟨0, S_1, rfl, h, by rw [ht]; exact hP, va_K.moved hW.alike hK⟩, hS.F ht⟩) hS.2.2 dX7_constant_65
  have L9 : ∀  (x2 : Int32) (x3 : Int32) (S : St) (H : Heap) (locs : List Loc) (ls : Array Slot), wp_constant_l9 p1 post  x2 x3 S → mW D cI cB b S H → va_S (mA b) s.heap H locs → lv_has ls 4 [(0, .ref b), (1, .int p1), (2, .int x2), (3, .int x3)] → W p l e (headSpec (ws_ yX7_constant cX7_constant 4 (some .int)) ({ frames := 2, cells := 0, slots := 0, locals := 45 } : Room)).room s m ([.ref b, .int p1] : List Value).toArray below meth c H locs 0 0 (MQ below (mQi D cI cB b post) ([.ref b, .int p1] : List Value).toArray s 0 0 (mA b)) (F0 m 9 ls []) := by
    intro  x2 x3 S H locs ls h hP hS hl
    obtain ⟨I9, n9, hI, hstep9⟩ := h
    induction n9 using Nat.strongRecOn generalizing x2 x3 H locs ls with
    | ind n9 ih9 =>
      have h : wp_constant_b9 p1 post (fun x2 x3 => ∃ mm, mm < n9 ∧ I9 mm (x2, x3))  x2 x3 S := hstep9 n9 _ hI
      clear hI
      have J53 : ∀ (x2 : Int32) (x3 : Int32) (H : Heap) (locs : List Loc) (ls : Array Slot), wp_constant_j53 p1 post (fun x2 x3 => ∃ mm, mm < n9 ∧ I9 mm (x2, x3)) x2 x3 S → mW D cI cB b S H → va_S (mA b) s.heap H locs → lv_has ls 4 [(0, .ref b), (1, .int p1), (2, .int x2), (3, .int x3)] → W p l e (headSpec (ws_ yX7_constant cX7_constant 4 (some .int)) ({ frames := 2, cells := 0, slots := 0, locals := 45 } : Room)).room s m ([.ref b, .int p1] : List Value).toArray below meth c H locs 0 0 (MQ below (mQi D cI cB b post) ([.ref b, .int p1] : List Value).toArray s 0 0 (mA b)) (F0 m 53 ls []) := by
        intro x2 x3  H locs ls h hP hS hl
        unfold wp_constant_j53 at h
        obtain ⟨x3_2, ex3_2⟩ : ∃ y : Int32, y = x3 + 1 := ⟨_, rfl⟩
        have h := h x3_2 ex3_2
        refine lv_iinc (v := x3_2) (lv' := [(3, .int x3_2), (0, .ref b), (1, .int p1), (2, .int x2)]) hx hb dX7_constant_53 hl (k := 3) rfl (by rw [ex3_2]; rfl) (by decide) rfl (fun ls hl => ?_)
        refine lv_goto (tgt := 9) hx hb dX7_constant_56 (by decide) ?_
        obtain ⟨mm, hmm, h⟩ := h
        exact ih9 mm hmm _ _ _ _ _ hP hS (lv_sub hl [1, 2, 3, 0] rfl) h
      unfold wp_constant_b9 at h
      refine lv_aload_n hx hb dX7_constant_9 rfl (lv_at hl 0 rfl) ?_
      refine m_get (v := .int (S 0 14)) hx hb hts hown hK hP 14 (by decide) q1224 rfl rfl dX7_constant_10 ?_
      refine lv_if_eq (tgt := 59) hx hb dX7_constant_13 (by decide) (fun c_12 => ?_) (fun c_12 => ?_)
      · have h := h.1 c_12
        exact J59  _ _ _ _ h hP hS (lv_sub hl [0] rfl)
      · have h := h.2 c_12
        refine lv_iload_n hx hb dX7_constant_16 rfl (lv_at hl 3 rfl) ?_
        refine lv_bipush (v := 8) hx hb dX7_constant_17 (by decide) ?_
        refine lv_icmp_ge (tgt := 59) hx hb dX7_constant_19 (by decide) (fun c_11 => ?_) (fun c_11 => ?_)
        · have h := h.1 c_11
          exact J59  _ _ _ _ h hP hS (lv_sub hl [0] rfl)
        · have h := h.2 c_11
          refine lv_aload_n hx hb dX7_constant_22 rfl (lv_at hl 0 rfl) ?_
          refine lv_iload_n hx hb dX7_constant_23 rfl (lv_at hl 3 rfl) ?_
          refine m_cVp (As := [.int x3]) (rest := []) ⟨hx, hb, hml, hown, hts⟩ (met_termsOf l D cI cB b x3  S _ h) (cwV 1 hts (lw_V q1522 q1524 qs79 q128 q1525) rfl rfl rfl cwd_termsOf ⟨Nat.le_of_ble_eq_true rfl, Nat.le_of_ble_eq_true rfl⟩) hK hP hS rfl hl.1 rfl (Nat.le_of_ble_eq_true rfl) dX7_constant_24 ⟨Nat.zero_le _, Nat.zero_le _⟩ (fun r_3 H locs h hP hS => ?_)
          refine lv_iconst (v := 1) hx hb dX7_constant_27 (by decide) ?_
          refine lv_icmp_ne (tgt := 53) hx hb dX7_constant_28 (by decide) (fun c_10 => ?_) (fun c_10 => ?_)
          · have h := h.1 c_10
            exact J53 _ _  _ _ _ h hP hS (lv_sub hl [0, 1, 2, 3] rfl)
          · have h := h.2 c_10
            refine lv_aload_n hx hb dX7_constant_31 rfl (lv_at hl 0 rfl) ?_
            refine lv_iload_n hx hb dX7_constant_32 rfl (lv_at hl 3 rfl) ?_
            refine lv_iconst (v := 0) hx hb dX7_constant_33 (by decide) ?_
            refine m_cVp (As := [.int x3, .int 0]) (rest := []) ⟨hx, hb, hml, hown, hts⟩ (met_coef l D cI cB b x3 0  S _ h) (cwV 2 hts (lw_V q1526 q1528 qs80 q128 q1529) rfl rfl rfl cwd_coef ⟨Nat.le_of_ble_eq_true rfl, Nat.le_of_ble_eq_true rfl⟩) hK hP hS rfl hl.1 rfl (Nat.le_of_ble_eq_true rfl) dX7_constant_34 ⟨Nat.zero_le _, Nat.zero_le _⟩ (fun r_5 H locs h hP hS => ?_)
            refine lv_if_ne (tgt := 43) hx hb dX7_constant_37 (by decide) (fun c_9 => ?_) (fun c_9 => ?_)
            · have h := h.1 c_9
              refine lv_iload_n hx hb dX7_constant_43 rfl (lv_at hl 2 rfl) ?_
              refine lv_iload_n hx hb dX7_constant_44 rfl (lv_at hl 1 rfl) ?_
              refine lv_icmp_ne (tgt := 50) hx hb dX7_constant_45 (by decide) (fun c_8 => ?_) (fun c_8 => ?_)
              · have h := h.1 c_8
                obtain ⟨x2_7, ex2_7⟩ : ∃ y : Int32, y = x2 + 1 := ⟨_, rfl⟩
                have h := h x2_7 ex2_7
                refine lv_iinc (v := x2_7) (lv' := [(2, .int x2_7), (0, .ref b), (1, .int p1), (3, .int x3)]) hx hb dX7_constant_50 hl (k := 2) rfl (by rw [ex2_7]; rfl) (by decide) rfl (fun ls hl => ?_)
                exact J53 _ _  _ _ _ h hP hS (lv_sub hl [1, 2, 0, 3] rfl)
              · have h := h.2 c_8
                refine lv_iload_n hx hb dX7_constant_48 rfl (lv_at hl 3 rfl) ?_
                exact W.iret (v := x3) hx hb hr (fun t ht hW => ⟨⟨x3, S, rfl, h, by rw [ht]; exact hP, va_K.moved hW.alike hK⟩, hS.F ht⟩) hS.2.2 dX7_constant_49
            · have h := h.2 c_9
              refine lv_goto (tgt := 53) hx hb dX7_constant_40 (by decide) ?_
              exact J53 _ _  _ _ _ h hP hS (lv_sub hl [0, 1, 2, 3] rfl)
  unfold wp_constant at h
  refine lv_aload_n hx hb dX7_constant_0 rfl (lv_at hl 0 rfl) ?_
  refine lv_iconst (v := 0) hx hb dX7_constant_1 (by decide) ?_
  obtain ⟨S_13, eS_13⟩ : ∃ z : St, z = bw S 0 0 0 := ⟨_, rfl⟩
  have h := h S_13 eS_13
  refine m_put (S1 := S_13) (v := .int 0) (ty := .int) hx hb hts hown hK hP hS 0 (by decide) q1210 rfl rfl (tyX7_ok 0 (by decide)) rfl rfl (by rw [eS_13]; exact mset_0 b S 0) (by rw [eS_13]; exact bw_0) dX7_constant_2 (fun H locs hP hS => ?_)
  refine lv_iconst (v := 0) hx hb dX7_constant_5 (by decide) ?_
  refine lv_istore_n (lv' := [(2, .int 0), (0, .ref b), (1, .int p1)]) hx hb dX7_constant_6 rfl hl (by decide) rfl (fun ls hl => ?_)
  refine lv_iconst (v := 0) hx hb dX7_constant_7 (by decide) ?_
  refine lv_istore_n (lv' := [(3, .int 0), (2, .int 0), (0, .ref b), (1, .int p1)]) hx hb dX7_constant_8 rfl hl (by decide) rfl (fun ls hl => ?_)
  exact L9 _ _ _ _ _ _ h hP hS (lv_sub hl [2, 3, 1, 0] rfl)
def wp_allTerms_b4  (post : Int32 → Prop) (R4 : Int32 → Int32 → Prop)  (x1 : Int32) (x2 : Int32) (S : St) : Prop :=
      ((8 ≤ x2 →
        post x1) ∧
       (¬ (8 ≤ x2) →
        wp_termsOf x2 S (fun r_1 =>
        ∀ x1_3 : Int32, x1_3 = (x1 + r_1) →
        ∀ x2_4 : Int32, x2_4 = x2 + 1 →
        R4 x1_3 x2_4)))
def wp_allTerms_l4  (post : Int32 → Prop)  (x1 : Int32) (x2 : Int32) (S : St) : Prop := wLoop (fun (R : (Int32 × Int32) → Prop) (v : Int32 × Int32) => wp_allTerms_b4  post (fun x1 x2 => R (x1, x2))  v.1 v.2 S) (x1, x2)
def wp_allTerms  (S : St) (post : Int32 → Prop) : Prop :=
  wp_allTerms_l4  post 0 0 S
set_option maxHeartbeats 4000000 in
theorem met_allTerms (l : Launch) (D : va_G) (cI cB : ClassId) (b : Nat)   (S : St) (post : Int32 → Prop) (h : wp_allTerms  S post) : Met l yX7_allTerms (ws_ yX7_allTerms cX7_allTerms 3 (some .int)) ({ frames := 2, cells := 0, slots := 0, locals := 45 } : Room) (mPc D cI cB b [.ref b] S) (mQp D cI cB b S post) 0 0 (mA b) := by
  refine Met.ofW (cc := cX7_allTerms) (maxL := 3) (ret := (some .int)) (by decide) rfl ?_
  intro p e s m args below meth c s₁ B hml hv
  obtain ⟨rfl, hP, hK⟩ := hv
  have hx := B.exec
  have hb := B.bytes
  have hr := B.returns
  have hts := atoms_spec (ws := ws_ yX7_allTerms cX7_allTerms 3 (some .int)) B.pre
  have hts : ∀ w ∈ lw_all, w.before _ s = true := fun w h => hts w (List.mem_cons_of_mem _ h)
  have hown : s.vm.findClass RX7 = some m.cls := findClass_of_methodNamed B.named
  have hlocks := B.notSynchronized
  have hS : va_S (mA b) s.heap s.heap [] := va_S.rf
  have hl := lv_entry ([.ref b]) (n := 3) (Nat.le_of_ble_eq_true rfl)
  rw [lg_entry_eq]
  generalize (lg_sl ([.ref b]) ++ List.replicate (3 - (lg_sl ([.ref b])).length) Slot.unset).toArray = ls at hl ⊢
  have hl : lv_has ls 3 [(0, .ref b)] := hl
  have L4 : ∀  (x1 : Int32) (x2 : Int32) (H : Heap) (locs : List Loc) (ls : Array Slot), wp_allTerms_l4  post  x1 x2 S → mW D cI cB b S H → va_S (mA b) s.heap H locs → lv_has ls 3 [(0, .ref b), (1, .int x1), (2, .int x2)] → W p l e (headSpec (ws_ yX7_allTerms cX7_allTerms 3 (some .int)) ({ frames := 2, cells := 0, slots := 0, locals := 45 } : Room)).room s m ([.ref b] : List Value).toArray below meth c H locs 0 0 (MQ below (mQp D cI cB b S post) ([.ref b] : List Value).toArray s 0 0 (mA b)) (F0 m 4 ls []) := by
    intro  x1 x2  H locs ls h hP hS hl
    obtain ⟨I4, n4, hI, hstep4⟩ := h
    induction n4 using Nat.strongRecOn generalizing x1 x2 H locs ls with
    | ind n4 ih4 =>
      have h : wp_allTerms_b4  post (fun x1 x2 => ∃ mm, mm < n4 ∧ I4 mm (x1, x2))  x1 x2 S := hstep4 n4 _ hI
      clear hI
      unfold wp_allTerms_b4 at h
      refine lv_iload_n hx hb dX7_allTerms_4 rfl (lv_at hl 2 rfl) ?_
      refine lv_bipush (v := 8) hx hb dX7_allTerms_5 (by decide) ?_
      refine lv_icmp_ge (tgt := 24) hx hb dX7_allTerms_7 (by decide) (fun c_5 => ?_) (fun c_5 => ?_)
      · have h := h.1 c_5
        refine lv_iload_n hx hb dX7_allTerms_24 rfl (lv_at hl 1 rfl) ?_
        exact W.iret (v := x1) hx hb hr (fun t ht hW => ⟨⟨x1, (), rfl, h, by rw [ht]; exact hP, va_K.moved hW.alike hK⟩, hS.F ht⟩) hS.2.2 dX7_allTerms_25
      · have h := h.2 c_5
        refine lv_iload_n hx hb dX7_allTerms_10 rfl (lv_at hl 1 rfl) ?_
        refine lv_aload_n hx hb dX7_allTerms_11 rfl (lv_at hl 0 rfl) ?_
        refine lv_iload_n hx hb dX7_allTerms_12 rfl (lv_at hl 2 rfl) ?_
        refine m_cVp (As := [.int x2]) (rest := [.int x1]) ⟨hx, hb, hml, hown, hts⟩ (met_termsOf l D cI cB b x2  S _ h) (cwV 1 hts (lw_V q1522 q1524 qs79 q128 q1525) rfl rfl rfl cwd_termsOf ⟨Nat.le_of_ble_eq_true rfl, Nat.le_of_ble_eq_true rfl⟩) hK hP hS rfl hl.1 rfl (Nat.le_of_ble_eq_true rfl) dX7_allTerms_13 ⟨Nat.zero_le _, Nat.zero_le _⟩ (fun r_1 H locs h hP hS => ?_)
        refine lv_iadd hx hb dX7_allTerms_16 ?_
        refine lv_topi (fun x1_3 ex1_3 => ?_)
        have h := h x1_3 ex1_3
        refine lv_istore_n (lv' := [(1, .int x1_3), (0, .ref b), (2, .int x2)]) hx hb dX7_allTerms_17 rfl hl (by decide) rfl (fun ls hl => ?_)
        obtain ⟨x2_4, ex2_4⟩ : ∃ y : Int32, y = x2 + 1 := ⟨_, rfl⟩
        have h := h x2_4 ex2_4
        refine lv_iinc (v := x2_4) (lv' := [(2, .int x2_4), (1, .int x1_3), (0, .ref b)]) hx hb dX7_allTerms_18 hl (k := 2) rfl (by rw [ex2_4]; rfl) (by decide) rfl (fun ls hl => ?_)
        refine lv_goto (tgt := 4) hx hb dX7_allTerms_21 (by decide) ?_
        obtain ⟨mm, hmm, h⟩ := h
        exact ih4 mm hmm _ _ _ _ _ hP hS (lv_sub hl [2, 1, 0] rfl) h
  unfold wp_allTerms at h
  refine lv_iconst (v := 0) hx hb dX7_allTerms_0 (by decide) ?_
  refine lv_istore_n (lv' := [(1, .int 0), (0, .ref b)]) hx hb dX7_allTerms_1 rfl hl (by decide) rfl (fun ls hl => ?_)
  refine lv_iconst (v := 0) hx hb dX7_allTerms_2 (by decide) ?_
  refine lv_istore_n (lv' := [(2, .int 0), (1, .int 0), (0, .ref b)]) hx hb dX7_allTerms_3 rfl hl (by decide) rfl (fun ls hl => ?_)
  exact L4 _ _  _ _ _ h hP hS (lv_sub hl [2, 1, 0] rfl)
def wp_size (p1 : Int32) (S : St) (post : Int32 → St → Prop) : Prop :=
  ∀ S_1 : St, S_1 = bw S 0 0 0 →
  ((p1.toInt = 0 →
    post (S_1 0 16) S_1) ∧
   (p1.toInt = 1 →
    (((S_1 0 14) = 0 →
      post 0 S_1) ∧
     (¬ ((S_1 0 14) = 0) →
      post (S_1 0 45) S_1))) ∧
   (p1.toInt = 2 →
    (((S_1 0 14) = 0 →
      post 0 S_1) ∧
     (¬ ((S_1 0 14) = 0) →
      wp_allTerms  S_1 (fun r_3 =>
      post r_3 S_1)))) ∧
   (p1.toInt < 0 ∨ 2 < p1.toInt →
    post (-1) S_1))
set_option maxHeartbeats 4000000 in
theorem met_size (l : Launch) (D : va_G) (cI cB : ClassId) (b : Nat) (p1 : Int32)  (S : St) (post : Int32 → St → Prop) (h : wp_size p1 S post) : Met l yX7_size (ws_ yX7_size cX7_size 2 (some .int)) ({ frames := 3, cells := 0, slots := 0, locals := 67 } : Room) (mPc D cI cB b [.ref b, .int p1] S) (mQi D cI cB b post) 0 0 (mA b) := by
  refine Met.ofW (cc := cX7_size) (maxL := 2) (ret := (some .int)) (by decide) rfl ?_
  intro p e s m args below meth c s₁ B hml hv
  obtain ⟨rfl, hP, hK⟩ := hv
  have hx := B.exec
  have hb := B.bytes
  have hr := B.returns
  have hts := atoms_spec (ws := ws_ yX7_size cX7_size 2 (some .int)) B.pre
  have hts : ∀ w ∈ lw_all, w.before _ s = true := fun w h => hts w (List.mem_cons_of_mem _ h)
  have hown : s.vm.findClass RX7 = some m.cls := findClass_of_methodNamed B.named
  have hlocks := B.notSynchronized
  have hS : va_S (mA b) s.heap s.heap [] := va_S.rf
  have hl := lv_entry ([.ref b, .int p1]) (n := 2) (Nat.le_of_ble_eq_true rfl)
  rw [lg_entry_eq]
  generalize (lg_sl ([.ref b, .int p1]) ++ List.replicate (2 - (lg_sl ([.ref b, .int p1])).length) Slot.unset).toArray = ls at hl ⊢
  have hl : lv_has ls 2 [(0, .ref b), (1, .int p1)] := hl
  unfold wp_size at h
  refine lv_aload_n hx hb dX7_size_0 rfl (lv_at hl 0 rfl) ?_
  refine lv_iconst (v := 0) hx hb dX7_size_1 (by decide) ?_
  obtain ⟨S_1, eS_1⟩ : ∃ z : St, z = bw S 0 0 0 := ⟨_, rfl⟩
  have h := h S_1 eS_1
  refine m_put (S1 := S_1) (v := .int 0) (ty := .int) hx hb hts hown hK hP hS 0 (by decide) q1210 rfl rfl (tyX7_ok 0 (by decide)) rfl rfl (by rw [eS_1]; exact mset_0 b S 0) (by rw [eS_1]; exact bw_0) dX7_size_2 (fun H locs hP hS => ?_)
  refine lv_iload_n hx hb dX7_size_5 rfl (lv_at hl 1 rfl) ?_
  obtain ⟨ht0, ht1, ht2, ht3⟩ := h
  by_cases c_6 : p1.toInt < 0 ∨ 2 < p1.toInt
  · have h := ht3 c_6
    refine lv_tableOut (tgt := 69) hx hb dX7_size_6 c_6 (by decide) ?_
    refine lv_iconst (v := (-1)) hx hb dX7_size_69 (by decide) ?_
    exact W.iret (v := (-1)) hx hb hr (fun t ht hW => ⟨⟨(-1), S_1, rfl, h, by rw [ht]; exact hP, va_K.moved hW.alike hK⟩, hS.F ht⟩) hS.2.2 dX7_size_70
  have c_6x : p1.toInt = 0 ∨ p1.toInt = 1 ∨ p1.toInt = 2 := by omega
  rcases c_6x with c_6x | c_6x | c_6x
  · have h := ht0 c_6x
    refine lv_tableIn (off := 26) (tgt := 32) hx hb dX7_size_6 (by omega) (by omega) (by rw [c_6x]; rfl) (by decide) ?_
    refine lv_aload_n hx hb dX7_size_32 rfl (lv_at hl 0 rfl) ?_
    refine m_get (v := .int (S_1 0 16)) hx hb hts hown hK hP 16 (by decide) q1226 rfl rfl dX7_size_33 ?_
    exact W.iret (v := (S_1 0 16)) hx hb hr (fun t ht hW => ⟨⟨(S_1 0 16), S_1, rfl, h, by rw [ht]; exact hP, va_K.moved hW.alike hK⟩, hS.F ht⟩) hS.2.2 dX7_size_36
  · have h := ht1 c_6x
    refine lv_tableIn (off := 31) (tgt := 37) hx hb dX7_size_6 (by omega) (by omega) (by rw [c_6x]; rfl) (by decide) ?_
    refine lv_aload_n hx hb dX7_size_37 rfl (lv_at hl 0 rfl) ?_
    refine m_get (v := .int (S_1 0 14)) hx hb hts hown hK hP 14 (by decide) q1224 rfl rfl dX7_size_38 ?_
    refine lv_if_eq (tgt := 51) hx hb dX7_size_41 (by decide) (fun c_2 => ?_) (fun c_2 => ?_)
    · have h := h.1 c_2
      refine lv_iconst (v := 0) hx hb dX7_size_51 (by decide) ?_
      exact W.iret (v := 0) hx hb hr (fun t ht hW => ⟨⟨0, S_1, rfl, h, by rw [ht]; exact hP, va_K.moved hW.alike hK⟩, hS.F ht⟩) hS.2.2 dX7_size_52
    · have h := h.2 c_2
      refine lv_aload_n hx hb dX7_size_44 rfl (lv_at hl 0 rfl) ?_
      refine m_get (v := .int (S_1 0 45)) hx hb hts hown hK hP 45 (by decide) q1255 rfl rfl dX7_size_45 ?_
      refine lv_goto (tgt := 52) hx hb dX7_size_48 (by decide) ?_
      exact W.iret (v := (S_1 0 45)) hx hb hr (fun t ht hW => ⟨⟨(S_1 0 45), S_1, rfl, h, by rw [ht]; exact hP, va_K.moved hW.alike hK⟩, hS.F ht⟩) hS.2.2 dX7_size_52
  · have h := ht2 c_6x
    refine lv_tableIn (off := 47) (tgt := 53) hx hb dX7_size_6 (by omega) (by omega) (by rw [c_6x]; rfl) (by decide) ?_
    refine lv_aload_n hx hb dX7_size_53 rfl (lv_at hl 0 rfl) ?_
    refine m_get (v := .int (S_1 0 14)) hx hb hts hown hK hP 14 (by decide) q1224 rfl rfl dX7_size_54 ?_
    refine lv_if_eq (tgt := 67) hx hb dX7_size_57 (by decide) (fun c_5 => ?_) (fun c_5 => ?_)
    · have h := h.1 c_5
      refine lv_iconst (v := 0) hx hb dX7_size_67 (by decide) ?_
      exact W.iret (v := 0) hx hb hr (fun t ht hW => ⟨⟨0, S_1, rfl, h, by rw [ht]; exact hP, va_K.moved hW.alike hK⟩, hS.F ht⟩) hS.2.2 dX7_size_68
    · have h := h.2 c_5
      refine lv_aload_n hx hb dX7_size_60 rfl (lv_at hl 0 rfl) ?_
      refine m_cVp (As := []) (rest := []) ⟨hx, hb, hml, hown, hts⟩ (met_allTerms l D cI cB b   S_1 _ h) (cwV 0 hts (lw_V q1834 q1836 qs116 q128 q1837) rfl rfl rfl cwd_allTerms ⟨Nat.le_of_ble_eq_true rfl, Nat.le_of_ble_eq_true rfl⟩) hK hP hS rfl hl.1 rfl (Nat.le_of_ble_eq_true rfl) dX7_size_61 ⟨Nat.zero_le _, Nat.zero_le _⟩ (fun r_3 H locs h hP hS => ?_)
      refine lv_goto (tgt := 68) hx hb dX7_size_64 (by decide) ?_
      exact W.iret (v := r_3) hx hb hr (fun t ht hW => ⟨⟨r_3, S_1, rfl, h, by rw [ht]; exact hP, va_K.moved hW.alike hK⟩, hS.F ht⟩) hS.2.2 dX7_size_68
def wp_trouble  (S : St) (post : Int32 → St → Prop) : Prop :=
  ∀ S_1 : St, S_1 = bw S 0 0 0 →
  post (S_1 0 1) S_1
set_option maxHeartbeats 4000000 in
theorem met_trouble (l : Launch) (D : va_G) (cI cB : ClassId) (b : Nat)   (S : St) (post : Int32 → St → Prop) (h : wp_trouble  S post) : Met l yX7_trouble (ws_ yX7_trouble cX7_trouble 1 (some .int)) ({ frames := 0, cells := 0, slots := 0, locals := 0 } : Room) (mPc D cI cB b [.ref b] S) (mQi D cI cB b post) 0 0 (mA b) := by
  refine Met.ofW (cc := cX7_trouble) (maxL := 1) (ret := (some .int)) (by decide) rfl ?_
  intro p e s m args below meth c s₁ B hml hv
  obtain ⟨rfl, hP, hK⟩ := hv
  have hx := B.exec
  have hb := B.bytes
  have hr := B.returns
  have hts := atoms_spec (ws := ws_ yX7_trouble cX7_trouble 1 (some .int)) B.pre
  have hts : ∀ w ∈ lw_all, w.before _ s = true := fun w h => hts w (List.mem_cons_of_mem _ h)
  have hown : s.vm.findClass RX7 = some m.cls := findClass_of_methodNamed B.named
  have hlocks := B.notSynchronized
  have hS : va_S (mA b) s.heap s.heap [] := va_S.rf
  have hl := lv_entry ([.ref b]) (n := 1) (Nat.le_of_ble_eq_true rfl)
  rw [lg_entry_eq]
  generalize (lg_sl ([.ref b]) ++ List.replicate (1 - (lg_sl ([.ref b])).length) Slot.unset).toArray = ls at hl ⊢
  have hl : lv_has ls 1 [(0, .ref b)] := hl
  unfold wp_trouble at h
  refine lv_aload_n hx hb dX7_trouble_0 rfl (lv_at hl 0 rfl) ?_
  refine lv_iconst (v := 0) hx hb dX7_trouble_1 (by decide) ?_
  obtain ⟨S_1, eS_1⟩ : ∃ z : St, z = bw S 0 0 0 := ⟨_, rfl⟩
  have h := h S_1 eS_1
  refine m_put (S1 := S_1) (v := .int 0) (ty := .int) hx hb hts hown hK hP hS 0 (by decide) q1210 rfl rfl (tyX7_ok 0 (by decide)) rfl rfl (by rw [eS_1]; exact mset_0 b S 0) (by rw [eS_1]; exact bw_0) dX7_trouble_2 (fun H locs hP hS => ?_)
  refine lv_aload_n hx hb dX7_trouble_5 rfl (lv_at hl 0 rfl) ?_
  refine m_get (v := .int (S_1 0 1)) hx hb hts hown hK hP 1 (by decide) q1211 rfl rfl dX7_trouble_6 ?_
  exact W.iret (v := (S_1 0 1)) hx hb hr (fun t ht hW => ⟨⟨(S_1 0 1), S_1, rfl, h, by rw [ht]; exact hP, va_K.moved hW.alike hK⟩, hS.F ht⟩) hS.2.2 dX7_trouble_9
