set_option maxRecDepth 100000
def wp_thrown  (S : St) (post : Int32 → Prop) : Prop :=
  post (S 0 0)
set_option maxHeartbeats 4000000 in
theorem met_thrown (l : Launch) (D : va_G) (cI cB : ClassId) (b : Nat)   (S : St) (post : Int32 → Prop) (h : wp_thrown  S post) : Met l yX7_thrown (ws_ yX7_thrown cX7_thrown 1 (some .int)) ({ frames := 0, cells := 0, slots := 0, locals := 0 } : Room) (mPc D cI cB b [.ref b] S) (mQp D cI cB b S post) 0 0 (mA b) := by
  refine Met.ofW (cc := cX7_thrown) (maxL := 1) (ret := (some .int)) (by decide) rfl ?_
  intro p e s m args below meth c s₁ B hml hv
  obtain ⟨rfl, hP, hK⟩ := hv
  have hx := B.exec
  have hb := B.bytes
  have hr := B.returns
  have hts := atoms_spec (ws := ws_ yX7_thrown cX7_thrown 1 (some .int)) B.pre
  have hts : ∀ w ∈ lw_all, w.before _ s = true := fun w h => hts w (List.mem_cons_of_mem _ h)
  have hown : s.vm.findClass RX7 = some m.cls := findClass_of_methodNamed B.named
  have hlocks := B.notSynchronized
  have hS : va_S (mA b) s.heap s.heap [] := va_S.rf
  have hl := lv_entry ([.ref b]) (n := 1) (Nat.le_of_ble_eq_true rfl)
  rw [lg_entry_eq]
  generalize (lg_sl ([.ref b]) ++ List.replicate (1 - (lg_sl ([.ref b])).length) Slot.unset).toArray = ls at hl ⊢
  have hl : lv_has ls 1 [(0, .ref b)] := hl
  unfold wp_thrown at h
  refine lv_aload_n hx hb dX7_thrown_0 rfl (lv_at hl 0 rfl) ?_
  refine m_get (v := .int (S 0 0)) hx hb hts hown hK hP 0 (by decide) q1210 rfl rfl dX7_thrown_1 ?_
  exact W.iret (v := (S 0 0)) hx hb hr (fun t ht hW => ⟨⟨(S 0 0), (), rfl, h, by rw [ht]; exact hP, va_K.moved hW.alike hK⟩, hS.F ht⟩) hS.2.2 dX7_thrown_4
def wp_feed_j78 (p1 : Int32) (p2 : Int32) (p3 : Int32) (p4 : Int32) (p5 : Int32) (post : Int32 → St → Prop) (R23 : Int32 → St → Prop) (x6 : Int32) (x7 : Int32) (S : St) : Prop :=
        ∃ j_1 : Nat, j_1 < 700 ∧ (S 0 16) = nI j_1 ∧ ∀ S_2 : St, S_2 = bw S 3 j_1 (((jshr x7 (24 - (8 * (jrem x6 4)))).toInt8.toInt32).toInt8.toInt32) →
        ∀ S_3 : St, S_3 = bw S_2 0 16 ((S_2 0 16) + 1) →
        ∀ x6_4 : Int32, x6_4 = x6 + 1 →
        R23 x6_4 S_3
def wp_feed_b23 (p1 : Int32) (p2 : Int32) (p3 : Int32) (p4 : Int32) (p5 : Int32) (post : Int32 → St → Prop) (R23 : Int32 → St → Prop)  (x6 : Int32) (S : St) : Prop :=
      ((20 ≤ x6 →
        post (S 0 16) S) ∧
       (¬ (20 ≤ x6) →
        ((4 ≤ x6 →
          ((8 ≤ x6 →
            ((12 ≤ x6 →
              ((16 ≤ x6 →
                wp_feed_j78 p1 p2 p3 p4 p5 post R23 x6 p5 S) ∧
               (¬ (16 ≤ x6) →
                wp_feed_j78 p1 p2 p3 p4 p5 post R23 x6 p4 S))) ∧
             (¬ (12 ≤ x6) →
              wp_feed_j78 p1 p2 p3 p4 p5 post R23 x6 p3 S))) ∧
           (¬ (8 ≤ x6) →
            wp_feed_j78 p1 p2 p3 p4 p5 post R23 x6 p2 S))) ∧
         (¬ (4 ≤ x6) →
          wp_feed_j78 p1 p2 p3 p4 p5 post R23 x6 p1 S))))
def wp_feed_l23 (p1 : Int32) (p2 : Int32) (p3 : Int32) (p4 : Int32) (p5 : Int32) (post : Int32 → St → Prop)  (x6 : Int32) (S : St) : Prop := wLoop (fun (R : (Int32 × St) → Prop) (v : Int32 × St) => wp_feed_b23 p1 p2 p3 p4 p5 post (fun x6 S => R (x6, S))  v.1 v.2) (x6, S)
def wp_feed (p1 : Int32) (p2 : Int32) (p3 : Int32) (p4 : Int32) (p5 : Int32) (S : St) (post : Int32 → St → Prop) : Prop :=
  ∀ S_10 : St, S_10 = bw S 0 0 0 →
  ((((S_10 0 16) + 20) ≤ 700 →
    wp_feed_l23 p1 p2 p3 p4 p5 post 0 S_10) ∧
   (¬ (((S_10 0 16) + 20) ≤ 700) →
    post (-1) S_10))
set_option maxHeartbeats 4000000 in
theorem met_feed (l : Launch) (D : va_G) (cI cB : ClassId) (b : Nat) (p1 : Int32) (p2 : Int32) (p3 : Int32) (p4 : Int32) (p5 : Int32)  (S : St) (post : Int32 → St → Prop) (h : wp_feed p1 p2 p3 p4 p5 S post) : Met l yX7_feed (ws_ yX7_feed cX7_feed 8 (some .int)) ({ frames := 0, cells := 0, slots := 0, locals := 0 } : Room) (mPc D cI cB b [.ref b, .int p1, .int p2, .int p3, .int p4, .int p5] S) (mQi D cI cB b post) 0 0 (mA b) := by
  refine Met.ofW (cc := cX7_feed) (maxL := 8) (ret := (some .int)) (by decide) rfl ?_
  intro p e s m args below meth c s₁ B hml hv
  obtain ⟨rfl, hP, hK⟩ := hv
  have hx := B.exec
  have hb := B.bytes
  have hr := B.returns
  have hts := atoms_spec (ws := ws_ yX7_feed cX7_feed 8 (some .int)) B.pre
  have hts : ∀ w ∈ lw_all, w.before _ s = true := fun w h => hts w (List.mem_cons_of_mem _ h)
  have hown : s.vm.findClass RX7 = some m.cls := findClass_of_methodNamed B.named
  have hlocks := B.notSynchronized
  have hS : va_S (mA b) s.heap s.heap [] := va_S.rf
  have hl := lv_entry ([.ref b, .int p1, .int p2, .int p3, .int p4, .int p5]) (n := 8) (Nat.le_of_ble_eq_true rfl)
  rw [lg_entry_eq]
  generalize (lg_sl ([.ref b, .int p1, .int p2, .int p3, .int p4, .int p5]) ++ List.replicate (8 - (lg_sl ([.ref b, .int p1, .int p2, .int p3, .int p4, .int p5])).length) Slot.unset).toArray = ls at hl ⊢
  have hl : lv_has ls 8 [(0, .ref b), (1, .int p1), (2, .int p2), (3, .int p3), (4, .int p4), (5, .int p5)] := hl
  have L23 : ∀  (x6 : Int32) (S : St) (H : Heap) (locs : List Loc) (ls : Array Slot), wp_feed_l23 p1 p2 p3 p4 p5 post  x6 S → mW D cI cB b S H → va_S (mA b) s.heap H locs → lv_has ls 8 [(0, .ref b), (1, .int p1), (2, .int p2), (3, .int p3), (4, .int p4), (5, .int p5), (6, .int x6)] → W p l e (headSpec (ws_ yX7_feed cX7_feed 8 (some .int)) ({ frames := 0, cells := 0, slots := 0, locals := 0 } : Room)).room s m ([.ref b, .int p1, .int p2, .int p3, .int p4, .int p5] : List Value).toArray below meth c H locs 0 0 (MQ below (mQi D cI cB b post) ([.ref b, .int p1, .int p2, .int p3, .int p4, .int p5] : List Value).toArray s 0 0 (mA b)) (F0 m 23 ls []) := by
    intro  x6 S H locs ls h hP hS hl
    obtain ⟨I23, n23, hI, hstep23⟩ := h
    induction n23 using Nat.strongRecOn generalizing x6 S H locs ls with
    | ind n23 ih23 =>
      have h : wp_feed_b23 p1 p2 p3 p4 p5 post (fun x6 S => ∃ mm, mm < n23 ∧ I23 mm (x6, S))  x6 S := hstep23 n23 _ hI
      clear hI
      have J78 : ∀ (x6 : Int32) (x7 : Int32) (S : St) (H : Heap) (locs : List Loc) (ls : Array Slot), wp_feed_j78 p1 p2 p3 p4 p5 post (fun x6 S => ∃ mm, mm < n23 ∧ I23 mm (x6, S)) x6 x7 S → mW D cI cB b S H → va_S (mA b) s.heap H locs → lv_has ls 8 [(0, .ref b), (1, .int p1), (2, .int p2), (3, .int p3), (4, .int p4), (5, .int p5), (6, .int x6), (7, .int x7)] → W p l e (headSpec (ws_ yX7_feed cX7_feed 8 (some .int)) ({ frames := 0, cells := 0, slots := 0, locals := 0 } : Room)).room s m ([.ref b, .int p1, .int p2, .int p3, .int p4, .int p5] : List Value).toArray below meth c H locs 0 0 (MQ below (mQi D cI cB b post) ([.ref b, .int p1, .int p2, .int p3, .int p4, .int p5] : List Value).toArray s 0 0 (mA b)) (F0 m 78 ls []) := by
        intro x6 x7 S H locs ls h hP hS hl
        unfold wp_feed_j78 at h
        refine lv_aload_n hx hb dX7_feed_78 rfl (lv_at hl 0 rfl) ?_
        refine m_get (v := .ref (b + 3)) hx hb hts hown hK hP 15 (by decide) q1225 rfl rfl dX7_feed_79 ?_
        refine lv_aload_n hx hb dX7_feed_82 rfl (lv_at hl 0 rfl) ?_
        refine m_get (v := .int (S 0 16)) hx hb hts hown hK hP 16 (by decide) q1226 rfl rfl dX7_feed_83 ?_
        refine lv_iload hx hb dX7_feed_86 (lv_at hl 7 rfl) ?_
        refine lv_bipush (v := 24) hx hb dX7_feed_88 (by decide) ?_
        refine lv_bipush (v := 8) hx hb dX7_feed_90 (by decide) ?_
        refine lv_iload hx hb dX7_feed_92 (lv_at hl 6 rfl) ?_
        refine lv_iconst (v := 4) hx hb dX7_feed_94 (by decide) ?_
        refine m_irem hx hb dX7_feed_95 (by decide) ?_
        refine lv_imul hx hb dX7_feed_96 ?_
        refine lv_isub hx hb dX7_feed_97 ?_
        refine m_ishr hx hb dX7_feed_98 ?_
        refine lv_i2b hx hb dX7_feed_99 rfl ?_
        obtain ⟨j_1, hj_1, ej_1, h⟩ := h
        obtain ⟨S_2, eS_2⟩ : ∃ z : St, z = bw S 3 j_1 (((jshr x7 (24 - (8 * (jrem x6 4)))).toInt8.toInt32).toInt8.toInt32) := ⟨_, rfl⟩
        have h := h S_2 eS_2
        refine m_bast hx hb hK hP hS ej_1 hj_1 dX7_feed_100 (fun H locs hP hS => ?_)
        rw [← eS_2] at hP
        refine lv_aload_n hx hb dX7_feed_101 rfl (lv_at hl 0 rfl) ?_
        refine lv_dup hx hb dX7_feed_102 rfl ?_
        refine m_get (v := .int (S_2 0 16)) hx hb hts hown hK hP 16 (by decide) q1226 rfl rfl dX7_feed_103 ?_
        refine lv_iconst (v := 1) hx hb dX7_feed_106 (by decide) ?_
        refine lv_iadd hx hb dX7_feed_107 ?_
        obtain ⟨S_3, eS_3⟩ : ∃ z : St, z = bw S_2 0 16 ((S_2 0 16) + 1) := ⟨_, rfl⟩
        have h := h S_3 eS_3
        refine m_put (S1 := S_3) (v := .int ((S_2 0 16) + 1)) (ty := .int) hx hb hts hown hK hP hS 16 (by decide) q1226 rfl rfl (tyX7_ok 16 (by decide)) rfl rfl (by rw [eS_3]; exact mset_16 b S_2 ((S_2 0 16) + 1)) (by rw [eS_3]; exact bw_0) dX7_feed_108 (fun H locs hP hS => ?_)
        obtain ⟨x6_4, ex6_4⟩ : ∃ y : Int32, y = x6 + 1 := ⟨_, rfl⟩
        have h := h x6_4 ex6_4
        refine lv_iinc (v := x6_4) (lv' := [(6, .int x6_4), (0, .ref b), (1, .int p1), (2, .int p2), (3, .int p3), (4, .int p4), (5, .int p5), (7, .int x7)]) hx hb dX7_feed_111 hl (k := 6) rfl (by rw [ex6_4]; rfl) (by decide) rfl (fun ls hl => ?_)
        refine lv_goto (tgt := 23) hx hb dX7_feed_114 (by decide) ?_
        obtain ⟨mm, hmm, h⟩ := h
        exact ih23 mm hmm _ _ _ _ _ hP hS (lv_sub hl [1, 2, 3, 4, 5, 6, 0] rfl) h
      unfold wp_feed_b23 at h
      refine lv_iload hx hb dX7_feed_23 (lv_at hl 6 rfl) ?_
      refine lv_bipush (v := 20) hx hb dX7_feed_25 (by decide) ?_
      refine lv_icmp_ge (tgt := 117) hx hb dX7_feed_27 (by decide) (fun c_9 => ?_) (fun c_9 => ?_)
      · have h := h.1 c_9
        refine lv_aload_n hx hb dX7_feed_117 rfl (lv_at hl 0 rfl) ?_
        refine m_get (v := .int (S 0 16)) hx hb hts hown hK hP 16 (by decide) q1226 rfl rfl dX7_feed_118 ?_
        exact W.iret (v := (S 0 16)) hx hb hr (fun t ht hW => ⟨⟨(S 0 16), S, rfl, h, by rw [ht]; exact hP, va_K.moved hW.alike hK⟩, hS.F ht⟩) hS.2.2 dX7_feed_121
      · have h := h.2 c_9
        refine lv_iload hx hb dX7_feed_30 (lv_at hl 6 rfl) ?_
        refine lv_iconst (v := 4) hx hb dX7_feed_32 (by decide) ?_
        refine lv_icmp_ge (tgt := 40) hx hb dX7_feed_33 (by decide) (fun c_8 => ?_) (fun c_8 => ?_)
        · have h := h.1 c_8
          refine lv_iload hx hb dX7_feed_40 (lv_at hl 6 rfl) ?_
          refine lv_bipush (v := 8) hx hb dX7_feed_42 (by decide) ?_
          refine lv_icmp_ge (tgt := 51) hx hb dX7_feed_44 (by decide) (fun c_7 => ?_) (fun c_7 => ?_)
          · have h := h.1 c_7
            refine lv_iload hx hb dX7_feed_51 (lv_at hl 6 rfl) ?_
            refine lv_bipush (v := 12) hx hb dX7_feed_53 (by decide) ?_
            refine lv_icmp_ge (tgt := 62) hx hb dX7_feed_55 (by decide) (fun c_6 => ?_) (fun c_6 => ?_)
            · have h := h.1 c_6
              refine lv_iload hx hb dX7_feed_62 (lv_at hl 6 rfl) ?_
              refine lv_bipush (v := 16) hx hb dX7_feed_64 (by decide) ?_
              refine lv_icmp_ge (tgt := 74) hx hb dX7_feed_66 (by decide) (fun c_5 => ?_) (fun c_5 => ?_)
              · have h := h.1 c_5
                refine lv_iload hx hb dX7_feed_74 (lv_at hl 5 rfl) ?_
                refine lv_istore (lv' := [(7, .int p5), (0, .ref b), (1, .int p1), (2, .int p2), (3, .int p3), (4, .int p4), (5, .int p5), (6, .int x6)]) hx hb dX7_feed_76 hl (by decide) rfl (fun ls hl => ?_)
                exact J78 _ _ _ _ _ _ h hP hS (lv_sub hl [1, 2, 3, 4, 5, 6, 7, 0] rfl)
              · have h := h.2 c_5
                refine lv_iload hx hb dX7_feed_69 (lv_at hl 4 rfl) ?_
                refine lv_goto (tgt := 76) hx hb dX7_feed_71 (by decide) ?_
                refine lv_istore (lv' := [(7, .int p4), (0, .ref b), (1, .int p1), (2, .int p2), (3, .int p3), (4, .int p4), (5, .int p5), (6, .int x6)]) hx hb dX7_feed_76 hl (by decide) rfl (fun ls hl => ?_)
                exact J78 _ _ _ _ _ _ h hP hS (lv_sub hl [1, 2, 3, 4, 5, 6, 7, 0] rfl)
            · have h := h.2 c_6
              refine lv_iload_n hx hb dX7_feed_58 rfl (lv_at hl 3 rfl) ?_
              refine lv_goto (tgt := 76) hx hb dX7_feed_59 (by decide) ?_
              refine lv_istore (lv' := [(7, .int p3), (0, .ref b), (1, .int p1), (2, .int p2), (3, .int p3), (4, .int p4), (5, .int p5), (6, .int x6)]) hx hb dX7_feed_76 hl (by decide) rfl (fun ls hl => ?_)
              exact J78 _ _ _ _ _ _ h hP hS (lv_sub hl [1, 2, 3, 4, 5, 6, 7, 0] rfl)
          · have h := h.2 c_7
            refine lv_iload_n hx hb dX7_feed_47 rfl (lv_at hl 2 rfl) ?_
            refine lv_goto (tgt := 76) hx hb dX7_feed_48 (by decide) ?_
            refine lv_istore (lv' := [(7, .int p2), (0, .ref b), (1, .int p1), (2, .int p2), (3, .int p3), (4, .int p4), (5, .int p5), (6, .int x6)]) hx hb dX7_feed_76 hl (by decide) rfl (fun ls hl => ?_)
            exact J78 _ _ _ _ _ _ h hP hS (lv_sub hl [1, 2, 3, 4, 5, 6, 7, 0] rfl)
        · have h := h.2 c_8
          refine lv_iload_n hx hb dX7_feed_36 rfl (lv_at hl 1 rfl) ?_
          refine lv_goto (tgt := 76) hx hb dX7_feed_37 (by decide) ?_
          refine lv_istore (lv' := [(7, .int p1), (0, .ref b), (1, .int p1), (2, .int p2), (3, .int p3), (4, .int p4), (5, .int p5), (6, .int x6)]) hx hb dX7_feed_76 hl (by decide) rfl (fun ls hl => ?_)
          exact J78 _ _ _ _ _ _ h hP hS (lv_sub hl [1, 2, 3, 4, 5, 6, 7, 0] rfl)
  unfold wp_feed at h
  refine lv_aload_n hx hb dX7_feed_0 rfl (lv_at hl 0 rfl) ?_
  refine lv_iconst (v := 0) hx hb dX7_feed_1 (by decide) ?_
  obtain ⟨S_10, eS_10⟩ : ∃ z : St, z = bw S 0 0 0 := ⟨_, rfl⟩
  have h := h S_10 eS_10
  refine m_put (S1 := S_10) (v := .int 0) (ty := .int) hx hb hts hown hK hP hS 0 (by decide) q1210 rfl rfl (tyX7_ok 0 (by decide)) rfl rfl (by rw [eS_10]; exact mset_0 b S 0) (by rw [eS_10]; exact bw_0) dX7_feed_2 (fun H locs hP hS => ?_)
  refine lv_aload_n hx hb dX7_feed_5 rfl (lv_at hl 0 rfl) ?_
  refine m_get (v := .int (S_10 0 16)) hx hb hts hown hK hP 16 (by decide) q1226 rfl rfl dX7_feed_6 ?_
  refine lv_bipush (v := 20) hx hb dX7_feed_9 (by decide) ?_
  refine lv_iadd hx hb dX7_feed_11 ?_
  refine lv_sipush (v := 700) hx hb dX7_feed_12 (by decide) ?_
  refine lv_icmp_le (tgt := 20) hx hb dX7_feed_15 (by decide) (fun c_11 => ?_) (fun c_11 => ?_)
  · have h := h.1 c_11
    refine lv_iconst (v := 0) hx hb dX7_feed_20 (by decide) ?_
    refine lv_istore (lv' := [(6, .int 0), (0, .ref b), (1, .int p1), (2, .int p2), (3, .int p3), (4, .int p4), (5, .int p5)]) hx hb dX7_feed_21 hl (by decide) rfl (fun ls hl => ?_)
    exact L23 _ _ _ _ _ h hP hS (lv_sub hl [1, 2, 3, 4, 5, 6, 0] rfl)
  · have h := h.2 c_11
    refine lv_iconst (v := (-1)) hx hb dX7_feed_18 (by decide) ?_
    exact W.iret (v := (-1)) hx hb hr (fun t ht hW => ⟨⟨(-1), S_10, rfl, h, by rw [ht]; exact hP, va_K.moved hW.alike hK⟩, hS.F ht⟩) hS.2.2 dX7_feed_19
def wp_refused (p1 : Int32) (S : St) (post : Int32 → St → Prop) : Prop :=
  ∀ S_1 : St, S_1 = bw S 0 1 p1 →
  ∀ S_2 : St, S_2 = bw S_1 0 2 (-1) →
  post (-1) S_2
set_option maxHeartbeats 4000000 in
theorem met_refused (l : Launch) (D : va_G) (cI cB : ClassId) (b : Nat) (p1 : Int32)  (S : St) (post : Int32 → St → Prop) (h : wp_refused p1 S post) : Met l yX7_refused (ws_ yX7_refused cX7_refused 2 (some .int)) ({ frames := 0, cells := 0, slots := 0, locals := 0 } : Room) (mPc D cI cB b [.ref b, .int p1] S) (mQi D cI cB b post) 0 0 (mA b) := by
  refine Met.ofW (cc := cX7_refused) (maxL := 2) (ret := (some .int)) (by decide) rfl ?_
  intro p e s m args below meth c s₁ B hml hv
  obtain ⟨rfl, hP, hK⟩ := hv
  have hx := B.exec
  have hb := B.bytes
  have hr := B.returns
  have hts := atoms_spec (ws := ws_ yX7_refused cX7_refused 2 (some .int)) B.pre
  have hts : ∀ w ∈ lw_all, w.before _ s = true := fun w h => hts w (List.mem_cons_of_mem _ h)
  have hown : s.vm.findClass RX7 = some m.cls := findClass_of_methodNamed B.named
  have hlocks := B.notSynchronized
  have hS : va_S (mA b) s.heap s.heap [] := va_S.rf
  have hl := lv_entry ([.ref b, .int p1]) (n := 2) (Nat.le_of_ble_eq_true rfl)
  rw [lg_entry_eq]
  generalize (lg_sl ([.ref b, .int p1]) ++ List.replicate (2 - (lg_sl ([.ref b, .int p1])).length) Slot.unset).toArray = ls at hl ⊢
  have hl : lv_has ls 2 [(0, .ref b), (1, .int p1)] := hl
  unfold wp_refused at h
  refine lv_aload_n hx hb dX7_refused_0 rfl (lv_at hl 0 rfl) ?_
  refine lv_iload_n hx hb dX7_refused_1 rfl (lv_at hl 1 rfl) ?_
  obtain ⟨S_1, eS_1⟩ : ∃ z : St, z = bw S 0 1 p1 := ⟨_, rfl⟩
  have h := h S_1 eS_1
  refine m_put (S1 := S_1) (v := .int p1) (ty := .int) hx hb hts hown hK hP hS 1 (by decide) q1211 rfl rfl (tyX7_ok 1 (by decide)) rfl rfl (by rw [eS_1]; exact mset_1 b S p1) (by rw [eS_1]; exact bw_0) dX7_refused_2 (fun H locs hP hS => ?_)
  refine lv_aload_n hx hb dX7_refused_5 rfl (lv_at hl 0 rfl) ?_
  refine lv_iconst (v := (-1)) hx hb dX7_refused_6 (by decide) ?_
  obtain ⟨S_2, eS_2⟩ : ∃ z : St, z = bw S_1 0 2 (-1) := ⟨_, rfl⟩
  have h := h S_2 eS_2
  refine m_put (S1 := S_2) (v := .int (-1)) (ty := .int) hx hb hts hown hK hP hS 2 (by decide) q1212 rfl rfl (tyX7_ok 2 (by decide)) rfl rfl (by rw [eS_2]; exact mset_2 b S_1 (-1)) (by rw [eS_2]; exact bw_0) dX7_refused_7 (fun H locs hP hS => ?_)
  refine lv_iconst (v := (-1)) hx hb dX7_refused_10 (by decide) ?_
  exact W.iret (v := (-1)) hx hb hr (fun t ht hW => ⟨⟨(-1), S_2, rfl, h, by rw [ht]; exact hP, va_K.moved hW.alike hK⟩, hS.F ht⟩) hS.2.2 dX7_refused_11
def wp_byteAt (p1 : Int32) (S : St) (post : Int32 → Prop) : Prop :=
  (((S 0 17) ≤ p1 →
    post (-1)) ∧
   (¬ ((S 0 17) ≤ p1) →
    ∃ j_1 : Nat, j_1 < 700 ∧ p1 = nI j_1 ∧
    post ((S 3 j_1) &&& 255)))
set_option maxHeartbeats 4000000 in
theorem met_byteAt (l : Launch) (D : va_G) (cI cB : ClassId) (b : Nat) (p1 : Int32)  (S : St) (post : Int32 → Prop) (h : wp_byteAt p1 S post) : Met l yX7_byteAt (ws_ yX7_byteAt cX7_byteAt 2 (some .int)) ({ frames := 0, cells := 0, slots := 0, locals := 0 } : Room) (mPc D cI cB b [.ref b, .int p1] S) (mQp D cI cB b S post) 0 0 (mA b) := by
  refine Met.ofW (cc := cX7_byteAt) (maxL := 2) (ret := (some .int)) (by decide) rfl ?_
  intro p e s m args below meth c s₁ B hml hv
  obtain ⟨rfl, hP, hK⟩ := hv
  have hx := B.exec
  have hb := B.bytes
  have hr := B.returns
  have hts := atoms_spec (ws := ws_ yX7_byteAt cX7_byteAt 2 (some .int)) B.pre
  have hts : ∀ w ∈ lw_all, w.before _ s = true := fun w h => hts w (List.mem_cons_of_mem _ h)
  have hown : s.vm.findClass RX7 = some m.cls := findClass_of_methodNamed B.named
  have hlocks := B.notSynchronized
  have hS : va_S (mA b) s.heap s.heap [] := va_S.rf
  have hl := lv_entry ([.ref b, .int p1]) (n := 2) (Nat.le_of_ble_eq_true rfl)
  rw [lg_entry_eq]
  generalize (lg_sl ([.ref b, .int p1]) ++ List.replicate (2 - (lg_sl ([.ref b, .int p1])).length) Slot.unset).toArray = ls at hl ⊢
  have hl : lv_has ls 2 [(0, .ref b), (1, .int p1)] := hl
  unfold wp_byteAt at h
  refine lv_iload_n hx hb dX7_byteAt_0 rfl (lv_at hl 1 rfl) ?_
  refine lv_aload_n hx hb dX7_byteAt_1 rfl (lv_at hl 0 rfl) ?_
  refine m_get (v := .int (S 0 17)) hx hb hts hown hK hP 17 (by decide) q1227 rfl rfl dX7_byteAt_2 ?_
  refine lv_icmp_ge (tgt := 21) hx hb dX7_byteAt_5 (by decide) (fun c_2 => ?_) (fun c_2 => ?_)
  · have h := h.1 c_2
    refine lv_iconst (v := (-1)) hx hb dX7_byteAt_21 (by decide) ?_
    exact W.iret (v := (-1)) hx hb hr (fun t ht hW => ⟨⟨(-1), (), rfl, h, by rw [ht]; exact hP, va_K.moved hW.alike hK⟩, hS.F ht⟩) hS.2.2 dX7_byteAt_22
  · have h := h.2 c_2
    refine lv_aload_n hx hb dX7_byteAt_8 rfl (lv_at hl 0 rfl) ?_
    refine m_get (v := .ref (b + 3)) hx hb hts hown hK hP 15 (by decide) q1225 rfl rfl dX7_byteAt_9 ?_
    refine lv_iload_n hx hb dX7_byteAt_12 rfl (lv_at hl 1 rfl) ?_
    obtain ⟨j_1, hj_1, ej_1, h⟩ := h
    refine m_bald hx hb hK hP ej_1 hj_1 dX7_byteAt_13 ?_
    refine lv_sipush (v := 255) hx hb dX7_byteAt_14 (by decide) ?_
    refine lv_iand hx hb dX7_byteAt_17 ?_
    refine lv_goto (tgt := 22) hx hb dX7_byteAt_18 (by decide) ?_
    exact W.iret (v := ((S 3 j_1) &&& 255)) hx hb hr (fun t ht hW => ⟨⟨((S 3 j_1) &&& 255), (), rfl, h, by rw [ht]; exact hP, va_K.moved hW.alike hK⟩, hS.F ht⟩) hS.2.2 dX7_byteAt_22
def wp_in (p1 : Int32) (p2 : Int32) (p3 : Int32) (S : St) (post : Int32 → Prop) : Prop :=
  ((p1 < p2 →
    post 0) ∧
   (¬ (p1 < p2) →
    ((p3 < p1 →
      post 0) ∧
     (¬ (p3 < p1) →
      post 1))))
set_option maxHeartbeats 4000000 in
theorem met_in (l : Launch) (D : va_G) (cI cB : ClassId) (b : Nat) (p1 : Int32) (p2 : Int32) (p3 : Int32)  (S : St) (post : Int32 → Prop) (h : wp_in p1 p2 p3 S post) : Met l yX7_in (ws_ yX7_in cX7_in 3 (some .boolean)) ({ frames := 0, cells := 0, slots := 0, locals := 0 } : Room) (mPc D cI cB b [.int p1, .int p2, .int p3] S) (mQp D cI cB b S post) 0 0 (mA b) := by
  refine Met.ofW (cc := cX7_in) (maxL := 3) (ret := (some .boolean)) (by decide) rfl ?_
  intro p e s m args below meth c s₁ B hml hv
  obtain ⟨rfl, hP, hK⟩ := hv
  have hx := B.exec
  have hb := B.bytes
  have hr := B.returns
  have hts := atoms_spec (ws := ws_ yX7_in cX7_in 3 (some .boolean)) B.pre
  have hts : ∀ w ∈ lw_all, w.before _ s = true := fun w h => hts w (List.mem_cons_of_mem _ h)
  have hown : s.vm.findClass RX7 = some m.cls := findClass_of_methodNamed B.named
  have hlocks := B.notSynchronized
  have hS : va_S (mA b) s.heap s.heap [] := va_S.rf
  have hl := lv_entry ([.int p1, .int p2, .int p3]) (n := 3) (Nat.le_of_ble_eq_true rfl)
  rw [lg_entry_eq]
  generalize (lg_sl ([.int p1, .int p2, .int p3]) ++ List.replicate (3 - (lg_sl ([.int p1, .int p2, .int p3])).length) Slot.unset).toArray = ls at hl ⊢
  have hl : lv_has ls 3 [(0, .int p1), (1, .int p2), (2, .int p3)] := hl
  unfold wp_in at h
  refine lv_iload_n hx hb dX7_in_0 rfl (lv_at hl 0 rfl) ?_
  refine lv_iload_n hx hb dX7_in_1 rfl (lv_at hl 1 rfl) ?_
  refine lv_icmp_lt (tgt := 14) hx hb dX7_in_2 (by decide) (fun c_2 => ?_) (fun c_2 => ?_)
  · have h := h.1 c_2
    refine lv_iconst (v := 0) hx hb dX7_in_14 (by decide) ?_
    exact W.zret (v := 0) hx hb hr rfl (fun t ht hW => ⟨⟨0, (), rfl, h, by rw [ht]; exact hP, va_K.moved hW.alike hK⟩, hS.F ht⟩) hS.2.2 dX7_in_15
  · have h := h.2 c_2
    refine lv_iload_n hx hb dX7_in_5 rfl (lv_at hl 0 rfl) ?_
    refine lv_iload_n hx hb dX7_in_6 rfl (lv_at hl 2 rfl) ?_
    refine lv_icmp_gt (tgt := 14) hx hb dX7_in_7 (by decide) (fun c_1 => ?_) (fun c_1 => ?_)
    · have h := h.1 c_1
      refine lv_iconst (v := 0) hx hb dX7_in_14 (by decide) ?_
      exact W.zret (v := 0) hx hb hr rfl (fun t ht hW => ⟨⟨0, (), rfl, h, by rw [ht]; exact hP, va_K.moved hW.alike hK⟩, hS.F ht⟩) hS.2.2 dX7_in_15
    · have h := h.2 c_1
      refine lv_iconst (v := 1) hx hb dX7_in_10 (by decide) ?_
      refine lv_goto (tgt := 15) hx hb dX7_in_11 (by decide) ?_
      exact W.zret (v := 1) hx hb hr rfl (fun t ht hW => ⟨⟨1, (), rfl, h, by rw [ht]; exact hP, va_K.moved hW.alike hK⟩, hS.F ht⟩) hS.2.2 dX7_in_15
def wp_nextWord_j57  (post : St → Prop) (R5 : St → Prop)  (S : St) : Prop :=
        ∀ S_1 : St, S_1 = bw S 0 18 ((S 0 18) + 1) →
        R5 S_1
def wp_nextWord_b5  (post : St → Prop) (R5 : St → Prop)   (S : St) : Prop :=
      wp_byteAt (S 0 18) S (fun r_2 =>
      wp_in r_2 97 122 S (fun r_4 =>
      ((r_4 = 0 →
        ((((S 0 18) - (S 0 20)) ≤ 5 →
          ∀ S_6 : St, S_6 = bw S 0 19 2 →
          post S_6) ∧
         (¬ (((S 0 18) - (S 0 20)) ≤ 5) →
          ∀ S_7 : St, S_7 = bw S 0 19 0 →
          post S_7))) ∧
       (¬ (r_4 = 0) →
        ((5 ≤ ((S 0 18) - (S 0 20)) →
          wp_nextWord_j57  post R5  S) ∧
         (¬ (5 ≤ ((S 0 18) - (S 0 20))) →
          wp_byteAt (S 0 18) S (fun r_9 =>
          ∀ S_11 : St, S_11 = bw (bw S 0 23 (hiL (((mkL (S 0 23) (S 0 53)) <<< ((8 : Int32).toInt64 &&& 63)) ||| ((r_9 : Int32).toInt64)))) 0 53 (loL (((mkL (S 0 23) (S 0 53)) <<< ((8 : Int32).toInt64 &&& 63)) ||| ((r_9 : Int32).toInt64))) →
          wp_nextWord_j57  post R5  S_11)))))))
def wp_nextWord_l5  (post : St → Prop)   (S : St) : Prop := wLoop (fun (R : St → Prop) (v : St) => wp_nextWord_b5  post (fun S => R S)   v) S
def wp_nextWord  (S : St) (post : St → Prop) : Prop :=
  ∀ S_14 : St, S_14 = bw (bw S 0 23 (hiL 0)) 0 53 (loL 0) →
  wp_nextWord_l5  post  S_14
set_option maxHeartbeats 4000000 in
theorem met_nextWord (l : Launch) (D : va_G) (cI cB : ClassId) (b : Nat)   (S : St) (post : St → Prop) (h : wp_nextWord  S post) : Met l yX7_nextWord (ws_ yX7_nextWord cX7_nextWord 1 none) ({ frames := 1, cells := 0, slots := 0, locals := 22 } : Room) (mPc D cI cB b [.ref b] S) (mQv D cI cB b post) 0 0 (mA b) := by
  refine Met.ofW (cc := cX7_nextWord) (maxL := 1) (ret := none) (by decide) rfl ?_
  intro p e s m args below meth c s₁ B hml hv
  obtain ⟨rfl, hP, hK⟩ := hv
  have hx := B.exec
  have hb := B.bytes
  have hr := B.returns
  have hts := atoms_spec (ws := ws_ yX7_nextWord cX7_nextWord 1 none) B.pre
  have hts : ∀ w ∈ lw_all, w.before _ s = true := fun w h => hts w (List.mem_cons_of_mem _ h)
  have hown : s.vm.findClass RX7 = some m.cls := findClass_of_methodNamed B.named
  have hlocks := B.notSynchronized
  have hS : va_S (mA b) s.heap s.heap [] := va_S.rf
  have hl := lv_entry ([.ref b]) (n := 1) (Nat.le_of_ble_eq_true rfl)
  rw [lg_entry_eq]
  generalize (lg_sl ([.ref b]) ++ List.replicate (1 - (lg_sl ([.ref b])).length) Slot.unset).toArray = ls at hl ⊢
  have hl : lv_has ls 1 [(0, .ref b)] := hl
  have L5 : ∀   (S : St) (H : Heap) (locs : List Loc) (ls : Array Slot), wp_nextWord_l5  post   S → mW D cI cB b S H → va_S (mA b) s.heap H locs → lv_has ls 1 [(0, .ref b)] → W p l e (headSpec (ws_ yX7_nextWord cX7_nextWord 1 none) ({ frames := 1, cells := 0, slots := 0, locals := 22 } : Room)).room s m ([.ref b] : List Value).toArray below meth c H locs 0 0 (MQ below (mQv D cI cB b post) ([.ref b] : List Value).toArray s 0 0 (mA b)) (F0 m 5 ls []) := by
    intro   S H locs ls h hP hS hl
    obtain ⟨I5, n5, hI, hstep5⟩ := h
    induction n5 using Nat.strongRecOn generalizing S H locs ls with
    | ind n5 ih5 =>
      have h : wp_nextWord_b5  post (fun S => ∃ mm, mm < n5 ∧ I5 mm S)   S := hstep5 n5 _ hI
      clear hI
      have J57 : ∀  (S : St) (H : Heap) (locs : List Loc) (ls : Array Slot), wp_nextWord_j57  post (fun S => ∃ mm, mm < n5 ∧ I5 mm S)  S → mW D cI cB b S H → va_S (mA b) s.heap H locs → lv_has ls 1 [(0, .ref b)] → W p l e (headSpec (ws_ yX7_nextWord cX7_nextWord 1 none) ({ frames := 1, cells := 0, slots := 0, locals := 22 } : Room)).room s m ([.ref b] : List Value).toArray below meth c H locs 0 0 (MQ below (mQv D cI cB b post) ([.ref b] : List Value).toArray s 0 0 (mA b)) (F0 m 57 ls []) := by
        intro  S H locs ls h hP hS hl
        unfold wp_nextWord_j57 at h
        refine lv_aload_n hx hb dX7_nextWord_57 rfl (lv_at hl 0 rfl) ?_
        refine lv_dup hx hb dX7_nextWord_58 rfl ?_
        refine m_get (v := .int (S 0 18)) hx hb hts hown hK hP 18 (by decide) q1228 rfl rfl dX7_nextWord_59 ?_
        refine lv_iconst (v := 1) hx hb dX7_nextWord_62 (by decide) ?_
        refine lv_iadd hx hb dX7_nextWord_63 ?_
        obtain ⟨S_1, eS_1⟩ : ∃ z : St, z = bw S 0 18 ((S 0 18) + 1) := ⟨_, rfl⟩
        have h := h S_1 eS_1
        refine m_put (S1 := S_1) (v := .int ((S 0 18) + 1)) (ty := .int) hx hb hts hown hK hP hS 18 (by decide) q1228 rfl rfl (tyX7_ok 18 (by decide)) rfl rfl (by rw [eS_1]; exact mset_18 b S ((S 0 18) + 1)) (by rw [eS_1]; exact bw_0) dX7_nextWord_64 (fun H locs hP hS => ?_)
        refine lv_goto (tgt := 5) hx hb dX7_nextWord_67 (by decide) ?_
        obtain ⟨mm, hmm, h⟩ := h
        exact ih5 mm hmm _ _ _ _ hP hS (lv_sub hl [0] rfl) h
      unfold wp_nextWord_b5 at h
      refine lv_aload_n hx hb dX7_nextWord_5 rfl (lv_at hl 0 rfl) ?_
      refine lv_aload_n hx hb dX7_nextWord_6 rfl (lv_at hl 0 rfl) ?_
      refine m_get (v := .int (S 0 18)) hx hb hts hown hK hP 18 (by decide) q1228 rfl rfl dX7_nextWord_7 ?_
      refine m_cVp (As := [.int (S 0 18)]) (rest := []) ⟨hx, hb, hml, hown, hts⟩ (met_byteAt l D cI cB b (S 0 18)  S _ h) (cwV 1 hts (lw_V q1394 q1396 qs61 q128 q1397) rfl rfl rfl cwd_byteAt ⟨Nat.le_of_ble_eq_true rfl, Nat.le_of_ble_eq_true rfl⟩) hK hP hS rfl hl.1 rfl (Nat.le_of_ble_eq_true rfl) dX7_nextWord_10 ⟨Nat.zero_le _, Nat.zero_le _⟩ (fun r_2 H locs h hP hS => ?_)
      refine lv_bipush (v := 97) hx hb dX7_nextWord_13 (by decide) ?_
      refine lv_bipush (v := 122) hx hb dX7_nextWord_15 (by decide) ?_
      refine m_cSp (As := [.int r_2, .int 97, .int 122]) (rest := []) ⟨hx, hb, hml, hown, hts⟩ (met_in l D cI cB b r_2 97 122  S _ h) (va_cwS 3 hts (lw_S q1398 q1399 q128 q1400) rfl rfl rfl cwd_in ⟨Nat.le_of_ble_eq_true rfl, Nat.le_of_ble_eq_true rfl⟩) hK hP hS rfl hl.1 rfl (Nat.le_of_ble_eq_true rfl) dX7_nextWord_17 ⟨Nat.zero_le _, Nat.zero_le _⟩ (fun r_4 H locs h hP hS => ?_)
      refine lv_if_eq (tgt := 70) hx hb dX7_nextWord_20 (by decide) (fun c_13 => ?_) (fun c_13 => ?_)
      · have h := h.1 c_13
        refine lv_aload_n hx hb dX7_nextWord_70 rfl (lv_at hl 0 rfl) ?_
        refine lv_aload_n hx hb dX7_nextWord_71 rfl (lv_at hl 0 rfl) ?_
        refine m_get (v := .int (S 0 18)) hx hb hts hown hK hP 18 (by decide) q1228 rfl rfl dX7_nextWord_72 ?_
        refine lv_aload_n hx hb dX7_nextWord_75 rfl (lv_at hl 0 rfl) ?_
        refine m_get (v := .int (S 0 20)) hx hb hts hown hK hP 20 (by decide) q1230 rfl rfl dX7_nextWord_76 ?_
        refine lv_isub hx hb dX7_nextWord_79 ?_
        refine lv_iconst (v := 5) hx hb dX7_nextWord_80 (by decide) ?_
        refine lv_icmp_le (tgt := 88) hx hb dX7_nextWord_81 (by decide) (fun c_8 => ?_) (fun c_8 => ?_)
        · have h := h.1 c_8
          refine lv_iconst (v := 2) hx hb dX7_nextWord_88 (by decide) ?_
          obtain ⟨S_6, eS_6⟩ : ∃ z : St, z = bw S 0 19 2 := ⟨_, rfl⟩
          have h := h S_6 eS_6
          refine m_put (S1 := S_6) (v := .int 2) (ty := .int) hx hb hts hown hK hP hS 19 (by decide) q1229 rfl rfl (tyX7_ok 19 (by decide)) rfl rfl (by rw [eS_6]; exact mset_19 b S 2) (by rw [eS_6]; exact bw_0) dX7_nextWord_89 (fun H locs hP hS => ?_)
          exact W.vret hx hb hr (fun t ht hW => ⟨⟨S_6, rfl, h, by rw [ht]; exact hP, va_K.moved hW.alike hK⟩, hS.F ht⟩) hS.2.2 dX7_nextWord_92
        · have h := h.2 c_8
          refine lv_iconst (v := 0) hx hb dX7_nextWord_84 (by decide) ?_
          refine lv_goto (tgt := 89) hx hb dX7_nextWord_85 (by decide) ?_
          obtain ⟨S_7, eS_7⟩ : ∃ z : St, z = bw S 0 19 0 := ⟨_, rfl⟩
          have h := h S_7 eS_7
          refine m_put (S1 := S_7) (v := .int 0) (ty := .int) hx hb hts hown hK hP hS 19 (by decide) q1229 rfl rfl (tyX7_ok 19 (by decide)) rfl rfl (by rw [eS_7]; exact mset_19 b S 0) (by rw [eS_7]; exact bw_0) dX7_nextWord_89 (fun H locs hP hS => ?_)
          exact W.vret hx hb hr (fun t ht hW => ⟨⟨S_7, rfl, h, by rw [ht]; exact hP, va_K.moved hW.alike hK⟩, hS.F ht⟩) hS.2.2 dX7_nextWord_92
      · have h := h.2 c_13
        refine lv_aload_n hx hb dX7_nextWord_23 rfl (lv_at hl 0 rfl) ?_
        refine m_get (v := .int (S 0 18)) hx hb hts hown hK hP 18 (by decide) q1228 rfl rfl dX7_nextWord_24 ?_
        refine lv_aload_n hx hb dX7_nextWord_27 rfl (lv_at hl 0 rfl) ?_
        refine m_get (v := .int (S 0 20)) hx hb hts hown hK hP 20 (by decide) q1230 rfl rfl dX7_nextWord_28 ?_
        refine lv_isub hx hb dX7_nextWord_31 ?_
        refine lv_iconst (v := 5) hx hb dX7_nextWord_32 (by decide) ?_
        refine lv_icmp_ge (tgt := 57) hx hb dX7_nextWord_33 (by decide) (fun c_12 => ?_) (fun c_12 => ?_)
        · have h := h.1 c_12
          exact J57  _ _ _ _ h hP hS (lv_sub hl [0] rfl)
        · have h := h.2 c_12
          refine lv_aload_n hx hb dX7_nextWord_36 rfl (lv_at hl 0 rfl) ?_
          refine lv_aload_n hx hb dX7_nextWord_37 rfl (lv_at hl 0 rfl) ?_
          refine m_get (v := .long (mkL (S 0 23) (S 0 53))) hx hb hts hown hK hP 23 (by decide) q1233 rfl rfl dX7_nextWord_38 ?_
          refine lv_bipush (v := 8) hx hb dX7_nextWord_41 (by decide) ?_
          refine lv_lshl hx hb dX7_nextWord_43 rfl ?_
          refine lv_aload_n hx hb dX7_nextWord_44 rfl (lv_at hl 0 rfl) ?_
          refine lv_aload_n hx hb dX7_nextWord_45 rfl (lv_at hl 0 rfl) ?_
          refine m_get (v := .int (S 0 18)) hx hb hts hown hK hP 18 (by decide) q1228 rfl rfl dX7_nextWord_46 ?_
          refine m_cVp (As := [.int (S 0 18)]) (rest := [.long ((mkL (S 0 23) (S 0 53)) <<< ((8 : Int32).toInt64 &&& 63)), .ref b]) ⟨hx, hb, hml, hown, hts⟩ (met_byteAt l D cI cB b (S 0 18)  S _ h) (cwV 1 hts (lw_V q1394 q1396 qs61 q128 q1397) rfl rfl rfl cwd_byteAt ⟨Nat.le_of_ble_eq_true rfl, Nat.le_of_ble_eq_true rfl⟩) hK hP hS rfl hl.1 rfl (Nat.le_of_ble_eq_true rfl) dX7_nextWord_49 ⟨Nat.zero_le _, Nat.zero_le _⟩ (fun r_9 H locs h hP hS => ?_)
          refine lv_i2l hx hb dX7_nextWord_52 rfl ?_
          refine lv_lor hx hb dX7_nextWord_53 ?_
          obtain ⟨S_11, eS_11⟩ : ∃ z : St, z = bw (bw S 0 23 (hiL (((mkL (S 0 23) (S 0 53)) <<< ((8 : Int32).toInt64 &&& 63)) ||| ((r_9 : Int32).toInt64)))) 0 53 (loL (((mkL (S 0 23) (S 0 53)) <<< ((8 : Int32).toInt64 &&& 63)) ||| ((r_9 : Int32).toInt64))) := ⟨_, rfl⟩
          have h := h S_11 eS_11
          refine m_put (S1 := S_11) (v := .long (((mkL (S 0 23) (S 0 53)) <<< ((8 : Int32).toInt64 &&& 63)) ||| ((r_9 : Int32).toInt64))) (ty := .long) hx hb hts hown hK hP hS 23 (by decide) q1233 rfl rfl (tyX7_ok 23 (by decide)) rfl rfl (by rw [eS_11]; exact mset_23 b S (((mkL (S 0 23) (S 0 53)) <<< ((8 : Int32).toInt64 &&& 63)) ||| ((r_9 : Int32).toInt64))) (by rw [eS_11]; exact bw_00) dX7_nextWord_54 (fun H locs hP hS => ?_)
          exact J57  _ _ _ _ h hP hS (lv_sub hl [0] rfl)
  unfold wp_nextWord at h
  refine lv_aload_n hx hb dX7_nextWord_0 rfl (lv_at hl 0 rfl) ?_
  refine lv_lconst (v := 0) hx hb dX7_nextWord_1 (by decide) ?_
  obtain ⟨S_14, eS_14⟩ : ∃ z : St, z = bw (bw S 0 23 (hiL 0)) 0 53 (loL 0) := ⟨_, rfl⟩
  have h := h S_14 eS_14
  refine m_put (S1 := S_14) (v := .long 0) (ty := .long) hx hb hts hown hK hP hS 23 (by decide) q1233 rfl rfl (tyX7_ok 23 (by decide)) rfl rfl (by rw [eS_14]; exact mset_23 b S 0) (by rw [eS_14]; exact bw_00) dX7_nextWord_2 (fun H locs hP hS => ?_)
  exact L5  _ _ _ _ h hP hS (lv_sub hl [0] rfl)
def wp_nextWhole_j59  (post : St → Prop) (R5 : St → Prop)  (S : St) : Prop :=
        ∀ S_1 : St, S_1 = bw S 0 18 ((S 0 18) + 1) →
        R5 S_1
def wp_nextWhole_b5  (post : St → Prop) (R5 : St → Prop)   (S : St) : Prop :=
      wp_byteAt (S 0 18) S (fun r_2 =>
      wp_in r_2 48 57 S (fun r_4 =>
      ((r_4 = 0 →
        ((((S 0 18) - (S 0 20)) ≤ 4 →
          ∀ S_6 : St, S_6 = bw S 0 19 3 →
          post S_6) ∧
         (¬ (((S 0 18) - (S 0 20)) ≤ 4) →
          ∀ S_7 : St, S_7 = bw S 0 19 0 →
          post S_7))) ∧
       (¬ (r_4 = 0) →
        ((4 ≤ ((S 0 18) - (S 0 20)) →
          wp_nextWhole_j59  post R5  S) ∧
         (¬ (4 ≤ ((S 0 18) - (S 0 20))) →
          wp_byteAt (S 0 18) S (fun r_9 =>
          ∀ S_11 : St, S_11 = bw S 0 21 (((10 * (S 0 21)) + r_9) - 48) →
          wp_nextWhole_j59  post R5  S_11)))))))
def wp_nextWhole_l5  (post : St → Prop)   (S : St) : Prop := wLoop (fun (R : St → Prop) (v : St) => wp_nextWhole_b5  post (fun S => R S)   v) S
def wp_nextWhole  (S : St) (post : St → Prop) : Prop :=
  ∀ S_14 : St, S_14 = bw S 0 21 0 →
  wp_nextWhole_l5  post  S_14
set_option maxHeartbeats 4000000 in
theorem met_nextWhole (l : Launch) (D : va_G) (cI cB : ClassId) (b : Nat)   (S : St) (post : St → Prop) (h : wp_nextWhole  S post) : Met l yX7_nextWhole (ws_ yX7_nextWhole cX7_nextWhole 1 none) ({ frames := 1, cells := 0, slots := 0, locals := 22 } : Room) (mPc D cI cB b [.ref b] S) (mQv D cI cB b post) 0 0 (mA b) := by
  refine Met.ofW (cc := cX7_nextWhole) (maxL := 1) (ret := none) (by decide) rfl ?_
  intro p e s m args below meth c s₁ B hml hv
  obtain ⟨rfl, hP, hK⟩ := hv
  have hx := B.exec
  have hb := B.bytes
  have hr := B.returns
  have hts := atoms_spec (ws := ws_ yX7_nextWhole cX7_nextWhole 1 none) B.pre
  have hts : ∀ w ∈ lw_all, w.before _ s = true := fun w h => hts w (List.mem_cons_of_mem _ h)
  have hown : s.vm.findClass RX7 = some m.cls := findClass_of_methodNamed B.named
  have hlocks := B.notSynchronized
  have hS : va_S (mA b) s.heap s.heap [] := va_S.rf
  have hl := lv_entry ([.ref b]) (n := 1) (Nat.le_of_ble_eq_true rfl)
  rw [lg_entry_eq]
  generalize (lg_sl ([.ref b]) ++ List.replicate (1 - (lg_sl ([.ref b])).length) Slot.unset).toArray = ls at hl ⊢
  have hl : lv_has ls 1 [(0, .ref b)] := hl
  have L5 : ∀   (S : St) (H : Heap) (locs : List Loc) (ls : Array Slot), wp_nextWhole_l5  post   S → mW D cI cB b S H → va_S (mA b) s.heap H locs → lv_has ls 1 [(0, .ref b)] → W p l e (headSpec (ws_ yX7_nextWhole cX7_nextWhole 1 none) ({ frames := 1, cells := 0, slots := 0, locals := 22 } : Room)).room s m ([.ref b] : List Value).toArray below meth c H locs 0 0 (MQ below (mQv D cI cB b post) ([.ref b] : List Value).toArray s 0 0 (mA b)) (F0 m 5 ls []) := by
    intro   S H locs ls h hP hS hl
    obtain ⟨I5, n5, hI, hstep5⟩ := h
    induction n5 using Nat.strongRecOn generalizing S H locs ls with
    | ind n5 ih5 =>
      have h : wp_nextWhole_b5  post (fun S => ∃ mm, mm < n5 ∧ I5 mm S)   S := hstep5 n5 _ hI
      clear hI
      have J59 : ∀  (S : St) (H : Heap) (locs : List Loc) (ls : Array Slot), wp_nextWhole_j59  post (fun S => ∃ mm, mm < n5 ∧ I5 mm S)  S → mW D cI cB b S H → va_S (mA b) s.heap H locs → lv_has ls 1 [(0, .ref b)] → W p l e (headSpec (ws_ yX7_nextWhole cX7_nextWhole 1 none) ({ frames := 1, cells := 0, slots := 0, locals := 22 } : Room)).room s m ([.ref b] : List Value).toArray below meth c H locs 0 0 (MQ below (mQv D cI cB b post) ([.ref b] : List Value).toArray s 0 0 (mA b)) (F0 m 59 ls []) := by
        intro  S H locs ls h hP hS hl
        unfold wp_nextWhole_j59 at h
        refine lv_aload_n hx hb dX7_nextWhole_59 rfl (lv_at hl 0 rfl) ?_
        refine lv_dup hx hb dX7_nextWhole_60 rfl ?_
        refine m_get (v := .int (S 0 18)) hx hb hts hown hK hP 18 (by decide) q1228 rfl rfl dX7_nextWhole_61 ?_
        refine lv_iconst (v := 1) hx hb dX7_nextWhole_64 (by decide) ?_
        refine lv_iadd hx hb dX7_nextWhole_65 ?_
        obtain ⟨S_1, eS_1⟩ : ∃ z : St, z = bw S 0 18 ((S 0 18) + 1) := ⟨_, rfl⟩
        have h := h S_1 eS_1
        refine m_put (S1 := S_1) (v := .int ((S 0 18) + 1)) (ty := .int) hx hb hts hown hK hP hS 18 (by decide) q1228 rfl rfl (tyX7_ok 18 (by decide)) rfl rfl (by rw [eS_1]; exact mset_18 b S ((S 0 18) + 1)) (by rw [eS_1]; exact bw_0) dX7_nextWhole_66 (fun H locs hP hS => ?_)
        refine lv_goto (tgt := 5) hx hb dX7_nextWhole_69 (by decide) ?_
        obtain ⟨mm, hmm, h⟩ := h
        exact ih5 mm hmm _ _ _ _ hP hS (lv_sub hl [0] rfl) h
      unfold wp_nextWhole_b5 at h
      refine lv_aload_n hx hb dX7_nextWhole_5 rfl (lv_at hl 0 rfl) ?_
      refine lv_aload_n hx hb dX7_nextWhole_6 rfl (lv_at hl 0 rfl) ?_
      refine m_get (v := .int (S 0 18)) hx hb hts hown hK hP 18 (by decide) q1228 rfl rfl dX7_nextWhole_7 ?_
      refine m_cVp (As := [.int (S 0 18)]) (rest := []) ⟨hx, hb, hml, hown, hts⟩ (met_byteAt l D cI cB b (S 0 18)  S _ h) (cwV 1 hts (lw_V q1394 q1396 qs61 q128 q1397) rfl rfl rfl cwd_byteAt ⟨Nat.le_of_ble_eq_true rfl, Nat.le_of_ble_eq_true rfl⟩) hK hP hS rfl hl.1 rfl (Nat.le_of_ble_eq_true rfl) dX7_nextWhole_10 ⟨Nat.zero_le _, Nat.zero_le _⟩ (fun r_2 H locs h hP hS => ?_)
      refine lv_bipush (v := 48) hx hb dX7_nextWhole_13 (by decide) ?_
      refine lv_bipush (v := 57) hx hb dX7_nextWhole_15 (by decide) ?_
      refine m_cSp (As := [.int r_2, .int 48, .int 57]) (rest := []) ⟨hx, hb, hml, hown, hts⟩ (met_in l D cI cB b r_2 48 57  S _ h) (va_cwS 3 hts (lw_S q1398 q1399 q128 q1400) rfl rfl rfl cwd_in ⟨Nat.le_of_ble_eq_true rfl, Nat.le_of_ble_eq_true rfl⟩) hK hP hS rfl hl.1 rfl (Nat.le_of_ble_eq_true rfl) dX7_nextWhole_17 ⟨Nat.zero_le _, Nat.zero_le _⟩ (fun r_4 H locs h hP hS => ?_)
      refine lv_if_eq (tgt := 72) hx hb dX7_nextWhole_20 (by decide) (fun c_13 => ?_) (fun c_13 => ?_)
      · have h := h.1 c_13
        refine lv_aload_n hx hb dX7_nextWhole_72 rfl (lv_at hl 0 rfl) ?_
        refine lv_aload_n hx hb dX7_nextWhole_73 rfl (lv_at hl 0 rfl) ?_
        refine m_get (v := .int (S 0 18)) hx hb hts hown hK hP 18 (by decide) q1228 rfl rfl dX7_nextWhole_74 ?_
        refine lv_aload_n hx hb dX7_nextWhole_77 rfl (lv_at hl 0 rfl) ?_
        refine m_get (v := .int (S 0 20)) hx hb hts hown hK hP 20 (by decide) q1230 rfl rfl dX7_nextWhole_78 ?_
        refine lv_isub hx hb dX7_nextWhole_81 ?_
        refine lv_iconst (v := 4) hx hb dX7_nextWhole_82 (by decide) ?_
        refine lv_icmp_le (tgt := 90) hx hb dX7_nextWhole_83 (by decide) (fun c_8 => ?_) (fun c_8 => ?_)
        · have h := h.1 c_8
          refine lv_iconst (v := 3) hx hb dX7_nextWhole_90 (by decide) ?_
          obtain ⟨S_6, eS_6⟩ : ∃ z : St, z = bw S 0 19 3 := ⟨_, rfl⟩
          have h := h S_6 eS_6
          refine m_put (S1 := S_6) (v := .int 3) (ty := .int) hx hb hts hown hK hP hS 19 (by decide) q1229 rfl rfl (tyX7_ok 19 (by decide)) rfl rfl (by rw [eS_6]; exact mset_19 b S 3) (by rw [eS_6]; exact bw_0) dX7_nextWhole_91 (fun H locs hP hS => ?_)
          exact W.vret hx hb hr (fun t ht hW => ⟨⟨S_6, rfl, h, by rw [ht]; exact hP, va_K.moved hW.alike hK⟩, hS.F ht⟩) hS.2.2 dX7_nextWhole_94
        · have h := h.2 c_8
          refine lv_iconst (v := 0) hx hb dX7_nextWhole_86 (by decide) ?_
          refine lv_goto (tgt := 91) hx hb dX7_nextWhole_87 (by decide) ?_
          obtain ⟨S_7, eS_7⟩ : ∃ z : St, z = bw S 0 19 0 := ⟨_, rfl⟩
          have h := h S_7 eS_7
          refine m_put (S1 := S_7) (v := .int 0) (ty := .int) hx hb hts hown hK hP hS 19 (by decide) q1229 rfl rfl (tyX7_ok 19 (by decide)) rfl rfl (by rw [eS_7]; exact mset_19 b S 0) (by rw [eS_7]; exact bw_0) dX7_nextWhole_91 (fun H locs hP hS => ?_)
          exact W.vret hx hb hr (fun t ht hW => ⟨⟨S_7, rfl, h, by rw [ht]; exact hP, va_K.moved hW.alike hK⟩, hS.F ht⟩) hS.2.2 dX7_nextWhole_94
      · have h := h.2 c_13
        refine lv_aload_n hx hb dX7_nextWhole_23 rfl (lv_at hl 0 rfl) ?_
        refine m_get (v := .int (S 0 18)) hx hb hts hown hK hP 18 (by decide) q1228 rfl rfl dX7_nextWhole_24 ?_
        refine lv_aload_n hx hb dX7_nextWhole_27 rfl (lv_at hl 0 rfl) ?_
        refine m_get (v := .int (S 0 20)) hx hb hts hown hK hP 20 (by decide) q1230 rfl rfl dX7_nextWhole_28 ?_
        refine lv_isub hx hb dX7_nextWhole_31 ?_
        refine lv_iconst (v := 4) hx hb dX7_nextWhole_32 (by decide) ?_
        refine lv_icmp_ge (tgt := 59) hx hb dX7_nextWhole_33 (by decide) (fun c_12 => ?_) (fun c_12 => ?_)
        · have h := h.1 c_12
          exact J59  _ _ _ _ h hP hS (lv_sub hl [0] rfl)
        · have h := h.2 c_12
          refine lv_aload_n hx hb dX7_nextWhole_36 rfl (lv_at hl 0 rfl) ?_
          refine lv_bipush (v := 10) hx hb dX7_nextWhole_37 (by decide) ?_
          refine lv_aload_n hx hb dX7_nextWhole_39 rfl (lv_at hl 0 rfl) ?_
          refine m_get (v := .int (S 0 21)) hx hb hts hown hK hP 21 (by decide) q1231 rfl rfl dX7_nextWhole_40 ?_
          refine lv_imul hx hb dX7_nextWhole_43 ?_
          refine lv_aload_n hx hb dX7_nextWhole_44 rfl (lv_at hl 0 rfl) ?_
          refine lv_aload_n hx hb dX7_nextWhole_45 rfl (lv_at hl 0 rfl) ?_
          refine m_get (v := .int (S 0 18)) hx hb hts hown hK hP 18 (by decide) q1228 rfl rfl dX7_nextWhole_46 ?_
          refine m_cVp (As := [.int (S 0 18)]) (rest := [.int (10 * (S 0 21)), .ref b]) ⟨hx, hb, hml, hown, hts⟩ (met_byteAt l D cI cB b (S 0 18)  S _ h) (cwV 1 hts (lw_V q1394 q1396 qs61 q128 q1397) rfl rfl rfl cwd_byteAt ⟨Nat.le_of_ble_eq_true rfl, Nat.le_of_ble_eq_true rfl⟩) hK hP hS rfl hl.1 rfl (Nat.le_of_ble_eq_true rfl) dX7_nextWhole_49 ⟨Nat.zero_le _, Nat.zero_le _⟩ (fun r_9 H locs h hP hS => ?_)
          refine lv_iadd hx hb dX7_nextWhole_52 ?_
          refine lv_bipush (v := 48) hx hb dX7_nextWhole_53 (by decide) ?_
          refine lv_isub hx hb dX7_nextWhole_55 ?_
          obtain ⟨S_11, eS_11⟩ : ∃ z : St, z = bw S 0 21 (((10 * (S 0 21)) + r_9) - 48) := ⟨_, rfl⟩
          have h := h S_11 eS_11
          refine m_put (S1 := S_11) (v := .int (((10 * (S 0 21)) + r_9) - 48)) (ty := .int) hx hb hts hown hK hP hS 21 (by decide) q1231 rfl rfl (tyX7_ok 21 (by decide)) rfl rfl (by rw [eS_11]; exact mset_21 b S (((10 * (S 0 21)) + r_9) - 48)) (by rw [eS_11]; exact bw_0) dX7_nextWhole_56 (fun H locs hP hS => ?_)
          exact J59  _ _ _ _ h hP hS (lv_sub hl [0] rfl)
  unfold wp_nextWhole at h
  refine lv_aload_n hx hb dX7_nextWhole_0 rfl (lv_at hl 0 rfl) ?_
  refine lv_iconst (v := 0) hx hb dX7_nextWhole_1 (by decide) ?_
  obtain ⟨S_14, eS_14⟩ : ∃ z : St, z = bw S 0 21 0 := ⟨_, rfl⟩
  have h := h S_14 eS_14
  refine m_put (S1 := S_14) (v := .int 0) (ty := .int) hx hb hts hown hK hP hS 21 (by decide) q1231 rfl rfl (tyX7_ok 21 (by decide)) rfl rfl (by rw [eS_14]; exact mset_21 b S 0) (by rw [eS_14]; exact bw_0) dX7_nextWhole_2 (fun H locs hP hS => ?_)
  exact L5  _ _ _ _ h hP hS (lv_sub hl [0] rfl)
def wp_next_j136  (post : St → Prop)  (S : St) : Prop :=
    ∀ S_1 : St, S_1 = bw S 0 18 ((S 0 18) + 1) →
    post S_1
def wp_next_b8  (post : St → Prop) (R8 : St → Prop)   (S : St) : Prop :=
      wp_byteAt (S 0 18) S (fun r_2 =>
      ((¬ r_2 = 32 →
        ∀ S_4 : St, S_4 = bw S 0 20 (S 0 18) →
        wp_byteAt (S_4 0 18) S_4 (fun r_5 =>
        ((¬ r_5 = (-1) →
          wp_in r_5 97 122 S_4 (fun r_7 =>
          ((r_7 = 0 →
            wp_in r_5 48 57 S_4 (fun r_9 =>
            ((r_9 = 0 →
              ((¬ r_5 = 59 →
                ((¬ r_5 = 43 →
                  ((¬ r_5 = 45 →
                    ∀ S_11 : St, S_11 = bw S_4 0 19 0 →
                    wp_next_j136  post  S_11) ∧
                   (r_5 = 45 →
                    ∀ S_12 : St, S_12 = bw S_4 0 19 6 →
                    wp_next_j136  post  S_12))) ∧
                 (r_5 = 43 →
                  ∀ S_14 : St, S_14 = bw S_4 0 19 5 →
                  wp_next_j136  post  S_14))) ∧
               (r_5 = 59 →
                ∀ S_16 : St, S_16 = bw S_4 0 19 4 →
                wp_next_j136  post  S_16))) ∧
             (¬ (r_9 = 0) →
              wp_nextWhole  S_4 (fun S_19 =>
              post S_19))))) ∧
           (¬ (r_7 = 0) →
            wp_nextWord  S_4 (fun S_22 =>
            post S_22))))) ∧
         (r_5 = (-1) →
          ∀ S_24 : St, S_24 = bw S_4 0 19 1 →
          post S_24)))) ∧
       (r_2 = 32 →
        ∀ S_26 : St, S_26 = bw S 0 18 ((S 0 18) + 1) →
        R8 S_26)))
def wp_next_l8  (post : St → Prop)   (S : St) : Prop := wLoop (fun (R : St → Prop) (v : St) => wp_next_b8  post (fun S => R S)   v) S
def wp_next  (S : St) (post : St → Prop) : Prop :=
  (((S 0 22) ≤ 0 →
    wp_next_l8  post  S) ∧
   (¬ ((S 0 22) ≤ 0) →
    post S))
set_option maxHeartbeats 4000000 in
theorem met_next (l : Launch) (D : va_G) (cI cB : ClassId) (b : Nat)   (S : St) (post : St → Prop) (h : wp_next  S post) : Met l yX7_next (ws_ yX7_next cX7_next 2 none) ({ frames := 2, cells := 0, slots := 0, locals := 42 } : Room) (mPc D cI cB b [.ref b] S) (mQv D cI cB b post) 0 0 (mA b) := by
  refine Met.ofW (cc := cX7_next) (maxL := 2) (ret := none) (by decide) rfl ?_
  intro p e s m args below meth c s₁ B hml hv
  obtain ⟨rfl, hP, hK⟩ := hv
  have hx := B.exec
  have hb := B.bytes
  have hr := B.returns
  have hts := atoms_spec (ws := ws_ yX7_next cX7_next 2 none) B.pre
  have hts : ∀ w ∈ lw_all, w.before _ s = true := fun w h => hts w (List.mem_cons_of_mem _ h)
  have hown : s.vm.findClass RX7 = some m.cls := findClass_of_methodNamed B.named
  have hlocks := B.notSynchronized
  have hS : va_S (mA b) s.heap s.heap [] := va_S.rf
  have hl := lv_entry ([.ref b]) (n := 2) (Nat.le_of_ble_eq_true rfl)
  rw [lg_entry_eq]
  generalize (lg_sl ([.ref b]) ++ List.replicate (2 - (lg_sl ([.ref b])).length) Slot.unset).toArray = ls at hl ⊢
  have hl : lv_has ls 2 [(0, .ref b)] := hl
  have J136 : ∀  (S : St) (H : Heap) (locs : List Loc) (ls : Array Slot), wp_next_j136  post  S → mW D cI cB b S H → va_S (mA b) s.heap H locs → lv_has ls 2 [(0, .ref b)] → W p l e (headSpec (ws_ yX7_next cX7_next 2 none) ({ frames := 2, cells := 0, slots := 0, locals := 42 } : Room)).room s m ([.ref b] : List Value).toArray below meth c H locs 0 0 (MQ below (mQv D cI cB b post) ([.ref b] : List Value).toArray s 0 0 (mA b)) (F0 m 136 ls []) := by
    intro  S H locs ls h hP hS hl
    unfold wp_next_j136 at h
    refine lv_aload_n hx hb dX7_next_136 rfl (lv_at hl 0 rfl) ?_
    refine lv_dup hx hb dX7_next_137 rfl ?_
    refine m_get (v := .int (S 0 18)) hx hb hts hown hK hP 18 (by decide) q1228 rfl rfl dX7_next_138 ?_
    refine lv_iconst (v := 1) hx hb dX7_next_141 (by decide) ?_
    refine lv_iadd hx hb dX7_next_142 ?_
    obtain ⟨S_1, eS_1⟩ : ∃ z : St, z = bw S 0 18 ((S 0 18) + 1) := ⟨_, rfl⟩
    have h := h S_1 eS_1
    refine m_put (S1 := S_1) (v := .int ((S 0 18) + 1)) (ty := .int) hx hb hts hown hK hP hS 18 (by decide) q1228 rfl rfl (tyX7_ok 18 (by decide)) rfl rfl (by rw [eS_1]; exact mset_18 b S ((S 0 18) + 1)) (by rw [eS_1]; exact bw_0) dX7_next_143 (fun H locs hP hS => ?_)
    exact W.vret hx hb hr (fun t ht hW => ⟨⟨S_1, rfl, h, by rw [ht]; exact hP, va_K.moved hW.alike hK⟩, hS.F ht⟩) hS.2.2 dX7_next_146
  have L8 : ∀   (S : St) (H : Heap) (locs : List Loc) (ls : Array Slot), wp_next_l8  post   S → mW D cI cB b S H → va_S (mA b) s.heap H locs → lv_has ls 2 [(0, .ref b)] → W p l e (headSpec (ws_ yX7_next cX7_next 2 none) ({ frames := 2, cells := 0, slots := 0, locals := 42 } : Room)).room s m ([.ref b] : List Value).toArray below meth c H locs 0 0 (MQ below (mQv D cI cB b post) ([.ref b] : List Value).toArray s 0 0 (mA b)) (F0 m 8 ls []) := by
    intro   S H locs ls h hP hS hl
    obtain ⟨I8, n8, hI, hstep8⟩ := h
    induction n8 using Nat.strongRecOn generalizing S H locs ls with
    | ind n8 ih8 =>
      have h : wp_next_b8  post (fun S => ∃ mm, mm < n8 ∧ I8 mm S)   S := hstep8 n8 _ hI
      clear hI
      unfold wp_next_b8 at h
      refine lv_aload_n hx hb dX7_next_8 rfl (lv_at hl 0 rfl) ?_
      refine lv_aload_n hx hb dX7_next_9 rfl (lv_at hl 0 rfl) ?_
      refine m_get (v := .int (S 0 18)) hx hb hts hown hK hP 18 (by decide) q1228 rfl rfl dX7_next_10 ?_
      refine m_cVp (As := [.int (S 0 18)]) (rest := []) ⟨hx, hb, hml, hown, hts⟩ (met_byteAt l D cI cB b (S 0 18)  S _ h) (cwV 1 hts (lw_V q1394 q1396 qs61 q128 q1397) rfl rfl rfl cwd_byteAt ⟨Nat.le_of_ble_eq_true rfl, Nat.le_of_ble_eq_true rfl⟩) hK hP hS rfl hl.1 rfl (Nat.le_of_ble_eq_true rfl) dX7_next_13 ⟨Nat.zero_le _, Nat.zero_le _⟩ (fun r_2 H locs h hP hS => ?_)
      refine lv_bipush (v := 32) hx hb dX7_next_16 (by decide) ?_
      refine lv_icmp_ne (tgt := 34) hx hb dX7_next_18 (by decide) (fun c_27 => ?_) (fun c_27 => ?_)
      · have h := h.1 c_27
        refine lv_aload_n hx hb dX7_next_34 rfl (lv_at hl 0 rfl) ?_
        refine lv_aload_n hx hb dX7_next_35 rfl (lv_at hl 0 rfl) ?_
        refine m_get (v := .int (S 0 18)) hx hb hts hown hK hP 18 (by decide) q1228 rfl rfl dX7_next_36 ?_
        obtain ⟨S_4, eS_4⟩ : ∃ z : St, z = bw S 0 20 (S 0 18) := ⟨_, rfl⟩
        have h := h S_4 eS_4
        refine m_put (S1 := S_4) (v := .int (S 0 18)) (ty := .int) hx hb hts hown hK hP hS 20 (by decide) q1230 rfl rfl (tyX7_ok 20 (by decide)) rfl rfl (by rw [eS_4]; exact mset_20 b S (S 0 18)) (by rw [eS_4]; exact bw_0) dX7_next_39 (fun H locs hP hS => ?_)
        refine lv_aload_n hx hb dX7_next_42 rfl (lv_at hl 0 rfl) ?_
        refine lv_aload_n hx hb dX7_next_43 rfl (lv_at hl 0 rfl) ?_
        refine m_get (v := .int (S_4 0 18)) hx hb hts hown hK hP 18 (by decide) q1228 rfl rfl dX7_next_44 ?_
        refine m_cVp (As := [.int (S_4 0 18)]) (rest := []) ⟨hx, hb, hml, hown, hts⟩ (met_byteAt l D cI cB b (S_4 0 18)  S_4 _ h) (cwV 1 hts (lw_V q1394 q1396 qs61 q128 q1397) rfl rfl rfl cwd_byteAt ⟨Nat.le_of_ble_eq_true rfl, Nat.le_of_ble_eq_true rfl⟩) hK hP hS rfl hl.1 rfl (Nat.le_of_ble_eq_true rfl) dX7_next_47 ⟨Nat.zero_le _, Nat.zero_le _⟩ (fun r_5 H locs h hP hS => ?_)
        refine lv_istore_n (lv' := [(1, .int r_5), (0, .ref b)]) hx hb dX7_next_50 rfl hl (by decide) rfl (fun ls hl => ?_)
        refine lv_iload_n hx hb dX7_next_51 rfl (lv_at hl 0 rfl) ?_
        refine lv_iconst (v := (-1)) hx hb dX7_next_52 (by decide) ?_
        refine lv_icmp_ne (tgt := 64) hx hb dX7_next_53 (by decide) (fun c_25 => ?_) (fun c_25 => ?_)
        · have h := h.1 c_25
          refine lv_iload_n hx hb dX7_next_64 rfl (lv_at hl 0 rfl) ?_
          refine lv_bipush (v := 97) hx hb dX7_next_65 (by decide) ?_
          refine lv_bipush (v := 122) hx hb dX7_next_67 (by decide) ?_
          refine m_cSp (As := [.int r_5, .int 97, .int 122]) (rest := []) ⟨hx, hb, hml, hown, hts⟩ (met_in l D cI cB b r_5 97 122  S_4 _ h) (va_cwS 3 hts (lw_S q1398 q1399 q128 q1400) rfl rfl rfl cwd_in ⟨Nat.le_of_ble_eq_true rfl, Nat.le_of_ble_eq_true rfl⟩) hK hP hS rfl hl.1 rfl (Nat.le_of_ble_eq_true rfl) dX7_next_69 ⟨Nat.zero_le _, Nat.zero_le _⟩ (fun r_7 H locs h hP hS => ?_)
          refine lv_if_eq (tgt := 82) hx hb dX7_next_72 (by decide) (fun c_23 => ?_) (fun c_23 => ?_)
          · have h := h.1 c_23
            refine lv_iload_n hx hb dX7_next_82 rfl (lv_at hl 0 rfl) ?_
            refine lv_bipush (v := 48) hx hb dX7_next_83 (by decide) ?_
            refine lv_bipush (v := 57) hx hb dX7_next_85 (by decide) ?_
            refine m_cSp (As := [.int r_5, .int 48, .int 57]) (rest := []) ⟨hx, hb, hml, hown, hts⟩ (met_in l D cI cB b r_5 48 57  S_4 _ h) (va_cwS 3 hts (lw_S q1398 q1399 q128 q1400) rfl rfl rfl cwd_in ⟨Nat.le_of_ble_eq_true rfl, Nat.le_of_ble_eq_true rfl⟩) hK hP hS rfl hl.1 rfl (Nat.le_of_ble_eq_true rfl) dX7_next_87 ⟨Nat.zero_le _, Nat.zero_le _⟩ (fun r_9 H locs h hP hS => ?_)
            refine lv_if_eq (tgt := 100) hx hb dX7_next_90 (by decide) (fun c_20 => ?_) (fun c_20 => ?_)
            · have h := h.1 c_20
              refine lv_aload_n hx hb dX7_next_100 rfl (lv_at hl 1 rfl) ?_
              refine lv_iload_n hx hb dX7_next_101 rfl (lv_at hl 0 rfl) ?_
              refine lv_bipush (v := 59) hx hb dX7_next_102 (by decide) ?_
              refine lv_icmp_ne (tgt := 111) hx hb dX7_next_104 (by decide) (fun c_17 => ?_) (fun c_17 => ?_)
              · have h := h.1 c_17
                refine lv_iload_n hx hb dX7_next_111 rfl (lv_at hl 0 rfl) ?_
                refine lv_bipush (v := 43) hx hb dX7_next_112 (by decide) ?_
                refine lv_icmp_ne (tgt := 121) hx hb dX7_next_114 (by decide) (fun c_15 => ?_) (fun c_15 => ?_)
                · have h := h.1 c_15
                  refine lv_iload_n hx hb dX7_next_121 rfl (lv_at hl 0 rfl) ?_
                  refine lv_bipush (v := 45) hx hb dX7_next_122 (by decide) ?_
                  refine lv_icmp_ne (tgt := 132) hx hb dX7_next_124 (by decide) (fun c_13 => ?_) (fun c_13 => ?_)
                  · have h := h.1 c_13
                    refine lv_iconst (v := 0) hx hb dX7_next_132 (by decide) ?_
                    obtain ⟨S_11, eS_11⟩ : ∃ z : St, z = bw S_4 0 19 0 := ⟨_, rfl⟩
                    have h := h S_11 eS_11
                    refine m_put (S1 := S_11) (v := .int 0) (ty := .int) hx hb hts hown hK hP hS 19 (by decide) q1229 rfl rfl (tyX7_ok 19 (by decide)) rfl rfl (by rw [eS_11]; exact mset_19 b S_4 0) (by rw [eS_11]; exact bw_0) dX7_next_133 (fun H locs hP hS => ?_)
                    exact J136  _ _ _ _ h hP hS (lv_sub hl [1] rfl)
                  · have h := h.2 c_13
                    refine lv_bipush (v := 6) hx hb dX7_next_127 (by decide) ?_
                    refine lv_goto (tgt := 133) hx hb dX7_next_129 (by decide) ?_
                    obtain ⟨S_12, eS_12⟩ : ∃ z : St, z = bw S_4 0 19 6 := ⟨_, rfl⟩
                    have h := h S_12 eS_12
                    refine m_put (S1 := S_12) (v := .int 6) (ty := .int) hx hb hts hown hK hP hS 19 (by decide) q1229 rfl rfl (tyX7_ok 19 (by decide)) rfl rfl (by rw [eS_12]; exact mset_19 b S_4 6) (by rw [eS_12]; exact bw_0) dX7_next_133 (fun H locs hP hS => ?_)
                    exact J136  _ _ _ _ h hP hS (lv_sub hl [1] rfl)
                · have h := h.2 c_15
                  refine lv_iconst (v := 5) hx hb dX7_next_117 (by decide) ?_
                  refine lv_goto (tgt := 133) hx hb dX7_next_118 (by decide) ?_
                  obtain ⟨S_14, eS_14⟩ : ∃ z : St, z = bw S_4 0 19 5 := ⟨_, rfl⟩
                  have h := h S_14 eS_14
                  refine m_put (S1 := S_14) (v := .int 5) (ty := .int) hx hb hts hown hK hP hS 19 (by decide) q1229 rfl rfl (tyX7_ok 19 (by decide)) rfl rfl (by rw [eS_14]; exact mset_19 b S_4 5) (by rw [eS_14]; exact bw_0) dX7_next_133 (fun H locs hP hS => ?_)
                  exact J136  _ _ _ _ h hP hS (lv_sub hl [1] rfl)
              · have h := h.2 c_17
                refine lv_iconst (v := 4) hx hb dX7_next_107 (by decide) ?_
                refine lv_goto (tgt := 133) hx hb dX7_next_108 (by decide) ?_
                obtain ⟨S_16, eS_16⟩ : ∃ z : St, z = bw S_4 0 19 4 := ⟨_, rfl⟩
                have h := h S_16 eS_16
                refine m_put (S1 := S_16) (v := .int 4) (ty := .int) hx hb hts hown hK hP hS 19 (by decide) q1229 rfl rfl (tyX7_ok 19 (by decide)) rfl rfl (by rw [eS_16]; exact mset_19 b S_4 4) (by rw [eS_16]; exact bw_0) dX7_next_133 (fun H locs hP hS => ?_)
                exact J136  _ _ _ _ h hP hS (lv_sub hl [1] rfl)
            · have h := h.2 c_20
              refine lv_aload_n hx hb dX7_next_93 rfl (lv_at hl 1 rfl) ?_
              refine m_cVv (As := []) (rest := []) ⟨hx, hb, hml, hown, hts⟩ (met_nextWhole l D cI cB b   S_4 _ h) (cwV 0 hts (lw_V q1405 q1407 qs63 q128 q1408) rfl rfl rfl cwd_nextWhole ⟨Nat.le_of_ble_eq_true rfl, Nat.le_of_ble_eq_true rfl⟩) hK hP hS rfl hl.1 rfl (Nat.le_of_ble_eq_true rfl) dX7_next_94 ⟨Nat.zero_le _, Nat.zero_le _⟩ (fun S_19 H locs h hP hS => ?_)
              refine lv_goto (tgt := 146) hx hb dX7_next_97 (by decide) ?_
              exact W.vret hx hb hr (fun t ht hW => ⟨⟨S_19, rfl, h, by rw [ht]; exact hP, va_K.moved hW.alike hK⟩, hS.F ht⟩) hS.2.2 dX7_next_146
          · have h := h.2 c_23
            refine lv_aload_n hx hb dX7_next_75 rfl (lv_at hl 1 rfl) ?_
            refine m_cVv (As := []) (rest := []) ⟨hx, hb, hml, hown, hts⟩ (met_nextWord l D cI cB b   S_4 _ h) (cwV 0 hts (lw_V q1401 q1403 qs62 q128 q1404) rfl rfl rfl cwd_nextWord ⟨Nat.le_of_ble_eq_true rfl, Nat.le_of_ble_eq_true rfl⟩) hK hP hS rfl hl.1 rfl (Nat.le_of_ble_eq_true rfl) dX7_next_76 ⟨Nat.zero_le _, Nat.zero_le _⟩ (fun S_22 H locs h hP hS => ?_)
            refine lv_goto (tgt := 146) hx hb dX7_next_79 (by decide) ?_
            exact W.vret hx hb hr (fun t ht hW => ⟨⟨S_22, rfl, h, by rw [ht]; exact hP, va_K.moved hW.alike hK⟩, hS.F ht⟩) hS.2.2 dX7_next_146
        · have h := h.2 c_25
          refine lv_aload_n hx hb dX7_next_56 rfl (lv_at hl 1 rfl) ?_
          refine lv_iconst (v := 1) hx hb dX7_next_57 (by decide) ?_
          obtain ⟨S_24, eS_24⟩ : ∃ z : St, z = bw S_4 0 19 1 := ⟨_, rfl⟩
          have h := h S_24 eS_24
          refine m_put (S1 := S_24) (v := .int 1) (ty := .int) hx hb hts hown hK hP hS 19 (by decide) q1229 rfl rfl (tyX7_ok 19 (by decide)) rfl rfl (by rw [eS_24]; exact mset_19 b S_4 1) (by rw [eS_24]; exact bw_0) dX7_next_58 (fun H locs hP hS => ?_)
          refine lv_goto (tgt := 146) hx hb dX7_next_61 (by decide) ?_
          exact W.vret hx hb hr (fun t ht hW => ⟨⟨S_24, rfl, h, by rw [ht]; exact hP, va_K.moved hW.alike hK⟩, hS.F ht⟩) hS.2.2 dX7_next_146
      · have h := h.2 c_27
        refine lv_aload_n hx hb dX7_next_21 rfl (lv_at hl 0 rfl) ?_
        refine lv_dup hx hb dX7_next_22 rfl ?_
        refine m_get (v := .int (S 0 18)) hx hb hts hown hK hP 18 (by decide) q1228 rfl rfl dX7_next_23 ?_
        refine lv_iconst (v := 1) hx hb dX7_next_26 (by decide) ?_
        refine lv_iadd hx hb dX7_next_27 ?_
        obtain ⟨S_26, eS_26⟩ : ∃ z : St, z = bw S 0 18 ((S 0 18) + 1) := ⟨_, rfl⟩
        have h := h S_26 eS_26
        refine m_put (S1 := S_26) (v := .int ((S 0 18) + 1)) (ty := .int) hx hb hts hown hK hP hS 18 (by decide) q1228 rfl rfl (tyX7_ok 18 (by decide)) rfl rfl (by rw [eS_26]; exact mset_18 b S ((S 0 18) + 1)) (by rw [eS_26]; exact bw_0) dX7_next_28 (fun H locs hP hS => ?_)
        refine lv_goto (tgt := 8) hx hb dX7_next_31 (by decide) ?_
        obtain ⟨mm, hmm, h⟩ := h
        exact ih8 mm hmm _ _ _ _ hP hS (lv_sub hl [0] rfl) h
  unfold wp_next at h
  refine lv_aload_n hx hb dX7_next_0 rfl (lv_at hl 0 rfl) ?_
  refine m_get (v := .int (S 0 22)) hx hb hts hown hK hP 22 (by decide) q1232 rfl rfl dX7_next_1 ?_
  refine lv_if_le (tgt := 8) hx hb dX7_next_4 (by decide) (fun c_28 => ?_) (fun c_28 => ?_)
  · have h := h.1 c_28
    exact L8  _ _ _ _ h hP hS (lv_sub hl [0] rfl)
  · have h := h.2 c_28
    exact W.vret hx hb hr (fun t ht hW => ⟨⟨S, rfl, h, by rw [ht]; exact hP, va_K.moved hW.alike hK⟩, hS.F ht⟩) hS.2.2 dX7_next_7
def wp_flaw_j12 (p1 : Int32) (post : St → Prop)  (S : St) : Prop :=
    ∀ S_1 : St, S_1 = bw S 0 19 0 →
    post S_1
def wp_flaw (p1 : Int32) (S : St) (post : St → Prop) : Prop :=
  ((¬ (S 0 22) = 0 →
    wp_flaw_j12 p1 post  S) ∧
   ((S 0 22) = 0 →
    ∀ S_2 : St, S_2 = bw S 0 22 p1 →
    wp_flaw_j12 p1 post  S_2))
set_option maxHeartbeats 4000000 in
theorem met_flaw (l : Launch) (D : va_G) (cI cB : ClassId) (b : Nat) (p1 : Int32)  (S : St) (post : St → Prop) (h : wp_flaw p1 S post) : Met l yX7_flaw (ws_ yX7_flaw cX7_flaw 2 none) ({ frames := 0, cells := 0, slots := 0, locals := 0 } : Room) (mPc D cI cB b [.ref b, .int p1] S) (mQv D cI cB b post) 0 0 (mA b) := by
  refine Met.ofW (cc := cX7_flaw) (maxL := 2) (ret := none) (by decide) rfl ?_
  intro p e s m args below meth c s₁ B hml hv
  obtain ⟨rfl, hP, hK⟩ := hv
  have hx := B.exec
  have hb := B.bytes
  have hr := B.returns
  have hts := atoms_spec (ws := ws_ yX7_flaw cX7_flaw 2 none) B.pre
  have hts : ∀ w ∈ lw_all, w.before _ s = true := fun w h => hts w (List.mem_cons_of_mem _ h)
  have hown : s.vm.findClass RX7 = some m.cls := findClass_of_methodNamed B.named
  have hlocks := B.notSynchronized
  have hS : va_S (mA b) s.heap s.heap [] := va_S.rf
  have hl := lv_entry ([.ref b, .int p1]) (n := 2) (Nat.le_of_ble_eq_true rfl)
  rw [lg_entry_eq]
  generalize (lg_sl ([.ref b, .int p1]) ++ List.replicate (2 - (lg_sl ([.ref b, .int p1])).length) Slot.unset).toArray = ls at hl ⊢
  have hl : lv_has ls 2 [(0, .ref b), (1, .int p1)] := hl
  have J12 : ∀  (S : St) (H : Heap) (locs : List Loc) (ls : Array Slot), wp_flaw_j12 p1 post  S → mW D cI cB b S H → va_S (mA b) s.heap H locs → lv_has ls 2 [(0, .ref b)] → W p l e (headSpec (ws_ yX7_flaw cX7_flaw 2 none) ({ frames := 0, cells := 0, slots := 0, locals := 0 } : Room)).room s m ([.ref b, .int p1] : List Value).toArray below meth c H locs 0 0 (MQ below (mQv D cI cB b post) ([.ref b, .int p1] : List Value).toArray s 0 0 (mA b)) (F0 m 12 ls []) := by
    intro  S H locs ls h hP hS hl
    unfold wp_flaw_j12 at h
    refine lv_aload_n hx hb dX7_flaw_12 rfl (lv_at hl 0 rfl) ?_
    refine lv_iconst (v := 0) hx hb dX7_flaw_13 (by decide) ?_
    obtain ⟨S_1, eS_1⟩ : ∃ z : St, z = bw S 0 19 0 := ⟨_, rfl⟩
    have h := h S_1 eS_1
    refine m_put (S1 := S_1) (v := .int 0) (ty := .int) hx hb hts hown hK hP hS 19 (by decide) q1229 rfl rfl (tyX7_ok 19 (by decide)) rfl rfl (by rw [eS_1]; exact mset_19 b S 0) (by rw [eS_1]; exact bw_0) dX7_flaw_14 (fun H locs hP hS => ?_)
    exact W.vret hx hb hr (fun t ht hW => ⟨⟨S_1, rfl, h, by rw [ht]; exact hP, va_K.moved hW.alike hK⟩, hS.F ht⟩) hS.2.2 dX7_flaw_17
  unfold wp_flaw at h
  refine lv_aload_n hx hb dX7_flaw_0 rfl (lv_at hl 0 rfl) ?_
  refine m_get (v := .int (S 0 22)) hx hb hts hown hK hP 22 (by decide) q1232 rfl rfl dX7_flaw_1 ?_
  refine lv_if_ne (tgt := 12) hx hb dX7_flaw_4 (by decide) (fun c_3 => ?_) (fun c_3 => ?_)
  · have h := h.1 c_3
    exact J12  _ _ _ _ h hP hS (lv_sub hl [0] rfl)
  · have h := h.2 c_3
    refine lv_aload_n hx hb dX7_flaw_7 rfl (lv_at hl 0 rfl) ?_
    refine lv_iload_n hx hb dX7_flaw_8 rfl (lv_at hl 1 rfl) ?_
    obtain ⟨S_2, eS_2⟩ : ∃ z : St, z = bw S 0 22 p1 := ⟨_, rfl⟩
    have h := h S_2 eS_2
    refine m_put (S1 := S_2) (v := .int p1) (ty := .int) hx hb hts hown hK hP hS 22 (by decide) q1232 rfl rfl (tyX7_ok 22 (by decide)) rfl rfl (by rw [eS_2]; exact mset_22 b S p1) (by rw [eS_2]; exact bw_0) dX7_flaw_9 (fun H locs hP hS => ?_)
    exact J12  _ _ _ _ h hP hS (lv_sub hl [0] rfl)
def wp_isPrime_b2 (p1 : Int32) (post : Int32 → Prop) (R2 : Int32 → Prop)  (x1 : Int32) (S : St) : Prop :=
      ((p1 ≤ x1 →
        wp_in p1 2 97 S (fun r_1 =>
        r_1 &&& 1 = r_1 ∧ post r_1)) ∧
       (¬ (p1 ≤ x1) →
        ¬ x1 = 0 ∧
        ((¬ (jrem p1 x1) = 0 →
          ∀ x1_3 : Int32, x1_3 = x1 + 1 →
          R2 x1_3) ∧
         ((jrem p1 x1) = 0 →
          post 0))))
def wp_isPrime_l2 (p1 : Int32) (post : Int32 → Prop)  (x1 : Int32) (S : St) : Prop := wLoop (fun (R : Int32 → Prop) (v : Int32) => wp_isPrime_b2 p1 post (fun x1 => R x1)  v S) x1
def wp_isPrime (p1 : Int32) (S : St) (post : Int32 → Prop) : Prop :=
  wp_isPrime_l2 p1 post 2 S
set_option maxHeartbeats 4000000 in
theorem met_isPrime (l : Launch) (D : va_G) (cI cB : ClassId) (b : Nat) (p1 : Int32)  (S : St) (post : Int32 → Prop) (h : wp_isPrime p1 S post) : Met l yX7_isPrime (ws_ yX7_isPrime cX7_isPrime 2 (some .boolean)) ({ frames := 1, cells := 0, slots := 0, locals := 22 } : Room) (mPc D cI cB b [.int p1] S) (mQp D cI cB b S post) 0 0 (mA b) := by
  refine Met.ofW (cc := cX7_isPrime) (maxL := 2) (ret := (some .boolean)) (by decide) rfl ?_
  intro p e s m args below meth c s₁ B hml hv
  obtain ⟨rfl, hP, hK⟩ := hv
  have hx := B.exec
  have hb := B.bytes
  have hr := B.returns
  have hts := atoms_spec (ws := ws_ yX7_isPrime cX7_isPrime 2 (some .boolean)) B.pre
  have hts : ∀ w ∈ lw_all, w.before _ s = true := fun w h => hts w (List.mem_cons_of_mem _ h)
  have hown : s.vm.findClass RX7 = some m.cls := findClass_of_methodNamed B.named
  have hlocks := B.notSynchronized
  have hS : va_S (mA b) s.heap s.heap [] := va_S.rf
  have hl := lv_entry ([.int p1]) (n := 2) (Nat.le_of_ble_eq_true rfl)
  rw [lg_entry_eq]
  generalize (lg_sl ([.int p1]) ++ List.replicate (2 - (lg_sl ([.int p1])).length) Slot.unset).toArray = ls at hl ⊢
  have hl : lv_has ls 2 [(0, .int p1)] := hl
  have L2 : ∀  (x1 : Int32) (H : Heap) (locs : List Loc) (ls : Array Slot), wp_isPrime_l2 p1 post  x1 S → mW D cI cB b S H → va_S (mA b) s.heap H locs → lv_has ls 2 [(0, .int p1), (1, .int x1)] → W p l e (headSpec (ws_ yX7_isPrime cX7_isPrime 2 (some .boolean)) ({ frames := 1, cells := 0, slots := 0, locals := 22 } : Room)).room s m ([.int p1] : List Value).toArray below meth c H locs 0 0 (MQ below (mQp D cI cB b S post) ([.int p1] : List Value).toArray s 0 0 (mA b)) (F0 m 2 ls []) := by
    intro  x1  H locs ls h hP hS hl
    obtain ⟨I2, n2, hI, hstep2⟩ := h
    induction n2 using Nat.strongRecOn generalizing x1 H locs ls with
    | ind n2 ih2 =>
      have h : wp_isPrime_b2 p1 post (fun x1 => ∃ mm, mm < n2 ∧ I2 mm x1)  x1 S := hstep2 n2 _ hI
      clear hI
      unfold wp_isPrime_b2 at h
      refine lv_iload_n hx hb dX7_isPrime_2 rfl (lv_at hl 1 rfl) ?_
      refine lv_iload_n hx hb dX7_isPrime_3 rfl (lv_at hl 0 rfl) ?_
      refine lv_icmp_ge (tgt := 21) hx hb dX7_isPrime_4 (by decide) (fun c_5 => ?_) (fun c_5 => ?_)
      · have h := h.1 c_5
        refine lv_iload_n hx hb dX7_isPrime_21 rfl (lv_at hl 0 rfl) ?_
        refine lv_iconst (v := 2) hx hb dX7_isPrime_22 (by decide) ?_
        refine lv_bipush (v := 97) hx hb dX7_isPrime_23 (by decide) ?_
        refine m_cSp (As := [.int p1, .int 2, .int 97]) (rest := []) ⟨hx, hb, hml, hown, hts⟩ (met_in l D cI cB b p1 2 97  S _ h) (va_cwS 3 hts (lw_S q1398 q1399 q128 q1400) rfl rfl rfl cwd_in ⟨Nat.le_of_ble_eq_true rfl, Nat.le_of_ble_eq_true rfl⟩) hK hP hS rfl hl.1 rfl (Nat.le_of_ble_eq_true rfl) dX7_isPrime_25 ⟨Nat.zero_le _, Nat.zero_le _⟩ (fun r_1 H locs h hP hS => ?_)
        obtain ⟨hz, h⟩ := h
        exact W.zret (v := r_1) hx hb hr (congrArg Value.int hz) (fun t ht hW => ⟨⟨r_1, (), rfl, h, by rw [ht]; exact hP, va_K.moved hW.alike hK⟩, hS.F ht⟩) hS.2.2 dX7_isPrime_28
      · have h := h.2 c_5
        refine lv_iload_n hx hb dX7_isPrime_7 rfl (lv_at hl 0 rfl) ?_
        refine lv_iload_n hx hb dX7_isPrime_8 rfl (lv_at hl 1 rfl) ?_
        obtain ⟨hne, h⟩ := h
        refine m_irem hx hb dX7_isPrime_9 hne ?_
        refine lv_if_ne (tgt := 15) hx hb dX7_isPrime_10 (by decide) (fun c_4 => ?_) (fun c_4 => ?_)
        · have h := h.1 c_4
          obtain ⟨x1_3, ex1_3⟩ : ∃ y : Int32, y = x1 + 1 := ⟨_, rfl⟩
          have h := h x1_3 ex1_3
          refine lv_iinc (v := x1_3) (lv' := [(1, .int x1_3), (0, .int p1)]) hx hb dX7_isPrime_15 hl (k := 1) rfl (by rw [ex1_3]; rfl) (by decide) rfl (fun ls hl => ?_)
          refine lv_goto (tgt := 2) hx hb dX7_isPrime_18 (by decide) ?_
          obtain ⟨mm, hmm, h⟩ := h
          exact ih2 mm hmm _ _ _ _ hP hS (lv_sub hl [1, 0] rfl) h
        · have h := h.2 c_4
          refine lv_iconst (v := 0) hx hb dX7_isPrime_13 (by decide) ?_
          exact W.zret (v := 0) hx hb hr rfl (fun t ht hW => ⟨⟨0, (), rfl, h, by rw [ht]; exact hP, va_K.moved hW.alike hK⟩, hS.F ht⟩) hS.2.2 dX7_isPrime_14
  unfold wp_isPrime at h
  refine lv_iconst (v := 2) hx hb dX7_isPrime_0 (by decide) ?_
  refine lv_istore_n (lv' := [(1, .int 2), (0, .int p1)]) hx hb dX7_isPrime_1 rfl hl (by decide) rfl (fun ls hl => ?_)
  exact L2 _  _ _ _ h hP hS (lv_sub hl [1, 0] rfl)
def wp_third  (S : St) (post : Int32 → Prop) : Prop :=
  post ((3 - (S 0 7)) - (S 0 8))
set_option maxHeartbeats 4000000 in
theorem met_third (l : Launch) (D : va_G) (cI cB : ClassId) (b : Nat)   (S : St) (post : Int32 → Prop) (h : wp_third  S post) : Met l yX7_third (ws_ yX7_third cX7_third 1 (some .int)) ({ frames := 0, cells := 0, slots := 0, locals := 0 } : Room) (mPc D cI cB b [.ref b] S) (mQp D cI cB b S post) 0 0 (mA b) := by
  refine Met.ofW (cc := cX7_third) (maxL := 1) (ret := (some .int)) (by decide) rfl ?_
  intro p e s m args below meth c s₁ B hml hv
  obtain ⟨rfl, hP, hK⟩ := hv
  have hx := B.exec
  have hb := B.bytes
  have hr := B.returns
  have hts := atoms_spec (ws := ws_ yX7_third cX7_third 1 (some .int)) B.pre
  have hts : ∀ w ∈ lw_all, w.before _ s = true := fun w h => hts w (List.mem_cons_of_mem _ h)
  have hown : s.vm.findClass RX7 = some m.cls := findClass_of_methodNamed B.named
  have hlocks := B.notSynchronized
  have hS : va_S (mA b) s.heap s.heap [] := va_S.rf
  have hl := lv_entry ([.ref b]) (n := 1) (Nat.le_of_ble_eq_true rfl)
  rw [lg_entry_eq]
  generalize (lg_sl ([.ref b]) ++ List.replicate (1 - (lg_sl ([.ref b])).length) Slot.unset).toArray = ls at hl ⊢
  have hl : lv_has ls 1 [(0, .ref b)] := hl
  unfold wp_third at h
  refine lv_iconst (v := 3) hx hb dX7_third_0 (by decide) ?_
  refine lv_aload_n hx hb dX7_third_1 rfl (lv_at hl 0 rfl) ?_
  refine m_get (v := .int (S 0 7)) hx hb hts hown hK hP 7 (by decide) q1217 rfl rfl dX7_third_2 ?_
  refine lv_isub hx hb dX7_third_5 ?_
  refine lv_aload_n hx hb dX7_third_6 rfl (lv_at hl 0 rfl) ?_
  refine m_get (v := .int (S 0 8)) hx hb hts hown hK hP 8 (by decide) q1218 rfl rfl dX7_third_7 ?_
  refine lv_isub hx hb dX7_third_10 ?_
  exact W.iret (v := ((3 - (S 0 7)) - (S 0 8))) hx hb hr (fun t ht hW => ⟨⟨((3 - (S 0 7)) - (S 0 8)), (), rfl, h, by rw [ht]; exact hP, va_K.moved hW.alike hK⟩, hS.F ht⟩) hS.2.2 dX7_third_11
def wp_laysKey (p1 : Int32) (p2 : Int32) (p3 : Int32) (S : St) (post : St → Prop) : Prop :=
  wp_third  S (fun r_1 =>
  ∃ j_3 : Nat, j_3 < 4096 ∧ (S 0 25) = nI j_3 ∧ ∀ S_4 : St, S_4 = bw S 4 j_3 (((jshl p1 (4 * (S 0 7))) ||| (jshl p2 (4 * (S 0 8)))) ||| (jshl p3 (4 * r_1))) →
  ∀ S_5 : St, S_5 = bw S_4 0 25 ((S_4 0 25) + 1) →
  post S_5)
set_option maxHeartbeats 4000000 in
theorem met_laysKey (l : Launch) (D : va_G) (cI cB : ClassId) (b : Nat) (p1 : Int32) (p2 : Int32) (p3 : Int32)  (S : St) (post : St → Prop) (h : wp_laysKey p1 p2 p3 S post) : Met l yX7_laysKey (ws_ yX7_laysKey cX7_laysKey 4 none) ({ frames := 1, cells := 0, slots := 0, locals := 20 } : Room) (mPc D cI cB b [.ref b, .int p1, .int p2, .int p3] S) (mQv D cI cB b post) 0 0 (mA b) := by
  refine Met.ofW (cc := cX7_laysKey) (maxL := 4) (ret := none) (by decide) rfl ?_
  intro p e s m args below meth c s₁ B hml hv
  obtain ⟨rfl, hP, hK⟩ := hv
  have hx := B.exec
  have hb := B.bytes
  have hr := B.returns
  have hts := atoms_spec (ws := ws_ yX7_laysKey cX7_laysKey 4 none) B.pre
  have hts : ∀ w ∈ lw_all, w.before _ s = true := fun w h => hts w (List.mem_cons_of_mem _ h)
  have hown : s.vm.findClass RX7 = some m.cls := findClass_of_methodNamed B.named
  have hlocks := B.notSynchronized
  have hS : va_S (mA b) s.heap s.heap [] := va_S.rf
  have hl := lv_entry ([.ref b, .int p1, .int p2, .int p3]) (n := 4) (Nat.le_of_ble_eq_true rfl)
  rw [lg_entry_eq]
  generalize (lg_sl ([.ref b, .int p1, .int p2, .int p3]) ++ List.replicate (4 - (lg_sl ([.ref b, .int p1, .int p2, .int p3])).length) Slot.unset).toArray = ls at hl ⊢
  have hl : lv_has ls 4 [(0, .ref b), (1, .int p1), (2, .int p2), (3, .int p3)] := hl
  unfold wp_laysKey at h
  refine lv_aload_n hx hb dX7_laysKey_0 rfl (lv_at hl 0 rfl) ?_
  refine m_get (v := .ref (b + 4)) hx hb hts hown hK hP 24 (by decide) q1234 rfl rfl dX7_laysKey_1 ?_
  refine lv_aload_n hx hb dX7_laysKey_4 rfl (lv_at hl 0 rfl) ?_
  refine m_get (v := .int (S 0 25)) hx hb hts hown hK hP 25 (by decide) q1235 rfl rfl dX7_laysKey_5 ?_
  refine lv_iload_n hx hb dX7_laysKey_8 rfl (lv_at hl 1 rfl) ?_
  refine lv_iconst (v := 4) hx hb dX7_laysKey_9 (by decide) ?_
  refine lv_aload_n hx hb dX7_laysKey_10 rfl (lv_at hl 0 rfl) ?_
  refine m_get (v := .int (S 0 7)) hx hb hts hown hK hP 7 (by decide) q1217 rfl rfl dX7_laysKey_11 ?_
  refine lv_imul hx hb dX7_laysKey_14 ?_
  refine m_ishl hx hb dX7_laysKey_15 ?_
  refine lv_iload_n hx hb dX7_laysKey_16 rfl (lv_at hl 2 rfl) ?_
  refine lv_iconst (v := 4) hx hb dX7_laysKey_17 (by decide) ?_
  refine lv_aload_n hx hb dX7_laysKey_18 rfl (lv_at hl 0 rfl) ?_
  refine m_get (v := .int (S 0 8)) hx hb hts hown hK hP 8 (by decide) q1218 rfl rfl dX7_laysKey_19 ?_
  refine lv_imul hx hb dX7_laysKey_22 ?_
  refine m_ishl hx hb dX7_laysKey_23 ?_
  refine lv_ior hx hb dX7_laysKey_24 ?_
  refine lv_iload_n hx hb dX7_laysKey_25 rfl (lv_at hl 3 rfl) ?_
  refine lv_iconst (v := 4) hx hb dX7_laysKey_26 (by decide) ?_
  refine lv_aload_n hx hb dX7_laysKey_27 rfl (lv_at hl 0 rfl) ?_
  refine m_cVp (As := []) (rest := [.int 4, .int p3, .int ((jshl p1 (4 * (S 0 7))) ||| (jshl p2 (4 * (S 0 8)))), .int (S 0 25), .ref (b + 4)]) ⟨hx, hb, hml, hown, hts⟩ (met_third l D cI cB b   S _ h) (cwV 0 hts (lw_V q1494 q1496 qs75 q128 q1497) rfl rfl rfl cwd_third ⟨Nat.le_of_ble_eq_true rfl, Nat.le_of_ble_eq_true rfl⟩) hK hP hS rfl hl.1 rfl (Nat.le_of_ble_eq_true rfl) dX7_laysKey_28 ⟨Nat.zero_le _, Nat.zero_le _⟩ (fun r_1 H locs h hP hS => ?_)
  refine lv_imul hx hb dX7_laysKey_31 ?_
  refine m_ishl hx hb dX7_laysKey_32 ?_
  refine lv_ior hx hb dX7_laysKey_33 ?_
  obtain ⟨j_3, hj_3, ej_3, h⟩ := h
  obtain ⟨S_4, eS_4⟩ : ∃ z : St, z = bw S 4 j_3 (((jshl p1 (4 * (S 0 7))) ||| (jshl p2 (4 * (S 0 8)))) ||| (jshl p3 (4 * r_1))) := ⟨_, rfl⟩
  have h := h S_4 eS_4
  refine m_iast hx hb hK hP hS (k := 4) mok_4 ej_3 hj_3 dX7_laysKey_34 (fun H locs hP hS => ?_)
  rw [← eS_4] at hP
  refine lv_aload_n hx hb dX7_laysKey_35 rfl (lv_at hl 0 rfl) ?_
  refine lv_dup hx hb dX7_laysKey_36 rfl ?_
  refine m_get (v := .int (S_4 0 25)) hx hb hts hown hK hP 25 (by decide) q1235 rfl rfl dX7_laysKey_37 ?_
  refine lv_iconst (v := 1) hx hb dX7_laysKey_40 (by decide) ?_
  refine lv_iadd hx hb dX7_laysKey_41 ?_
  obtain ⟨S_5, eS_5⟩ : ∃ z : St, z = bw S_4 0 25 ((S_4 0 25) + 1) := ⟨_, rfl⟩
  have h := h S_5 eS_5
  refine m_put (S1 := S_5) (v := .int ((S_4 0 25) + 1)) (ty := .int) hx hb hts hown hK hP hS 25 (by decide) q1235 rfl rfl (tyX7_ok 25 (by decide)) rfl rfl (by rw [eS_5]; exact mset_25 b S_4 ((S_4 0 25) + 1)) (by rw [eS_5]; exact bw_0) dX7_laysKey_42 (fun H locs hP hS => ?_)
  exact W.vret hx hb hr (fun t ht hW => ⟨⟨S_5, rfl, h, by rw [ht]; exact hP, va_K.moved hW.alike hK⟩, hS.F ht⟩) hS.2.2 dX7_laysKey_45
def wp_laysOrder_j181  (post : St → Prop) (R62 : Int32 → St → Prop) (x1 : Int32) (S : St) : Prop :=
        ∀ x1_1 : Int32, x1_1 = x1 + (-1) →
        R62 x1_1 S
def wp_laysOrder_j169  (post : St → Prop) (R62 : Int32 → St → Prop) (R130 : Int32 → St → Prop) (R138 : Int32 → St → Prop) (x1 : Int32) (x2 : Int32) (x3 : Int32) (S : St) : Prop :=
                ∀ x3_2 : Int32, x3_2 = x3 + 1 →
                R138 x3_2 S
def wp_laysOrder_b138  (post : St → Prop) (R62 : Int32 → St → Prop) (R130 : Int32 → St → Prop) (R138 : Int32 → St → Prop) (x1 : Int32) (x2 : Int32) (x3 : Int32) (S : St) : Prop :=
              ((15 < x3 →
                ∀ x2_3 : Int32, x2_3 = x2 + 1 →
                R130 x2_3 S) ∧
               (¬ (15 < x3) →
                wp_in ((x1 - x3) - x2) 0 15 S (fun r_4 =>
                ((r_4 = 0 →
                  wp_laysOrder_j169  post R62 R130 R138 x1 x2 x3 S) ∧
                 (¬ (r_4 = 0) →
                  wp_laysKey ((x1 - x3) - x2) x3 x2 S (fun S_7 =>
                  wp_laysOrder_j169  post R62 R130 R138 x1 x2 x3 S_7))))))
def wp_laysOrder_l138  (post : St → Prop) (R62 : Int32 → St → Prop) (R130 : Int32 → St → Prop) (x1 : Int32) (x2 : Int32) (x3 : Int32) (S : St) : Prop := wLoop (fun (R : (Int32 × St) → Prop) (v : Int32 × St) => wp_laysOrder_b138  post R62 R130 (fun x3 S => R (x3, S)) x1 x2 v.1 v.2) (x3, S)
def wp_laysOrder_b130  (post : St → Prop) (R62 : Int32 → St → Prop) (R130 : Int32 → St → Prop) (x1 : Int32) (x2 : Int32) (S : St) : Prop :=
          ((15 < x2 →
            wp_laysOrder_j181  post R62 x1 S) ∧
           (¬ (15 < x2) →
            wp_laysOrder_l138  post R62 R130 x1 x2 0 S))
def wp_laysOrder_l130  (post : St → Prop) (R62 : Int32 → St → Prop) (x1 : Int32) (x2 : Int32) (S : St) : Prop := wLoop (fun (R : (Int32 × St) → Prop) (v : Int32 × St) => wp_laysOrder_b130  post R62 (fun x2 S => R (x2, S)) x1 v.1 v.2) (x2, S)
def wp_laysOrder_j113  (post : St → Prop) (R62 : Int32 → St → Prop) (R77 : Int32 → St → Prop) (R84 : Int32 → St → Prop) (x1 : Int32) (x2 : Int32) (x3 : Int32) (S : St) : Prop :=
                ∀ x3_11 : Int32, x3_11 = x3 + (-1) →
                R84 x3_11 S
def wp_laysOrder_b84  (post : St → Prop) (R62 : Int32 → St → Prop) (R77 : Int32 → St → Prop) (R84 : Int32 → St → Prop) (x1 : Int32) (x2 : Int32) (x3 : Int32) (S : St) : Prop :=
              ((x3 < 0 →
                ∀ x2_12 : Int32, x2_12 = x2 + (-1) →
                R77 x2_12 S) ∧
               (¬ (x3 < 0) →
                wp_in ((x1 - x2) - x3) 0 15 S (fun r_13 =>
                ((r_13 = 0 →
                  wp_laysOrder_j113  post R62 R77 R84 x1 x2 x3 S) ∧
                 (¬ (r_13 = 0) →
                  wp_laysKey x2 x3 ((x1 - x2) - x3) S (fun S_16 =>
                  wp_laysOrder_j113  post R62 R77 R84 x1 x2 x3 S_16))))))
def wp_laysOrder_l84  (post : St → Prop) (R62 : Int32 → St → Prop) (R77 : Int32 → St → Prop) (x1 : Int32) (x2 : Int32) (x3 : Int32) (S : St) : Prop := wLoop (fun (R : (Int32 × St) → Prop) (v : Int32 × St) => wp_laysOrder_b84  post R62 R77 (fun x3 S => R (x3, S)) x1 x2 v.1 v.2) (x3, S)
def wp_laysOrder_b77  (post : St → Prop) (R62 : Int32 → St → Prop) (R77 : Int32 → St → Prop) (x1 : Int32) (x2 : Int32) (S : St) : Prop :=
          ((x2 < 0 →
            wp_laysOrder_j181  post R62 x1 S) ∧
           (¬ (x2 < 0) →
            wp_laysOrder_l84  post R62 R77 x1 x2 15 S))
def wp_laysOrder_l77  (post : St → Prop) (R62 : Int32 → St → Prop) (x1 : Int32) (x2 : Int32) (S : St) : Prop := wLoop (fun (R : (Int32 × St) → Prop) (v : Int32 × St) => wp_laysOrder_b77  post R62 (fun x2 S => R (x2, S)) x1 v.1 v.2) (x2, S)
def wp_laysOrder_b62  (post : St → Prop) (R62 : Int32 → St → Prop)  (x1 : Int32) (S : St) : Prop :=
      ((x1 < 0 →
        post S) ∧
       (¬ (x1 < 0) →
        ((¬ (S 0 6) = 1 →
          wp_laysOrder_l130  post R62 x1 0 S) ∧
         ((S 0 6) = 1 →
          wp_laysOrder_l77  post R62 x1 15 S))))
def wp_laysOrder_l62  (post : St → Prop)  (x1 : Int32) (S : St) : Prop := wLoop (fun (R : (Int32 × St) → Prop) (v : Int32 × St) => wp_laysOrder_b62  post (fun x1 S => R (x1, S))  v.1 v.2) (x1, S)
def wp_laysOrder_b29  (post : St → Prop) (R15 : Int32 → St → Prop) (R22 : Int32 → St → Prop) (R29 : Int32 → St → Prop) (x1 : Int32) (x2 : Int32) (x3 : Int32) (S : St) : Prop :=
              ((x3 < 0 →
                ∀ x2_22 : Int32, x2_22 = x2 + (-1) →
                R22 x2_22 S) ∧
               (¬ (x3 < 0) →
                wp_laysKey x1 x2 x3 S (fun S_24 =>
                ∀ x3_25 : Int32, x3_25 = x3 + (-1) →
                R29 x3_25 S_24)))
def wp_laysOrder_l29  (post : St → Prop) (R15 : Int32 → St → Prop) (R22 : Int32 → St → Prop) (x1 : Int32) (x2 : Int32) (x3 : Int32) (S : St) : Prop := wLoop (fun (R : (Int32 × St) → Prop) (v : Int32 × St) => wp_laysOrder_b29  post R15 R22 (fun x3 S => R (x3, S)) x1 x2 v.1 v.2) (x3, S)
def wp_laysOrder_b22  (post : St → Prop) (R15 : Int32 → St → Prop) (R22 : Int32 → St → Prop) (x1 : Int32) (x2 : Int32) (S : St) : Prop :=
          ((x2 < 0 →
            ∀ x1_27 : Int32, x1_27 = x1 + (-1) →
            R15 x1_27 S) ∧
           (¬ (x2 < 0) →
            wp_laysOrder_l29  post R15 R22 x1 x2 15 S))
def wp_laysOrder_l22  (post : St → Prop) (R15 : Int32 → St → Prop) (x1 : Int32) (x2 : Int32) (S : St) : Prop := wLoop (fun (R : (Int32 × St) → Prop) (v : Int32 × St) => wp_laysOrder_b22  post R15 (fun x2 S => R (x2, S)) x1 v.1 v.2) (x2, S)
def wp_laysOrder_b15  (post : St → Prop) (R15 : Int32 → St → Prop)  (x1 : Int32) (S : St) : Prop :=
      ((x1 < 0 →
        post S) ∧
       (¬ (x1 < 0) →
        wp_laysOrder_l22  post R15 x1 15 S))
def wp_laysOrder_l15  (post : St → Prop)  (x1 : Int32) (S : St) : Prop := wLoop (fun (R : (Int32 × St) → Prop) (v : Int32 × St) => wp_laysOrder_b15  post (fun x1 S => R (x1, S))  v.1 v.2) (x1, S)
def wp_laysOrder  (S : St) (post : St → Prop) : Prop :=
  ∀ S_30 : St, S_30 = bw S 0 25 0 →
  ((¬ (S_30 0 6) = 0 →
    wp_laysOrder_l62  post 45 S_30) ∧
   ((S_30 0 6) = 0 →
    wp_laysOrder_l15  post 15 S_30))
set_option maxHeartbeats 4000000 in
theorem met_laysOrder (l : Launch) (D : va_G) (cI cB : ClassId) (b : Nat)   (S : St) (post : St → Prop) (h : wp_laysOrder  S post) : Met l yX7_laysOrder (ws_ yX7_laysOrder cX7_laysOrder 4 none) ({ frames := 2, cells := 0, slots := 0, locals := 43 } : Room) (mPc D cI cB b [.ref b] S) (mQv D cI cB b post) 0 0 (mA b) := by
  refine Met.ofW (cc := cX7_laysOrder) (maxL := 4) (ret := none) (by decide) rfl ?_
  intro p e s m args below meth c s₁ B hml hv
  obtain ⟨rfl, hP, hK⟩ := hv
  have hx := B.exec
  have hb := B.bytes
  have hr := B.returns
  have hts := atoms_spec (ws := ws_ yX7_laysOrder cX7_laysOrder 4 none) B.pre
  have hts : ∀ w ∈ lw_all, w.before _ s = true := fun w h => hts w (List.mem_cons_of_mem _ h)
  have hown : s.vm.findClass RX7 = some m.cls := findClass_of_methodNamed B.named
  have hlocks := B.notSynchronized
  have hS : va_S (mA b) s.heap s.heap [] := va_S.rf
  have hl := lv_entry ([.ref b]) (n := 4) (Nat.le_of_ble_eq_true rfl)
  rw [lg_entry_eq]
  generalize (lg_sl ([.ref b]) ++ List.replicate (4 - (lg_sl ([.ref b])).length) Slot.unset).toArray = ls at hl ⊢
  have hl : lv_has ls 4 [(0, .ref b)] := hl
  have L62 : ∀  (x1 : Int32) (S : St) (H : Heap) (locs : List Loc) (ls : Array Slot), wp_laysOrder_l62  post  x1 S → mW D cI cB b S H → va_S (mA b) s.heap H locs → lv_has ls 4 [(0, .ref b), (1, .int x1)] → W p l e (headSpec (ws_ yX7_laysOrder cX7_laysOrder 4 none) ({ frames := 2, cells := 0, slots := 0, locals := 43 } : Room)).room s m ([.ref b] : List Value).toArray below meth c H locs 0 0 (MQ below (mQv D cI cB b post) ([.ref b] : List Value).toArray s 0 0 (mA b)) (F0 m 62 ls []) := by
    intro  x1 S H locs ls h hP hS hl
    obtain ⟨I62, n62, hI, hstep62⟩ := h
    induction n62 using Nat.strongRecOn generalizing x1 S H locs ls with
    | ind n62 ih62 =>
      have h : wp_laysOrder_b62  post (fun x1 S => ∃ mm, mm < n62 ∧ I62 mm (x1, S))  x1 S := hstep62 n62 _ hI
      clear hI
      have J181 : ∀ (x1 : Int32) (S : St) (H : Heap) (locs : List Loc) (ls : Array Slot), wp_laysOrder_j181  post (fun x1 S => ∃ mm, mm < n62 ∧ I62 mm (x1, S)) x1 S → mW D cI cB b S H → va_S (mA b) s.heap H locs → lv_has ls 4 [(0, .ref b), (1, .int x1)] → W p l e (headSpec (ws_ yX7_laysOrder cX7_laysOrder 4 none) ({ frames := 2, cells := 0, slots := 0, locals := 43 } : Room)).room s m ([.ref b] : List Value).toArray below meth c H locs 0 0 (MQ below (mQv D cI cB b post) ([.ref b] : List Value).toArray s 0 0 (mA b)) (F0 m 181 ls []) := by
        intro x1 S H locs ls h hP hS hl
        unfold wp_laysOrder_j181 at h
        obtain ⟨x1_1, ex1_1⟩ : ∃ y : Int32, y = x1 + (-1) := ⟨_, rfl⟩
        have h := h x1_1 ex1_1
        refine lv_iinc (v := x1_1) (lv' := [(1, .int x1_1), (0, .ref b)]) hx hb dX7_laysOrder_181 hl (k := 1) rfl (by rw [ex1_1]; rfl) (by decide) rfl (fun ls hl => ?_)
        refine lv_goto (tgt := 62) hx hb dX7_laysOrder_184 (by decide) ?_
        obtain ⟨mm, hmm, h⟩ := h
        exact ih62 mm hmm _ _ _ _ _ hP hS (lv_sub hl [1, 0] rfl) h
      have L130 : ∀ (x1 : Int32) (x2 : Int32) (S : St) (H : Heap) (locs : List Loc) (ls : Array Slot), wp_laysOrder_l130  post (fun x1 S => ∃ mm, mm < n62 ∧ I62 mm (x1, S)) x1 x2 S → mW D cI cB b S H → va_S (mA b) s.heap H locs → lv_has ls 4 [(0, .ref b), (1, .int x1), (2, .int x2)] → W p l e (headSpec (ws_ yX7_laysOrder cX7_laysOrder 4 none) ({ frames := 2, cells := 0, slots := 0, locals := 43 } : Room)).room s m ([.ref b] : List Value).toArray below meth c H locs 0 0 (MQ below (mQv D cI cB b post) ([.ref b] : List Value).toArray s 0 0 (mA b)) (F0 m 130 ls []) := by
        intro x1 x2 S H locs ls h hP hS hl
        obtain ⟨I130, n130, hI, hstep130⟩ := h
        induction n130 using Nat.strongRecOn generalizing x2 S H locs ls with
        | ind n130 ih130 =>
          have h : wp_laysOrder_b130  post (fun x1 S => ∃ mm, mm < n62 ∧ I62 mm (x1, S)) (fun x2 S => ∃ mm, mm < n130 ∧ I130 mm (x2, S)) x1 x2 S := hstep130 n130 _ hI
          clear hI
          have L138 : ∀ (x2 : Int32) (x3 : Int32) (S : St) (H : Heap) (locs : List Loc) (ls : Array Slot), wp_laysOrder_l138  post (fun x1 S => ∃ mm, mm < n62 ∧ I62 mm (x1, S)) (fun x2 S => ∃ mm, mm < n130 ∧ I130 mm (x2, S)) x1 x2 x3 S → mW D cI cB b S H → va_S (mA b) s.heap H locs → lv_has ls 4 [(0, .ref b), (1, .int x1), (2, .int x2), (3, .int x3)] → W p l e (headSpec (ws_ yX7_laysOrder cX7_laysOrder 4 none) ({ frames := 2, cells := 0, slots := 0, locals := 43 } : Room)).room s m ([.ref b] : List Value).toArray below meth c H locs 0 0 (MQ below (mQv D cI cB b post) ([.ref b] : List Value).toArray s 0 0 (mA b)) (F0 m 138 ls []) := by
            intro x2 x3 S H locs ls h hP hS hl
            obtain ⟨I138, n138, hI, hstep138⟩ := h
            induction n138 using Nat.strongRecOn generalizing x3 S H locs ls with
            | ind n138 ih138 =>
              have h : wp_laysOrder_b138  post (fun x1 S => ∃ mm, mm < n62 ∧ I62 mm (x1, S)) (fun x2 S => ∃ mm, mm < n130 ∧ I130 mm (x2, S)) (fun x3 S => ∃ mm, mm < n138 ∧ I138 mm (x3, S)) x1 x2 x3 S := hstep138 n138 _ hI
              clear hI
              have J169 : ∀ (x3 : Int32) (S : St) (H : Heap) (locs : List Loc) (ls : Array Slot), wp_laysOrder_j169  post (fun x1 S => ∃ mm, mm < n62 ∧ I62 mm (x1, S)) (fun x2 S => ∃ mm, mm < n130 ∧ I130 mm (x2, S)) (fun x3 S => ∃ mm, mm < n138 ∧ I138 mm (x3, S)) x1 x2 x3 S → mW D cI cB b S H → va_S (mA b) s.heap H locs → lv_has ls 4 [(0, .ref b), (1, .int x1), (2, .int x2), (3, .int x3)] → W p l e (headSpec (ws_ yX7_laysOrder cX7_laysOrder 4 none) ({ frames := 2, cells := 0, slots := 0, locals := 43 } : Room)).room s m ([.ref b] : List Value).toArray below meth c H locs 0 0 (MQ below (mQv D cI cB b post) ([.ref b] : List Value).toArray s 0 0 (mA b)) (F0 m 169 ls []) := by
                intro x3 S H locs ls h hP hS hl
                unfold wp_laysOrder_j169 at h
                obtain ⟨x3_2, ex3_2⟩ : ∃ y : Int32, y = x3 + 1 := ⟨_, rfl⟩
                have h := h x3_2 ex3_2
                refine lv_iinc (v := x3_2) (lv' := [(3, .int x3_2), (0, .ref b), (1, .int x1), (2, .int x2)]) hx hb dX7_laysOrder_169 hl (k := 3) rfl (by rw [ex3_2]; rfl) (by decide) rfl (fun ls hl => ?_)
                refine lv_goto (tgt := 138) hx hb dX7_laysOrder_172 (by decide) ?_
                obtain ⟨mm, hmm, h⟩ := h
                exact ih138 mm hmm _ _ _ _ _ hP hS (lv_sub hl [1, 2, 3, 0] rfl) h
              unfold wp_laysOrder_b138 at h
              refine lv_iload_n hx hb dX7_laysOrder_138 rfl (lv_at hl 3 rfl) ?_
              refine lv_bipush (v := 15) hx hb dX7_laysOrder_139 (by decide) ?_
              refine lv_icmp_gt (tgt := 175) hx hb dX7_laysOrder_141 (by decide) (fun c_9 => ?_) (fun c_9 => ?_)
              · have h := h.1 c_9
                obtain ⟨x2_3, ex2_3⟩ : ∃ y : Int32, y = x2 + 1 := ⟨_, rfl⟩
                have h := h x2_3 ex2_3
                refine lv_iinc (v := x2_3) (lv' := [(2, .int x2_3), (0, .ref b), (1, .int x1), (3, .int x3)]) hx hb dX7_laysOrder_175 hl (k := 2) rfl (by rw [ex2_3]; rfl) (by decide) rfl (fun ls hl => ?_)
                refine lv_goto (tgt := 130) hx hb dX7_laysOrder_178 (by decide) ?_
                obtain ⟨mm, hmm, h⟩ := h
                exact ih130 mm hmm _ _ _ _ _ hP hS (lv_sub hl [1, 2, 0] rfl) h
              · have h := h.2 c_9
                refine lv_iload_n hx hb dX7_laysOrder_144 rfl (lv_at hl 1 rfl) ?_
                refine lv_iload_n hx hb dX7_laysOrder_145 rfl (lv_at hl 3 rfl) ?_
                refine lv_isub hx hb dX7_laysOrder_146 ?_
                refine lv_iload_n hx hb dX7_laysOrder_147 rfl (lv_at hl 2 rfl) ?_
                refine lv_isub hx hb dX7_laysOrder_148 ?_
                refine lv_iconst (v := 0) hx hb dX7_laysOrder_149 (by decide) ?_
                refine lv_bipush (v := 15) hx hb dX7_laysOrder_150 (by decide) ?_
                refine m_cSp (As := [.int ((x1 - x3) - x2), .int 0, .int 15]) (rest := []) ⟨hx, hb, hml, hown, hts⟩ (met_in l D cI cB b ((x1 - x3) - x2) 0 15  S _ h) (va_cwS 3 hts (lw_S q1398 q1399 q128 q1400) rfl rfl rfl cwd_in ⟨Nat.le_of_ble_eq_true rfl, Nat.le_of_ble_eq_true rfl⟩) hK hP hS rfl hl.1 rfl (Nat.le_of_ble_eq_true rfl) dX7_laysOrder_152 ⟨Nat.zero_le _, Nat.zero_le _⟩ (fun r_4 H locs h hP hS => ?_)
                refine lv_if_eq (tgt := 169) hx hb dX7_laysOrder_155 (by decide) (fun c_8 => ?_) (fun c_8 => ?_)
                · have h := h.1 c_8
                  exact J169 _ _ _ _ _ h hP hS (lv_sub hl [0, 1, 2, 3] rfl)
                · have h := h.2 c_8
                  refine lv_aload_n hx hb dX7_laysOrder_158 rfl (lv_at hl 0 rfl) ?_
                  refine lv_iload_n hx hb dX7_laysOrder_159 rfl (lv_at hl 1 rfl) ?_
                  refine lv_iload_n hx hb dX7_laysOrder_160 rfl (lv_at hl 3 rfl) ?_
                  refine lv_isub hx hb dX7_laysOrder_161 ?_
                  refine lv_iload_n hx hb dX7_laysOrder_162 rfl (lv_at hl 2 rfl) ?_
                  refine lv_isub hx hb dX7_laysOrder_163 ?_
                  refine lv_iload_n hx hb dX7_laysOrder_164 rfl (lv_at hl 3 rfl) ?_
                  refine lv_iload_n hx hb dX7_laysOrder_165 rfl (lv_at hl 2 rfl) ?_
                  refine m_cVv (As := [.int ((x1 - x3) - x2), .int x3, .int x2]) (rest := []) ⟨hx, hb, hml, hown, hts⟩ (met_laysKey l D cI cB b ((x1 - x3) - x2) x3 x2  S _ h) (cwV 3 hts (lw_V q1490 q1492 qs74 q128 q1493) rfl rfl rfl cwd_laysKey ⟨Nat.le_of_ble_eq_true rfl, Nat.le_of_ble_eq_true rfl⟩) hK hP hS rfl hl.1 rfl (Nat.le_of_ble_eq_true rfl) dX7_laysOrder_166 ⟨Nat.zero_le _, Nat.zero_le _⟩ (fun S_7 H locs h hP hS => ?_)
                  exact J169 _ _ _ _ _ h hP hS (lv_sub hl [0, 1, 2, 3] rfl)
          unfold wp_laysOrder_b130 at h
          refine lv_iload_n hx hb dX7_laysOrder_130 rfl (lv_at hl 2 rfl) ?_
          refine lv_bipush (v := 15) hx hb dX7_laysOrder_131 (by decide) ?_
          refine lv_icmp_gt (tgt := 181) hx hb dX7_laysOrder_133 (by decide) (fun c_10 => ?_) (fun c_10 => ?_)
          · have h := h.1 c_10
            exact J181 _ _ _ _ _ h hP hS (lv_sub hl [0, 1] rfl)
          · have h := h.2 c_10
            refine lv_iconst (v := 0) hx hb dX7_laysOrder_136 (by decide) ?_
            refine lv_istore_n (lv' := [(3, .int 0), (0, .ref b), (1, .int x1), (2, .int x2)]) hx hb dX7_laysOrder_137 rfl hl (by decide) rfl (fun ls hl => ?_)
            exact L138 _ _ _ _ _ _ h hP hS (lv_sub hl [1, 2, 3, 0] rfl)
      have L77 : ∀ (x1 : Int32) (x2 : Int32) (S : St) (H : Heap) (locs : List Loc) (ls : Array Slot), wp_laysOrder_l77  post (fun x1 S => ∃ mm, mm < n62 ∧ I62 mm (x1, S)) x1 x2 S → mW D cI cB b S H → va_S (mA b) s.heap H locs → lv_has ls 4 [(0, .ref b), (1, .int x1), (2, .int x2)] → W p l e (headSpec (ws_ yX7_laysOrder cX7_laysOrder 4 none) ({ frames := 2, cells := 0, slots := 0, locals := 43 } : Room)).room s m ([.ref b] : List Value).toArray below meth c H locs 0 0 (MQ below (mQv D cI cB b post) ([.ref b] : List Value).toArray s 0 0 (mA b)) (F0 m 77 ls []) := by
        intro x1 x2 S H locs ls h hP hS hl
        obtain ⟨I77, n77, hI, hstep77⟩ := h
        induction n77 using Nat.strongRecOn generalizing x2 S H locs ls with
        | ind n77 ih77 =>
          have h : wp_laysOrder_b77  post (fun x1 S => ∃ mm, mm < n62 ∧ I62 mm (x1, S)) (fun x2 S => ∃ mm, mm < n77 ∧ I77 mm (x2, S)) x1 x2 S := hstep77 n77 _ hI
          clear hI
          have L84 : ∀ (x2 : Int32) (x3 : Int32) (S : St) (H : Heap) (locs : List Loc) (ls : Array Slot), wp_laysOrder_l84  post (fun x1 S => ∃ mm, mm < n62 ∧ I62 mm (x1, S)) (fun x2 S => ∃ mm, mm < n77 ∧ I77 mm (x2, S)) x1 x2 x3 S → mW D cI cB b S H → va_S (mA b) s.heap H locs → lv_has ls 4 [(0, .ref b), (1, .int x1), (2, .int x2), (3, .int x3)] → W p l e (headSpec (ws_ yX7_laysOrder cX7_laysOrder 4 none) ({ frames := 2, cells := 0, slots := 0, locals := 43 } : Room)).room s m ([.ref b] : List Value).toArray below meth c H locs 0 0 (MQ below (mQv D cI cB b post) ([.ref b] : List Value).toArray s 0 0 (mA b)) (F0 m 84 ls []) := by
            intro x2 x3 S H locs ls h hP hS hl
            obtain ⟨I84, n84, hI, hstep84⟩ := h
            induction n84 using Nat.strongRecOn generalizing x3 S H locs ls with
            | ind n84 ih84 =>
              have h : wp_laysOrder_b84  post (fun x1 S => ∃ mm, mm < n62 ∧ I62 mm (x1, S)) (fun x2 S => ∃ mm, mm < n77 ∧ I77 mm (x2, S)) (fun x3 S => ∃ mm, mm < n84 ∧ I84 mm (x3, S)) x1 x2 x3 S := hstep84 n84 _ hI
              clear hI
              have J113 : ∀ (x3 : Int32) (S : St) (H : Heap) (locs : List Loc) (ls : Array Slot), wp_laysOrder_j113  post (fun x1 S => ∃ mm, mm < n62 ∧ I62 mm (x1, S)) (fun x2 S => ∃ mm, mm < n77 ∧ I77 mm (x2, S)) (fun x3 S => ∃ mm, mm < n84 ∧ I84 mm (x3, S)) x1 x2 x3 S → mW D cI cB b S H → va_S (mA b) s.heap H locs → lv_has ls 4 [(0, .ref b), (1, .int x1), (2, .int x2), (3, .int x3)] → W p l e (headSpec (ws_ yX7_laysOrder cX7_laysOrder 4 none) ({ frames := 2, cells := 0, slots := 0, locals := 43 } : Room)).room s m ([.ref b] : List Value).toArray below meth c H locs 0 0 (MQ below (mQv D cI cB b post) ([.ref b] : List Value).toArray s 0 0 (mA b)) (F0 m 113 ls []) := by
                intro x3 S H locs ls h hP hS hl
                unfold wp_laysOrder_j113 at h
                obtain ⟨x3_11, ex3_11⟩ : ∃ y : Int32, y = x3 + (-1) := ⟨_, rfl⟩
                have h := h x3_11 ex3_11
                refine lv_iinc (v := x3_11) (lv' := [(3, .int x3_11), (0, .ref b), (1, .int x1), (2, .int x2)]) hx hb dX7_laysOrder_113 hl (k := 3) rfl (by rw [ex3_11]; rfl) (by decide) rfl (fun ls hl => ?_)
                refine lv_goto (tgt := 84) hx hb dX7_laysOrder_116 (by decide) ?_
                obtain ⟨mm, hmm, h⟩ := h
                exact ih84 mm hmm _ _ _ _ _ hP hS (lv_sub hl [1, 2, 3, 0] rfl) h
              unfold wp_laysOrder_b84 at h
              refine lv_iload_n hx hb dX7_laysOrder_84 rfl (lv_at hl 3 rfl) ?_
              refine lv_if_lt (tgt := 119) hx hb dX7_laysOrder_85 (by decide) (fun c_18 => ?_) (fun c_18 => ?_)
              · have h := h.1 c_18
                obtain ⟨x2_12, ex2_12⟩ : ∃ y : Int32, y = x2 + (-1) := ⟨_, rfl⟩
                have h := h x2_12 ex2_12
                refine lv_iinc (v := x2_12) (lv' := [(2, .int x2_12), (0, .ref b), (1, .int x1), (3, .int x3)]) hx hb dX7_laysOrder_119 hl (k := 2) rfl (by rw [ex2_12]; rfl) (by decide) rfl (fun ls hl => ?_)
                refine lv_goto (tgt := 77) hx hb dX7_laysOrder_122 (by decide) ?_
                obtain ⟨mm, hmm, h⟩ := h
                exact ih77 mm hmm _ _ _ _ _ hP hS (lv_sub hl [1, 2, 0] rfl) h
              · have h := h.2 c_18
                refine lv_iload_n hx hb dX7_laysOrder_88 rfl (lv_at hl 1 rfl) ?_
                refine lv_iload_n hx hb dX7_laysOrder_89 rfl (lv_at hl 2 rfl) ?_
                refine lv_isub hx hb dX7_laysOrder_90 ?_
                refine lv_iload_n hx hb dX7_laysOrder_91 rfl (lv_at hl 3 rfl) ?_
                refine lv_isub hx hb dX7_laysOrder_92 ?_
                refine lv_iconst (v := 0) hx hb dX7_laysOrder_93 (by decide) ?_
                refine lv_bipush (v := 15) hx hb dX7_laysOrder_94 (by decide) ?_
                refine m_cSp (As := [.int ((x1 - x2) - x3), .int 0, .int 15]) (rest := []) ⟨hx, hb, hml, hown, hts⟩ (met_in l D cI cB b ((x1 - x2) - x3) 0 15  S _ h) (va_cwS 3 hts (lw_S q1398 q1399 q128 q1400) rfl rfl rfl cwd_in ⟨Nat.le_of_ble_eq_true rfl, Nat.le_of_ble_eq_true rfl⟩) hK hP hS rfl hl.1 rfl (Nat.le_of_ble_eq_true rfl) dX7_laysOrder_96 ⟨Nat.zero_le _, Nat.zero_le _⟩ (fun r_13 H locs h hP hS => ?_)
                refine lv_if_eq (tgt := 113) hx hb dX7_laysOrder_99 (by decide) (fun c_17 => ?_) (fun c_17 => ?_)
                · have h := h.1 c_17
                  exact J113 _ _ _ _ _ h hP hS (lv_sub hl [0, 1, 2, 3] rfl)
                · have h := h.2 c_17
                  refine lv_aload_n hx hb dX7_laysOrder_102 rfl (lv_at hl 0 rfl) ?_
                  refine lv_iload_n hx hb dX7_laysOrder_103 rfl (lv_at hl 2 rfl) ?_
                  refine lv_iload_n hx hb dX7_laysOrder_104 rfl (lv_at hl 3 rfl) ?_
                  refine lv_iload_n hx hb dX7_laysOrder_105 rfl (lv_at hl 1 rfl) ?_
                  refine lv_iload_n hx hb dX7_laysOrder_106 rfl (lv_at hl 2 rfl) ?_
                  refine lv_isub hx hb dX7_laysOrder_107 ?_
                  refine lv_iload_n hx hb dX7_laysOrder_108 rfl (lv_at hl 3 rfl) ?_
                  refine lv_isub hx hb dX7_laysOrder_109 ?_
                  refine m_cVv (As := [.int x2, .int x3, .int ((x1 - x2) - x3)]) (rest := []) ⟨hx, hb, hml, hown, hts⟩ (met_laysKey l D cI cB b x2 x3 ((x1 - x2) - x3)  S _ h) (cwV 3 hts (lw_V q1490 q1492 qs74 q128 q1493) rfl rfl rfl cwd_laysKey ⟨Nat.le_of_ble_eq_true rfl, Nat.le_of_ble_eq_true rfl⟩) hK hP hS rfl hl.1 rfl (Nat.le_of_ble_eq_true rfl) dX7_laysOrder_110 ⟨Nat.zero_le _, Nat.zero_le _⟩ (fun S_16 H locs h hP hS => ?_)
                  exact J113 _ _ _ _ _ h hP hS (lv_sub hl [0, 1, 2, 3] rfl)
          unfold wp_laysOrder_b77 at h
          refine lv_iload_n hx hb dX7_laysOrder_77 rfl (lv_at hl 2 rfl) ?_
          refine lv_if_lt (tgt := 125) hx hb dX7_laysOrder_78 (by decide) (fun c_19 => ?_) (fun c_19 => ?_)
          · have h := h.1 c_19
            refine lv_goto (tgt := 181) hx hb dX7_laysOrder_125 (by decide) ?_
            exact J181 _ _ _ _ _ h hP hS (lv_sub hl [0, 1] rfl)
          · have h := h.2 c_19
            refine lv_bipush (v := 15) hx hb dX7_laysOrder_81 (by decide) ?_
            refine lv_istore_n (lv' := [(3, .int 15), (0, .ref b), (1, .int x1), (2, .int x2)]) hx hb dX7_laysOrder_83 rfl hl (by decide) rfl (fun ls hl => ?_)
            exact L84 _ _ _ _ _ _ h hP hS (lv_sub hl [1, 2, 3, 0] rfl)
      unfold wp_laysOrder_b62 at h
      refine lv_iload_n hx hb dX7_laysOrder_62 rfl (lv_at hl 1 rfl) ?_
      refine lv_if_lt (tgt := 187) hx hb dX7_laysOrder_63 (by decide) (fun c_21 => ?_) (fun c_21 => ?_)
      · have h := h.1 c_21
        exact W.vret hx hb hr (fun t ht hW => ⟨⟨S, rfl, h, by rw [ht]; exact hP, va_K.moved hW.alike hK⟩, hS.F ht⟩) hS.2.2 dX7_laysOrder_187
      · have h := h.2 c_21
        refine lv_aload_n hx hb dX7_laysOrder_66 rfl (lv_at hl 0 rfl) ?_
        refine m_get (v := .int (S 0 6)) hx hb hts hown hK hP 6 (by decide) q1216 rfl rfl dX7_laysOrder_67 ?_
        refine lv_iconst (v := 1) hx hb dX7_laysOrder_70 (by decide) ?_
        refine lv_icmp_ne (tgt := 128) hx hb dX7_laysOrder_71 (by decide) (fun c_20 => ?_) (fun c_20 => ?_)
        · have h := h.1 c_20
          refine lv_iconst (v := 0) hx hb dX7_laysOrder_128 (by decide) ?_
          refine lv_istore_n (lv' := [(2, .int 0), (0, .ref b), (1, .int x1)]) hx hb dX7_laysOrder_129 rfl hl (by decide) rfl (fun ls hl => ?_)
          exact L130 _ _ _ _ _ _ h hP hS (lv_sub hl [1, 2, 0] rfl)
        · have h := h.2 c_20
          refine lv_bipush (v := 15) hx hb dX7_laysOrder_74 (by decide) ?_
          refine lv_istore_n (lv' := [(2, .int 15), (0, .ref b), (1, .int x1)]) hx hb dX7_laysOrder_76 rfl hl (by decide) rfl (fun ls hl => ?_)
          exact L77 _ _ _ _ _ _ h hP hS (lv_sub hl [1, 2, 0] rfl)
  have L15 : ∀  (x1 : Int32) (S : St) (H : Heap) (locs : List Loc) (ls : Array Slot), wp_laysOrder_l15  post  x1 S → mW D cI cB b S H → va_S (mA b) s.heap H locs → lv_has ls 4 [(0, .ref b), (1, .int x1)] → W p l e (headSpec (ws_ yX7_laysOrder cX7_laysOrder 4 none) ({ frames := 2, cells := 0, slots := 0, locals := 43 } : Room)).room s m ([.ref b] : List Value).toArray below meth c H locs 0 0 (MQ below (mQv D cI cB b post) ([.ref b] : List Value).toArray s 0 0 (mA b)) (F0 m 15 ls []) := by
    intro  x1 S H locs ls h hP hS hl
    obtain ⟨I15, n15, hI, hstep15⟩ := h
    induction n15 using Nat.strongRecOn generalizing x1 S H locs ls with
    | ind n15 ih15 =>
      have h : wp_laysOrder_b15  post (fun x1 S => ∃ mm, mm < n15 ∧ I15 mm (x1, S))  x1 S := hstep15 n15 _ hI
      clear hI
      have L22 : ∀ (x1 : Int32) (x2 : Int32) (S : St) (H : Heap) (locs : List Loc) (ls : Array Slot), wp_laysOrder_l22  post (fun x1 S => ∃ mm, mm < n15 ∧ I15 mm (x1, S)) x1 x2 S → mW D cI cB b S H → va_S (mA b) s.heap H locs → lv_has ls 4 [(0, .ref b), (1, .int x1), (2, .int x2)] → W p l e (headSpec (ws_ yX7_laysOrder cX7_laysOrder 4 none) ({ frames := 2, cells := 0, slots := 0, locals := 43 } : Room)).room s m ([.ref b] : List Value).toArray below meth c H locs 0 0 (MQ below (mQv D cI cB b post) ([.ref b] : List Value).toArray s 0 0 (mA b)) (F0 m 22 ls []) := by
        intro x1 x2 S H locs ls h hP hS hl
        obtain ⟨I22, n22, hI, hstep22⟩ := h
        induction n22 using Nat.strongRecOn generalizing x2 S H locs ls with
        | ind n22 ih22 =>
          have h : wp_laysOrder_b22  post (fun x1 S => ∃ mm, mm < n15 ∧ I15 mm (x1, S)) (fun x2 S => ∃ mm, mm < n22 ∧ I22 mm (x2, S)) x1 x2 S := hstep22 n22 _ hI
          clear hI
          have L29 : ∀ (x2 : Int32) (x3 : Int32) (S : St) (H : Heap) (locs : List Loc) (ls : Array Slot), wp_laysOrder_l29  post (fun x1 S => ∃ mm, mm < n15 ∧ I15 mm (x1, S)) (fun x2 S => ∃ mm, mm < n22 ∧ I22 mm (x2, S)) x1 x2 x3 S → mW D cI cB b S H → va_S (mA b) s.heap H locs → lv_has ls 4 [(0, .ref b), (1, .int x1), (2, .int x2), (3, .int x3)] → W p l e (headSpec (ws_ yX7_laysOrder cX7_laysOrder 4 none) ({ frames := 2, cells := 0, slots := 0, locals := 43 } : Room)).room s m ([.ref b] : List Value).toArray below meth c H locs 0 0 (MQ below (mQv D cI cB b post) ([.ref b] : List Value).toArray s 0 0 (mA b)) (F0 m 29 ls []) := by
            intro x2 x3 S H locs ls h hP hS hl
            obtain ⟨I29, n29, hI, hstep29⟩ := h
            induction n29 using Nat.strongRecOn generalizing x3 S H locs ls with
            | ind n29 ih29 =>
              have h : wp_laysOrder_b29  post (fun x1 S => ∃ mm, mm < n15 ∧ I15 mm (x1, S)) (fun x2 S => ∃ mm, mm < n22 ∧ I22 mm (x2, S)) (fun x3 S => ∃ mm, mm < n29 ∧ I29 mm (x3, S)) x1 x2 x3 S := hstep29 n29 _ hI
              clear hI
              unfold wp_laysOrder_b29 at h
              refine lv_iload_n hx hb dX7_laysOrder_29 rfl (lv_at hl 3 rfl) ?_
              refine lv_if_lt (tgt := 46) hx hb dX7_laysOrder_30 (by decide) (fun c_26 => ?_) (fun c_26 => ?_)
              · have h := h.1 c_26
                obtain ⟨x2_22, ex2_22⟩ : ∃ y : Int32, y = x2 + (-1) := ⟨_, rfl⟩
                have h := h x2_22 ex2_22
                refine lv_iinc (v := x2_22) (lv' := [(2, .int x2_22), (0, .ref b), (1, .int x1), (3, .int x3)]) hx hb dX7_laysOrder_46 hl (k := 2) rfl (by rw [ex2_22]; rfl) (by decide) rfl (fun ls hl => ?_)
                refine lv_goto (tgt := 22) hx hb dX7_laysOrder_49 (by decide) ?_
                obtain ⟨mm, hmm, h⟩ := h
                exact ih22 mm hmm _ _ _ _ _ hP hS (lv_sub hl [1, 2, 0] rfl) h
              · have h := h.2 c_26
                refine lv_aload_n hx hb dX7_laysOrder_33 rfl (lv_at hl 0 rfl) ?_
                refine lv_iload_n hx hb dX7_laysOrder_34 rfl (lv_at hl 1 rfl) ?_
                refine lv_iload_n hx hb dX7_laysOrder_35 rfl (lv_at hl 2 rfl) ?_
                refine lv_iload_n hx hb dX7_laysOrder_36 rfl (lv_at hl 3 rfl) ?_
                refine m_cVv (As := [.int x1, .int x2, .int x3]) (rest := []) ⟨hx, hb, hml, hown, hts⟩ (met_laysKey l D cI cB b x1 x2 x3  S _ h) (cwV 3 hts (lw_V q1490 q1492 qs74 q128 q1493) rfl rfl rfl cwd_laysKey ⟨Nat.le_of_ble_eq_true rfl, Nat.le_of_ble_eq_true rfl⟩) hK hP hS rfl hl.1 rfl (Nat.le_of_ble_eq_true rfl) dX7_laysOrder_37 ⟨Nat.zero_le _, Nat.zero_le _⟩ (fun S_24 H locs h hP hS => ?_)
                obtain ⟨x3_25, ex3_25⟩ : ∃ y : Int32, y = x3 + (-1) := ⟨_, rfl⟩
                have h := h x3_25 ex3_25
                refine lv_iinc (v := x3_25) (lv' := [(3, .int x3_25), (0, .ref b), (1, .int x1), (2, .int x2)]) hx hb dX7_laysOrder_40 hl (k := 3) rfl (by rw [ex3_25]; rfl) (by decide) rfl (fun ls hl => ?_)
                refine lv_goto (tgt := 29) hx hb dX7_laysOrder_43 (by decide) ?_
                obtain ⟨mm, hmm, h⟩ := h
                exact ih29 mm hmm _ _ _ _ _ hP hS (lv_sub hl [1, 2, 3, 0] rfl) h
          unfold wp_laysOrder_b22 at h
          refine lv_iload_n hx hb dX7_laysOrder_22 rfl (lv_at hl 2 rfl) ?_
          refine lv_if_lt (tgt := 52) hx hb dX7_laysOrder_23 (by decide) (fun c_28 => ?_) (fun c_28 => ?_)
          · have h := h.1 c_28
            obtain ⟨x1_27, ex1_27⟩ : ∃ y : Int32, y = x1 + (-1) := ⟨_, rfl⟩
            have h := h x1_27 ex1_27
            refine lv_iinc (v := x1_27) (lv' := [(1, .int x1_27), (0, .ref b), (2, .int x2)]) hx hb dX7_laysOrder_52 hl (k := 1) rfl (by rw [ex1_27]; rfl) (by decide) rfl (fun ls hl => ?_)
            refine lv_goto (tgt := 15) hx hb dX7_laysOrder_55 (by decide) ?_
            obtain ⟨mm, hmm, h⟩ := h
            exact ih15 mm hmm _ _ _ _ _ hP hS (lv_sub hl [1, 0] rfl) h
          · have h := h.2 c_28
            refine lv_bipush (v := 15) hx hb dX7_laysOrder_26 (by decide) ?_
            refine lv_istore_n (lv' := [(3, .int 15), (0, .ref b), (1, .int x1), (2, .int x2)]) hx hb dX7_laysOrder_28 rfl hl (by decide) rfl (fun ls hl => ?_)
            exact L29 _ _ _ _ _ _ h hP hS (lv_sub hl [1, 2, 3, 0] rfl)
      unfold wp_laysOrder_b15 at h
      refine lv_iload_n hx hb dX7_laysOrder_15 rfl (lv_at hl 1 rfl) ?_
      refine lv_if_lt (tgt := 58) hx hb dX7_laysOrder_16 (by decide) (fun c_29 => ?_) (fun c_29 => ?_)
      · have h := h.1 c_29
        exact W.vret hx hb hr (fun t ht hW => ⟨⟨S, rfl, h, by rw [ht]; exact hP, va_K.moved hW.alike hK⟩, hS.F ht⟩) hS.2.2 dX7_laysOrder_58
      · have h := h.2 c_29
        refine lv_bipush (v := 15) hx hb dX7_laysOrder_19 (by decide) ?_
        refine lv_istore_n (lv' := [(2, .int 15), (0, .ref b), (1, .int x1)]) hx hb dX7_laysOrder_21 rfl hl (by decide) rfl (fun ls hl => ?_)
        exact L22 _ _ _ _ _ _ h hP hS (lv_sub hl [1, 2, 0] rfl)
  unfold wp_laysOrder at h
  refine lv_aload_n hx hb dX7_laysOrder_0 rfl (lv_at hl 0 rfl) ?_
  refine lv_iconst (v := 0) hx hb dX7_laysOrder_1 (by decide) ?_
  obtain ⟨S_30, eS_30⟩ : ∃ z : St, z = bw S 0 25 0 := ⟨_, rfl⟩
  have h := h S_30 eS_30
  refine m_put (S1 := S_30) (v := .int 0) (ty := .int) hx hb hts hown hK hP hS 25 (by decide) q1235 rfl rfl (tyX7_ok 25 (by decide)) rfl rfl (by rw [eS_30]; exact mset_25 b S 0) (by rw [eS_30]; exact bw_0) dX7_laysOrder_2 (fun H locs hP hS => ?_)
  refine lv_aload_n hx hb dX7_laysOrder_5 rfl (lv_at hl 0 rfl) ?_
  refine m_get (v := .int (S_30 0 6)) hx hb hts hown hK hP 6 (by decide) q1216 rfl rfl dX7_laysOrder_6 ?_
  refine lv_if_ne (tgt := 59) hx hb dX7_laysOrder_9 (by decide) (fun c_31 => ?_) (fun c_31 => ?_)
  · have h := h.1 c_31
    refine lv_bipush (v := 45) hx hb dX7_laysOrder_59 (by decide) ?_
    refine lv_istore_n (lv' := [(1, .int 45), (0, .ref b)]) hx hb dX7_laysOrder_61 rfl hl (by decide) rfl (fun ls hl => ?_)
    exact L62 _ _ _ _ _ h hP hS (lv_sub hl [1, 0] rfl)
  · have h := h.2 c_31
    refine lv_bipush (v := 15) hx hb dX7_laysOrder_12 (by decide) ?_
    refine lv_istore_n (lv' := [(1, .int 15), (0, .ref b)]) hx hb dX7_laysOrder_14 rfl hl (by decide) rfl (fun ls hl => ?_)
    exact L15 _ _ _ _ _ h hP hS (lv_sub hl [1, 0] rfl)
def wp_good (p1 : Int32) (S : St) (post : Int32 → St → Prop) : Prop :=
  ∀ S_1 : St, S_1 = bw S 0 1 0 →
  ∀ S_2 : St, S_2 = bw S_1 0 2 (-1) →
  post p1 S_2
set_option maxHeartbeats 4000000 in
theorem met_good (l : Launch) (D : va_G) (cI cB : ClassId) (b : Nat) (p1 : Int32)  (S : St) (post : Int32 → St → Prop) (h : wp_good p1 S post) : Met l yX7_good (ws_ yX7_good cX7_good 2 (some .int)) ({ frames := 0, cells := 0, slots := 0, locals := 0 } : Room) (mPc D cI cB b [.ref b, .int p1] S) (mQi D cI cB b post) 0 0 (mA b) := by
  refine Met.ofW (cc := cX7_good) (maxL := 2) (ret := (some .int)) (by decide) rfl ?_
  intro p e s m args below meth c s₁ B hml hv
  obtain ⟨rfl, hP, hK⟩ := hv
  have hx := B.exec
  have hb := B.bytes
  have hr := B.returns
  have hts := atoms_spec (ws := ws_ yX7_good cX7_good 2 (some .int)) B.pre
  have hts : ∀ w ∈ lw_all, w.before _ s = true := fun w h => hts w (List.mem_cons_of_mem _ h)
  have hown : s.vm.findClass RX7 = some m.cls := findClass_of_methodNamed B.named
  have hlocks := B.notSynchronized
  have hS : va_S (mA b) s.heap s.heap [] := va_S.rf
  have hl := lv_entry ([.ref b, .int p1]) (n := 2) (Nat.le_of_ble_eq_true rfl)
  rw [lg_entry_eq]
  generalize (lg_sl ([.ref b, .int p1]) ++ List.replicate (2 - (lg_sl ([.ref b, .int p1])).length) Slot.unset).toArray = ls at hl ⊢
  have hl : lv_has ls 2 [(0, .ref b), (1, .int p1)] := hl
  unfold wp_good at h
  refine lv_aload_n hx hb dX7_good_0 rfl (lv_at hl 0 rfl) ?_
  refine lv_iconst (v := 0) hx hb dX7_good_1 (by decide) ?_
  obtain ⟨S_1, eS_1⟩ : ∃ z : St, z = bw S 0 1 0 := ⟨_, rfl⟩
  have h := h S_1 eS_1
  refine m_put (S1 := S_1) (v := .int 0) (ty := .int) hx hb hts hown hK hP hS 1 (by decide) q1211 rfl rfl (tyX7_ok 1 (by decide)) rfl rfl (by rw [eS_1]; exact mset_1 b S 0) (by rw [eS_1]; exact bw_0) dX7_good_2 (fun H locs hP hS => ?_)
  refine lv_aload_n hx hb dX7_good_5 rfl (lv_at hl 0 rfl) ?_
  refine lv_iconst (v := (-1)) hx hb dX7_good_6 (by decide) ?_
  obtain ⟨S_2, eS_2⟩ : ∃ z : St, z = bw S_1 0 2 (-1) := ⟨_, rfl⟩
  have h := h S_2 eS_2
  refine m_put (S1 := S_2) (v := .int (-1)) (ty := .int) hx hb hts hown hK hP hS 2 (by decide) q1212 rfl rfl (tyX7_ok 2 (by decide)) rfl rfl (by rw [eS_2]; exact mset_2 b S_1 (-1)) (by rw [eS_2]; exact bw_0) dX7_good_7 (fun H locs hP hS => ?_)
  refine lv_iload_n hx hb dX7_good_10 rfl (lv_at hl 1 rfl) ?_
  exact W.iret (v := p1) hx hb hr (fun t ht hW => ⟨⟨p1, S_2, rfl, h, by rw [ht]; exact hP, va_K.moved hW.alike hK⟩, hS.F ht⟩) hS.2.2 dX7_good_11
def wp_fault  (S : St) (post : Int32 → St → Prop) : Prop :=
  ∀ S_1 : St, S_1 = bw S 0 0 0 →
  post (S_1 0 22) S_1
set_option maxHeartbeats 4000000 in
theorem met_fault (l : Launch) (D : va_G) (cI cB : ClassId) (b : Nat)   (S : St) (post : Int32 → St → Prop) (h : wp_fault  S post) : Met l yX7_fault (ws_ yX7_fault cX7_fault 1 (some .int)) ({ frames := 0, cells := 0, slots := 0, locals := 0 } : Room) (mPc D cI cB b [.ref b] S) (mQi D cI cB b post) 0 0 (mA b) := by
  refine Met.ofW (cc := cX7_fault) (maxL := 1) (ret := (some .int)) (by decide) rfl ?_
  intro p e s m args below meth c s₁ B hml hv
  obtain ⟨rfl, hP, hK⟩ := hv
  have hx := B.exec
  have hb := B.bytes
  have hr := B.returns
  have hts := atoms_spec (ws := ws_ yX7_fault cX7_fault 1 (some .int)) B.pre
  have hts : ∀ w ∈ lw_all, w.before _ s = true := fun w h => hts w (List.mem_cons_of_mem _ h)
  have hown : s.vm.findClass RX7 = some m.cls := findClass_of_methodNamed B.named
  have hlocks := B.notSynchronized
  have hS : va_S (mA b) s.heap s.heap [] := va_S.rf
  have hl := lv_entry ([.ref b]) (n := 1) (Nat.le_of_ble_eq_true rfl)
  rw [lg_entry_eq]
  generalize (lg_sl ([.ref b]) ++ List.replicate (1 - (lg_sl ([.ref b])).length) Slot.unset).toArray = ls at hl ⊢
  have hl : lv_has ls 1 [(0, .ref b)] := hl
  unfold wp_fault at h
  refine lv_aload_n hx hb dX7_fault_0 rfl (lv_at hl 0 rfl) ?_
  refine lv_iconst (v := 0) hx hb dX7_fault_1 (by decide) ?_
  obtain ⟨S_1, eS_1⟩ : ∃ z : St, z = bw S 0 0 0 := ⟨_, rfl⟩
  have h := h S_1 eS_1
  refine m_put (S1 := S_1) (v := .int 0) (ty := .int) hx hb hts hown hK hP hS 0 (by decide) q1210 rfl rfl (tyX7_ok 0 (by decide)) rfl rfl (by rw [eS_1]; exact mset_0 b S 0) (by rw [eS_1]; exact bw_0) dX7_fault_2 (fun H locs hP hS => ?_)
  refine lv_aload_n hx hb dX7_fault_5 rfl (lv_at hl 0 rfl) ?_
  refine m_get (v := .int (S_1 0 22)) hx hb hts hown hK hP 22 (by decide) q1232 rfl rfl dX7_fault_6 ?_
  exact W.iret (v := (S_1 0 22)) hx hb hr (fun t ht hW => ⟨⟨(S_1 0 22), S_1, rfl, h, by rw [ht]; exact hP, va_K.moved hW.alike hK⟩, hS.F ht⟩) hS.2.2 dX7_fault_9
def wp_where  (S : St) (post : Int32 → St → Prop) : Prop :=
  ∀ S_1 : St, S_1 = bw S 0 0 0 →
  post (S_1 0 2) S_1
set_option maxHeartbeats 4000000 in
theorem met_where (l : Launch) (D : va_G) (cI cB : ClassId) (b : Nat)   (S : St) (post : Int32 → St → Prop) (h : wp_where  S post) : Met l yX7_where (ws_ yX7_where cX7_where 1 (some .int)) ({ frames := 0, cells := 0, slots := 0, locals := 0 } : Room) (mPc D cI cB b [.ref b] S) (mQi D cI cB b post) 0 0 (mA b) := by
  refine Met.ofW (cc := cX7_where) (maxL := 1) (ret := (some .int)) (by decide) rfl ?_
  intro p e s m args below meth c s₁ B hml hv
  obtain ⟨rfl, hP, hK⟩ := hv
  have hx := B.exec
  have hb := B.bytes
  have hr := B.returns
  have hts := atoms_spec (ws := ws_ yX7_where cX7_where 1 (some .int)) B.pre
  have hts : ∀ w ∈ lw_all, w.before _ s = true := fun w h => hts w (List.mem_cons_of_mem _ h)
  have hown : s.vm.findClass RX7 = some m.cls := findClass_of_methodNamed B.named
  have hlocks := B.notSynchronized
  have hS : va_S (mA b) s.heap s.heap [] := va_S.rf
  have hl := lv_entry ([.ref b]) (n := 1) (Nat.le_of_ble_eq_true rfl)
  rw [lg_entry_eq]
  generalize (lg_sl ([.ref b]) ++ List.replicate (1 - (lg_sl ([.ref b])).length) Slot.unset).toArray = ls at hl ⊢
  have hl : lv_has ls 1 [(0, .ref b)] := hl
  unfold wp_where at h
  refine lv_aload_n hx hb dX7_where_0 rfl (lv_at hl 0 rfl) ?_
  refine lv_iconst (v := 0) hx hb dX7_where_1 (by decide) ?_
  obtain ⟨S_1, eS_1⟩ : ∃ z : St, z = bw S 0 0 0 := ⟨_, rfl⟩
  have h := h S_1 eS_1
  refine m_put (S1 := S_1) (v := .int 0) (ty := .int) hx hb hts hown hK hP hS 0 (by decide) q1210 rfl rfl (tyX7_ok 0 (by decide)) rfl rfl (by rw [eS_1]; exact mset_0 b S 0) (by rw [eS_1]; exact bw_0) dX7_where_2 (fun H locs hP hS => ?_)
  refine lv_aload_n hx hb dX7_where_5 rfl (lv_at hl 0 rfl) ?_
  refine m_get (v := .int (S_1 0 2)) hx hb hts hown hK hP 2 (by decide) q1212 rfl rfl dX7_where_6 ?_
  exact W.iret (v := (S_1 0 2)) hx hb hr (fun t ht hW => ⟨⟨(S_1 0 2), S_1, rfl, h, by rw [ht]; exact hP, va_K.moved hW.alike hK⟩, hS.F ht⟩) hS.2.2 dX7_where_9
def wp_coef (p1 : Int32) (p2 : Int32) (S : St) (post : Int32 → Prop) : Prop :=
  ∃ j_1 : Nat, j_1 < 32768 ∧ ((4096 * p1) + p2) = nI j_1 ∧
  post (S 1 j_1)
set_option maxHeartbeats 4000000 in
theorem met_coef (l : Launch) (D : va_G) (cI cB : ClassId) (b : Nat) (p1 : Int32) (p2 : Int32)  (S : St) (post : Int32 → Prop) (h : wp_coef p1 p2 S post) : Met l yX7_coef (ws_ yX7_coef cX7_coef 3 (some .int)) ({ frames := 0, cells := 0, slots := 0, locals := 0 } : Room) (mPc D cI cB b [.ref b, .int p1, .int p2] S) (mQp D cI cB b S post) 0 0 (mA b) := by
  refine Met.ofW (cc := cX7_coef) (maxL := 3) (ret := (some .int)) (by decide) rfl ?_
  intro p e s m args below meth c s₁ B hml hv
  obtain ⟨rfl, hP, hK⟩ := hv
  have hx := B.exec
  have hb := B.bytes
  have hr := B.returns
  have hts := atoms_spec (ws := ws_ yX7_coef cX7_coef 3 (some .int)) B.pre
  have hts : ∀ w ∈ lw_all, w.before _ s = true := fun w h => hts w (List.mem_cons_of_mem _ h)
  have hown : s.vm.findClass RX7 = some m.cls := findClass_of_methodNamed B.named
  have hlocks := B.notSynchronized
  have hS : va_S (mA b) s.heap s.heap [] := va_S.rf
  have hl := lv_entry ([.ref b, .int p1, .int p2]) (n := 3) (Nat.le_of_ble_eq_true rfl)
  rw [lg_entry_eq]
  generalize (lg_sl ([.ref b, .int p1, .int p2]) ++ List.replicate (3 - (lg_sl ([.ref b, .int p1, .int p2])).length) Slot.unset).toArray = ls at hl ⊢
  have hl : lv_has ls 3 [(0, .ref b), (1, .int p1), (2, .int p2)] := hl
  unfold wp_coef at h
  refine lv_aload_n hx hb dX7_coef_0 rfl (lv_at hl 0 rfl) ?_
  refine m_get (v := .ref (b + 1)) hx hb hts hown hK hP 3 (by decide) q1213 rfl rfl dX7_coef_1 ?_
  refine lv_sipush (v := 4096) hx hb dX7_coef_4 (by decide) ?_
  refine lv_iload_n hx hb dX7_coef_7 rfl (lv_at hl 1 rfl) ?_
  refine lv_imul hx hb dX7_coef_8 ?_
  refine lv_iload_n hx hb dX7_coef_9 rfl (lv_at hl 2 rfl) ?_
  refine lv_iadd hx hb dX7_coef_10 ?_
  obtain ⟨j_1, hj_1, ej_1, h⟩ := h
  refine m_iald hx hb hK hP (k := 1) mok_1 ej_1 hj_1 dX7_coef_11 ?_
  exact W.iret (v := (S 1 j_1)) hx hb hr (fun t ht hW => ⟨⟨(S 1 j_1), (), rfl, h, by rw [ht]; exact hP, va_K.moved hW.alike hK⟩, hS.F ht⟩) hS.2.2 dX7_coef_12
