set_option maxRecDepth 100000
theorem cwx_X4_step : yX4_step.cls = RX4 ∧ yX4_step.cls ≠ "java/lang/invoke/MethodHandle" ∧ yX4_step.cls ≠ "java/lang/invoke/VarHandle" ∧ (parseMethodDescriptor yX4_step.desc).map (fun d => d.parameters.length) = some 0 := by decide +kernel
def wx4_step_j251  (Z Y : Nat) (post : XT → XK → Prop) (R203 : XT → Prop) (x1 : Int32) (K : XK) (T : XT) : Prop :=
        ∀ T_1 : XT, T_1 = xwi T 80 7 ((xi T 80 7) + 1) →
        R203 T_1
def wx4_step_b203  (Z Y : Nat) (post : XT → XK → Prop) (R203 : XT → Prop) (x1 : Int32)  (K : XK) (T : XT) : Prop :=
      wx4_see (xi T 80 7) K T (fun r_2 =>
      wx4_isDigit r_2 K T (fun r_5 =>
      ((r_5 = 0 →
        ((((xi T 80 7) - x1) ≤ 4 →
          ∀ T_8 : XT, T_8 = xwi T 80 8 3 →
          post T_8 (kset K Z Y)) ∧
         (¬ (((xi T 80 7) - x1) ≤ 4) →
          ∀ T_9 : XT, T_9 = xwi T 80 8 1 →
          post T_9 (kset K Z Y)))) ∧
       (¬ (r_5 = 0) →
        ((4 ≤ ((xi T 80 7) - x1) →
          wx4_step_j251  Z Y post R203 x1 K T) ∧
         (¬ (4 ≤ ((xi T 80 7) - x1)) →
          wx4_see (xi T 80 7) K T (fun r_11 =>
          ∀ T_14 : XT, T_14 = xwi T 80 10 (((10 * (xi T 80 10)) + r_11) - 48) →
          wx4_step_j251  Z Y post R203 x1 K T_14)))))))
def wx4_step_l203  (Z Y : Nat) (post : XT → XK → Prop) (x1 : Int32)  (K : XK) (T : XT) : Prop := wLoop (fun (R : ((XT)) → Prop) (v : (XT)) => wx4_step_b203  Z Y post (fun T => R T) x1  K v) T
def wx4_step_j147  (Z Y : Nat) (post : XT → XK → Prop) (x1 : Int32) (K : XK) (T : XT) : Prop :=
    ((¬ (xi T 80 8) = 2 →
      ∀ T_17 : XT, T_17 = xwi (xwr T 80 14 none) 80 14 1 →
      post T_17 (kset K Z Y)) ∧
     ((xi T 80 8) = 2 →
      kc K + 1 ≤ Z ∧ ks K + 4 ≤ Y ∧ ∀ K_18 : XK, K_18 = knew K 15 0 4 → ∀ T_19 : XT, T_19 = xnil T (kz K) →
      ∃ Z_23 Y_24 : Nat, kc K_18 ≤ Z_23 ∧ Z_23 ≤ Z ∧ ks K_18 ≤ Y_24 ∧ Y_24 ≤ Y ∧ wxJ4_init (kz K) 82 0 ((xi T_19 80 7) - x1) K_18 T_19 Z_23 Y_24 (fun T_21 K_22 =>
      ∀ T_25 : XT, T_25 = xwr T_21 80 14 (some (kz K)) →
      post T_25 (kset K_22 Z Y))))
def wx4_step_j115  (Z Y : Nat) (post : XT → XK → Prop) (R70 : XT → Prop) (x1 : Int32) (K : XK) (T : XT) : Prop :=
        ∀ T_27 : XT, T_27 = xwi T 80 7 ((xi T 80 7) + 1) →
        R70 T_27
def wx4_step_b70  (Z Y : Nat) (post : XT → XK → Prop) (R70 : XT → Prop) (x1 : Int32)  (K : XK) (T : XT) : Prop :=
      wx4_see (xi T 80 7) K T (fun r_28 =>
      wx4_isSmall r_28 K T (fun r_31 =>
      ((r_31 = 0 →
        ((((xi T 80 7) - x1) ≤ 5 →
          ∀ T_34 : XT, T_34 = xwi T 80 8 2 →
          wx4_step_j147  Z Y post x1 K T_34) ∧
         (¬ (((xi T 80 7) - x1) ≤ 5) →
          ∀ T_35 : XT, T_35 = xwi T 80 8 1 →
          wx4_step_j147  Z Y post x1 K T_35))) ∧
       (¬ (r_31 = 0) →
        ((5 ≤ ((xi T 80 7) - x1) →
          wx4_step_j115  Z Y post R70 x1 K T) ∧
         (¬ (5 ≤ ((xi T 80 7) - x1)) →
          wx4_see (xi T 80 7) K T (fun r_37 =>
          ∃ j_40 : Nat, j_40 < 5 ∧ ((xi T 80 7) - x1) = nI j_40 ∧ ∀ T_41 : XT, T_41 = xwi T 82 j_40 (((r_37.toUInt32 % 65536).toInt32).toUInt32.toUInt16.toUInt32.toInt32) →
          wx4_step_j115  Z Y post R70 x1 K T_41)))))))
def wx4_step_l70  (Z Y : Nat) (post : XT → XK → Prop) (x1 : Int32)  (K : XK) (T : XT) : Prop := wLoop (fun (R : ((XT)) → Prop) (v : (XT)) => wx4_step_b70  Z Y post (fun T => R T) x1  K v) T
def wx4_step_b5  (Z Y : Nat) (post : XT → XK → Prop) (R5 : Int32 → Prop)  (x1 : Int32) (K : XK) (T : XT) : Prop :=
      wx4_see x1 K T (fun r_44 =>
      ((¬ r_44 = 32 →
        ∀ T_47 : XT, T_47 = xwi T 80 9 x1 →
        ∀ T_48 : XT, T_48 = xwi T_47 80 7 (x1 + 1) →
        wx4_see x1 K T_48 (fun r_49 =>
        ((¬ r_49 = (-1) →
          wx4_isSmall r_49 K T_48 (fun r_52 =>
          ((r_52 = 0 →
            wx4_isDigit r_49 K T_48 (fun r_55 =>
            ((r_55 = 0 →
              ((r_49 = 59 →
                ∀ T_58 : XT, T_58 = xwi T_48 80 8 r_49 →
                post T_58 (kset K Z Y)) ∧
               (¬ (r_49 = 59) →
                ((r_49 = 43 →
                  ∀ T_59 : XT, T_59 = xwi T_48 80 8 r_49 →
                  post T_59 (kset K Z Y)) ∧
                 (¬ (r_49 = 43) →
                  ((¬ r_49 = 45 →
                    ∀ T_60 : XT, T_60 = xwi T_48 80 8 1 →
                    post T_60 (kset K Z Y)) ∧
                   (r_49 = 45 →
                    ∀ T_61 : XT, T_61 = xwi T_48 80 8 r_49 →
                    post T_61 (kset K Z Y)))))))) ∧
             (¬ (r_55 = 0) →
              ∀ T_65 : XT, T_65 = xwi T_48 80 10 0 →
              ∀ T_66 : XT, T_66 = xwi T_65 80 7 x1 →
              wx4_step_l203  Z Y post x1 K T_66)))) ∧
           (¬ (r_52 = 0) →
            ∀ T_68 : XT, T_68 = xwi T_48 80 7 x1 →
            wx4_step_l70  Z Y post x1 K T_68)))) ∧
         (r_49 = (-1) →
          ∀ T_70 : XT, T_70 = xwi T_48 80 8 0 →
          ∀ T_71 : XT, T_71 = xwi T_70 80 7 x1 →
          post T_71 (kset K Z Y))))) ∧
       (r_44 = 32 →
        ∀ x1_73 : Int32, x1_73 = x1 + 1 →
        R5 x1_73)))
def wx4_step_l5  (Z Y : Nat) (post : XT → XK → Prop)  (x1 : Int32) (K : XK) (T : XT) : Prop := wLoop (fun (R : ((Int32)) → Prop) (v : (Int32)) => wx4_step_b5  Z Y post (fun x1 => R x1)  v K T) x1
def wx4_step  (K0 : XK) (T : XT) (Z Y : Nat) (post : XT → XK → Prop) : Prop :=
  wx4_step_l5  Z Y post (xi T 80 7) K0 T
set_option maxHeartbeats 4000000 in
theorem mx4_step (l : Launch) (G : XG) (b : Nat) (hole : Nat → Prop)  (K0 : XK) (T : XT) (Z Y : Nat) (hZ : kc K0 ≤ Z) (hY : ks K0 ≤ Y)  (post : XT → XK → Prop) (h : wx4_step  K0 T Z Y post) : Met l yX4_step (ws_ yX4_step cX4_step 3 none) ({ frames := 5, cells := (Z - kc K0), slots := (Y - ks K0), locals := 165 } : Room) (xPc G b hole [.ref (b + 80)] K0 T) (xQ G b hole K0 (Z - kc K0) (Y - ks K0) (ρ := Unit) eV (fun r T1 K1 => post T1 K1)) (Z - kc K0) (Y - ks K0) (xA b hole) := by
  refine Met.ofW (cc := cX4_step) (maxL := 3) (ret := none) (by decide) rfl ?_
  intro p e s m args below meth c s₁ B hml hv
  obtain ⟨rfl, hP, hK, hV⟩ := hv
  have hx := B.exec
  have hb := B.bytes
  have hr := B.returns
  have hts := atoms_spec (ws := ws_ yX4_step cX4_step 3 none) B.pre
  have hts : ∀ w ∈ lw_all, w.before _ s = true := fun w h => hts w (List.mem_cons_of_mem _ h)
  have hown : s.vm.findClass RX4 = some m.cls := findClass_of_methodNamed B.named
  have hlocks := B.notSynchronized
  have hb0 : b ≤ s.heap.size := by rw [hP.2.2.2]; exact Nat.le_add_right _ _
  have hS : va_S (xA b hole) s.heap s.heap [] := va_S.rf
  have hl := lv_entry ([.ref (b + 80)]) (n := 3) (Nat.le_of_ble_eq_true rfl)
  rw [lg_entry_eq]
  generalize (lg_sl ([.ref (b + 80)]) ++ List.replicate (3 - (lg_sl ([.ref (b + 80)])).length) Slot.unset).toArray = ls at hl ⊢
  have hl : lv_has ls 3 [(0, .ref (b + 80))] := hl
  have hle0 : kle K0 K0 := kle.rf
  have L203 : ∀ (x1 : Int32) (T : XT) (K : XK) (cn sn : Nat) (H : Heap) (locs : List Loc) (ls : Array Slot), wx4_step_l203  Z Y post x1  K T → kle K0 K → kc K0 + cn = kc K → ks K0 + sn = ks K → kc K ≤ Z → ks K ≤ Y → xW G b hole K T H → va_S (xA b hole) s.heap H locs → lv_has ls 3 [(0, .ref (b + 80)), (1, .int x1)] → W p l e (headSpec (ws_ yX4_step cX4_step 3 none) ({ frames := 5, cells := (Z - kc K0), slots := (Y - ks K0), locals := 165 } : Room)).room s m ([.ref (b + 80)] : List Value).toArray below meth c H locs cn sn (MQ below (xQ G b hole K0 (Z - kc K0) (Y - ks K0) (ρ := Unit) eV (fun r T1 K1 => post T1 K1)) ([.ref (b + 80)] : List Value).toArray s (Z - kc K0) (Y - ks K0) (xA b hole)) (F0 m 203 ls []) := by
    intro x1 T K cn sn H locs ls h hle0 hcn hsn hzz hyy hP hS hl
    obtain ⟨I203, n203, hI, hstep203⟩ := h
    induction n203 using Nat.strongRecOn generalizing T H locs ls with
    | ind n203 ih203 =>
      have h : wx4_step_b203  Z Y post (fun T => ∃ mm, mm < n203 ∧ I203 mm T) x1  K T := hstep203 n203 _ hI
      clear hI
      have J251 : ∀  (T : XT) (H : Heap) (locs : List Loc) (ls : Array Slot), wx4_step_j251  Z Y post (fun T => ∃ mm, mm < n203 ∧ I203 mm T) x1 K T → xW G b hole K T H → va_S (xA b hole) s.heap H locs → lv_has ls 3 [(0, .ref (b + 80)), (1, .int x1)] → W p l e (headSpec (ws_ yX4_step cX4_step 3 none) ({ frames := 5, cells := (Z - kc K0), slots := (Y - ks K0), locals := 165 } : Room)).room s m ([.ref (b + 80)] : List Value).toArray below meth c H locs cn sn (MQ below (xQ G b hole K0 (Z - kc K0) (Y - ks K0) (ρ := Unit) eV (fun r T1 K1 => post T1 K1)) ([.ref (b + 80)] : List Value).toArray s (Z - kc K0) (Y - ks K0) (xA b hole)) (F0 m 251 ls []) := by
        intro  T H locs ls h hP hS hl
        unfold wx4_step_j251 at h
        refine lv_aload_n hx hb dX4_step_251 rfl (lv_at hl 0 rfl) ?_
        refine lv_dup hx hb dX4_step_252 rfl ?_
        refine x_get (CC := RX4) (TT := TX4) (N := 17) (ci := 3) (v := .int (xi T 80 7)) hx hb hts in_X4 hown hK hP (xs_80 hP) (by decide) (by decide) rfl (xE_11 (xs_80 hP)) 7 (by decide) q303 rfl rfl dX4_step_253 ?_
        refine lv_iconst (v := 1) hx hb dX4_step_256 (by decide) ?_
        refine lv_iadd hx hb dX4_step_257 ?_
        obtain ⟨T_1, eT_1⟩ : ∃ z : XT, z = xwi T 80 7 ((xi T 80 7) + 1) := ⟨_, rfl⟩
        have h := h T_1 eT_1
        refine x_put (CC := RX4) (TT := TX4) (N := 17) (ci := 3) (T1 := T_1) (v := .int ((xi T 80 7) + 1)) (ty := .int) (fsf := fun T => fs11 (gem G) b T 80) hx hb hts in_X4 tyX4 tyX4_ok nmX4 hown hK hP hS (xs_80 hP) (by decide) (by decide) rfl (fun _ => xE_11 (xs_80 hP)) rfl 7 (by decide) q303 rfl (Or.inl rfl) rfl rfl rfl (by rw [eT_1]; exact fw11_7 _ b T 80 ((xi T 80 7) + 1)) (by rw [eT_1]; exact fun q hq => xwi_i hq) (by rw [eT_1]; exact fun _ _ => rfl) (by rw [eT_1]; exact xwi_ty hP (by rw [(xs_80 hP)]; decide)) dX4_step_258 (fun H locs hP hS => ?_)
        refine lv_goto (tgt := 203) hx hb dX4_step_261 (by decide) ?_
        obtain ⟨mm, hmm, h⟩ := h
        exact ih203 mm hmm _ _ _ _  hP hS (lv_sub hl [0, 1] rfl) h
      unfold wx4_step_b203 at h
      refine lv_aload_n hx hb dX4_step_203 rfl (lv_at hl 0 rfl) ?_
      refine lv_aload_n hx hb dX4_step_204 rfl (lv_at hl 0 rfl) ?_
      refine lv_aload_n hx hb dX4_step_205 rfl (lv_at hl 0 rfl) ?_
      refine x_get (CC := RX4) (TT := TX4) (N := 17) (ci := 3) (v := .int (xi T 80 7)) hx hb hts in_X4 hown hK hP (xs_80 hP) (by decide) (by decide) rfl (xE_11 (xs_80 hP)) 7 (by decide) q303 rfl rfl dX4_step_206 ?_
      refine x_cV (k := 80) (As := [.int (xi T 80 7)]) (rest := [.ref (b + 80)]) ⟨hx, hb, hml, hown, hts⟩ (mx4_see l G b hole (xi T 80 7) K T  _ h) (cwV 1 hts (lw_V q498 q500 qs5 q121 q501) rfl rfl rfl cwx_X4_see ⟨Nat.le_of_ble_eq_true rfl, Nat.le_of_ble_eq_true rfl⟩) (x_recv (CC := RX4) (ci := 3) hK hP (xs_80 hP) (by decide) (by decide) rfl (xE_11 (xs_80 hP))) hK hV hb0 hP hS rfl hl.1 rfl (Nat.le_of_ble_eq_true rfl) dX4_step_209 ⟨by first | exact Nat.zero_le _ | (show _ + _ ≤ Z - kc K0; omega), by first | exact Nat.zero_le _ | (show _ + _ ≤ Y - ks K0; omega)⟩ (fun r_2 T1 K1 H locs h hle1 hc1 hs1 hP hS => ?_)
      obtain ⟨h, hTe, hKe⟩ := h
      rw [hTe, hKe] at hP
      refine x_cV (k := 80) (As := [.int r_2]) (rest := []) ⟨hx, hb, hml, hown, hts⟩ (mx4_isDigit l G b hole r_2 K T  _ h) (cwV 1 hts (lw_V q586 q588 qs7 q121 q589) rfl rfl rfl cwx_X4_isDigit ⟨Nat.le_of_ble_eq_true rfl, Nat.le_of_ble_eq_true rfl⟩) (x_recv (CC := RX4) (ci := 3) hK hP (xs_80 hP) (by decide) (by decide) rfl (xE_11 (xs_80 hP))) hK hV hb0 hP hS rfl hl.1 rfl (Nat.le_of_ble_eq_true rfl) dX4_step_212 ⟨by first | exact Nat.zero_le _ | (show _ + _ ≤ Z - kc K0; omega), by first | exact Nat.zero_le _ | (show _ + _ ≤ Y - ks K0; omega)⟩ (fun r_5 T1 K1 H locs h hle1 hc1 hs1 hP hS => ?_)
      obtain ⟨h, hTe, hKe⟩ := h
      rw [hTe, hKe] at hP
      refine lv_if_eq (tgt := 264) hx hb dX4_step_215 (by decide) (fun c_16 => ?_) (fun c_16 => ?_)
      · have h := h.1 c_16
        refine lv_aload_n hx hb dX4_step_264 rfl (lv_at hl 0 rfl) ?_
        refine lv_aload_n hx hb dX4_step_265 rfl (lv_at hl 0 rfl) ?_
        refine x_get (CC := RX4) (TT := TX4) (N := 17) (ci := 3) (v := .int (xi T 80 7)) hx hb hts in_X4 hown hK hP (xs_80 hP) (by decide) (by decide) rfl (xE_11 (xs_80 hP)) 7 (by decide) q303 rfl rfl dX4_step_266 ?_
        refine lv_iload_n hx hb dX4_step_269 rfl (lv_at hl 1 rfl) ?_
        refine lv_isub hx hb dX4_step_270 ?_
        refine lv_iconst (v := 4) hx hb dX4_step_271 (by decide) ?_
        refine lv_icmp_le (tgt := 279) hx hb dX4_step_272 (by decide) (fun c_10 => ?_) (fun c_10 => ?_)
        · have h := h.1 c_10
          refine lv_iconst (v := 3) hx hb dX4_step_279 (by decide) ?_
          obtain ⟨T_8, eT_8⟩ : ∃ z : XT, z = xwi T 80 8 3 := ⟨_, rfl⟩
          have h := h T_8 eT_8
          refine x_put (CC := RX4) (TT := TX4) (N := 17) (ci := 3) (T1 := T_8) (v := .int 3) (ty := .int) (fsf := fun T => fs11 (gem G) b T 80) hx hb hts in_X4 tyX4 tyX4_ok nmX4 hown hK hP hS (xs_80 hP) (by decide) (by decide) rfl (fun _ => xE_11 (xs_80 hP)) rfl 8 (by decide) q304 rfl (Or.inl rfl) rfl rfl rfl (by rw [eT_8]; exact fw11_8 _ b T 80 3) (by rw [eT_8]; exact fun q hq => xwi_i hq) (by rw [eT_8]; exact fun _ _ => rfl) (by rw [eT_8]; exact xwi_ty hP (by rw [(xs_80 hP)]; decide)) dX4_step_280 (fun H locs hP hS => ?_)
          refine lv_goto (tgt := 313) hx hb dX4_step_283 (by decide) ?_
          refine W.widen (k := Z - kc K0) (n := Y - ks K0) (by omega) (by omega) ?_
          exact W.vret hx hb hr (fun t ht hW => ⟨⟨(), T_8, (kset K Z Y), rfl, h, hle0, (by show Z = _; omega), (by show Y = _; omega), by rw [ht]; exact hP, va_K.moved hW.alike hK⟩, hS.F ht⟩) hS.2.2 dX4_step_313
        · have h := h.2 c_10
          refine lv_iconst (v := 1) hx hb dX4_step_275 (by decide) ?_
          refine lv_goto (tgt := 280) hx hb dX4_step_276 (by decide) ?_
          obtain ⟨T_9, eT_9⟩ : ∃ z : XT, z = xwi T 80 8 1 := ⟨_, rfl⟩
          have h := h T_9 eT_9
          refine x_put (CC := RX4) (TT := TX4) (N := 17) (ci := 3) (T1 := T_9) (v := .int 1) (ty := .int) (fsf := fun T => fs11 (gem G) b T 80) hx hb hts in_X4 tyX4 tyX4_ok nmX4 hown hK hP hS (xs_80 hP) (by decide) (by decide) rfl (fun _ => xE_11 (xs_80 hP)) rfl 8 (by decide) q304 rfl (Or.inl rfl) rfl rfl rfl (by rw [eT_9]; exact fw11_8 _ b T 80 1) (by rw [eT_9]; exact fun q hq => xwi_i hq) (by rw [eT_9]; exact fun _ _ => rfl) (by rw [eT_9]; exact xwi_ty hP (by rw [(xs_80 hP)]; decide)) dX4_step_280 (fun H locs hP hS => ?_)
          refine lv_goto (tgt := 313) hx hb dX4_step_283 (by decide) ?_
          refine W.widen (k := Z - kc K0) (n := Y - ks K0) (by omega) (by omega) ?_
          exact W.vret hx hb hr (fun t ht hW => ⟨⟨(), T_9, (kset K Z Y), rfl, h, hle0, (by show Z = _; omega), (by show Y = _; omega), by rw [ht]; exact hP, va_K.moved hW.alike hK⟩, hS.F ht⟩) hS.2.2 dX4_step_313
      · have h := h.2 c_16
        refine lv_aload_n hx hb dX4_step_218 rfl (lv_at hl 0 rfl) ?_
        refine x_get (CC := RX4) (TT := TX4) (N := 17) (ci := 3) (v := .int (xi T 80 7)) hx hb hts in_X4 hown hK hP (xs_80 hP) (by decide) (by decide) rfl (xE_11 (xs_80 hP)) 7 (by decide) q303 rfl rfl dX4_step_219 ?_
        refine lv_iload_n hx hb dX4_step_222 rfl (lv_at hl 1 rfl) ?_
        refine lv_isub hx hb dX4_step_223 ?_
        refine lv_iconst (v := 4) hx hb dX4_step_224 (by decide) ?_
        refine lv_icmp_ge (tgt := 251) hx hb dX4_step_225 (by decide) (fun c_15 => ?_) (fun c_15 => ?_)
        · have h := h.1 c_15
          exact J251 _ _ _ _ h  hP hS (lv_sub hl [0, 1] rfl)
        · have h := h.2 c_15
          refine lv_aload_n hx hb dX4_step_228 rfl (lv_at hl 0 rfl) ?_
          refine lv_bipush (v := 10) hx hb dX4_step_229 (by decide) ?_
          refine lv_aload_n hx hb dX4_step_231 rfl (lv_at hl 0 rfl) ?_
          refine x_get (CC := RX4) (TT := TX4) (N := 17) (ci := 3) (v := .int (xi T 80 10)) hx hb hts in_X4 hown hK hP (xs_80 hP) (by decide) (by decide) rfl (xE_11 (xs_80 hP)) 10 (by decide) q306 rfl rfl dX4_step_232 ?_
          refine lv_imul hx hb dX4_step_235 ?_
          refine lv_aload_n hx hb dX4_step_236 rfl (lv_at hl 0 rfl) ?_
          refine lv_aload_n hx hb dX4_step_237 rfl (lv_at hl 0 rfl) ?_
          refine x_get (CC := RX4) (TT := TX4) (N := 17) (ci := 3) (v := .int (xi T 80 7)) hx hb hts in_X4 hown hK hP (xs_80 hP) (by decide) (by decide) rfl (xE_11 (xs_80 hP)) 7 (by decide) q303 rfl rfl dX4_step_238 ?_
          refine x_cV (k := 80) (As := [.int (xi T 80 7)]) (rest := [.int (10 * (xi T 80 10)), .ref (b + 80)]) ⟨hx, hb, hml, hown, hts⟩ (mx4_see l G b hole (xi T 80 7) K T  _ h) (cwV 1 hts (lw_V q498 q500 qs5 q121 q501) rfl rfl rfl cwx_X4_see ⟨Nat.le_of_ble_eq_true rfl, Nat.le_of_ble_eq_true rfl⟩) (x_recv (CC := RX4) (ci := 3) hK hP (xs_80 hP) (by decide) (by decide) rfl (xE_11 (xs_80 hP))) hK hV hb0 hP hS rfl hl.1 rfl (Nat.le_of_ble_eq_true rfl) dX4_step_241 ⟨by first | exact Nat.zero_le _ | (show _ + _ ≤ Z - kc K0; omega), by first | exact Nat.zero_le _ | (show _ + _ ≤ Y - ks K0; omega)⟩ (fun r_11 T1 K1 H locs h hle1 hc1 hs1 hP hS => ?_)
          obtain ⟨h, hTe, hKe⟩ := h
          rw [hTe, hKe] at hP
          refine lv_iadd hx hb dX4_step_244 ?_
          refine lv_bipush (v := 48) hx hb dX4_step_245 (by decide) ?_
          refine lv_isub hx hb dX4_step_247 ?_
          obtain ⟨T_14, eT_14⟩ : ∃ z : XT, z = xwi T 80 10 (((10 * (xi T 80 10)) + r_11) - 48) := ⟨_, rfl⟩
          have h := h T_14 eT_14
          refine x_put (CC := RX4) (TT := TX4) (N := 17) (ci := 3) (T1 := T_14) (v := .int (((10 * (xi T 80 10)) + r_11) - 48)) (ty := .int) (fsf := fun T => fs11 (gem G) b T 80) hx hb hts in_X4 tyX4 tyX4_ok nmX4 hown hK hP hS (xs_80 hP) (by decide) (by decide) rfl (fun _ => xE_11 (xs_80 hP)) rfl 10 (by decide) q306 rfl (Or.inl rfl) rfl rfl rfl (by rw [eT_14]; exact fw11_10 _ b T 80 (((10 * (xi T 80 10)) + r_11) - 48)) (by rw [eT_14]; exact fun q hq => xwi_i hq) (by rw [eT_14]; exact fun _ _ => rfl) (by rw [eT_14]; exact xwi_ty hP (by rw [(xs_80 hP)]; decide)) dX4_step_248 (fun H locs hP hS => ?_)
          exact J251 _ _ _ _ h  hP hS (lv_sub hl [0, 1] rfl)
  have J147 : ∀ (x1 : Int32) (T : XT) (K : XK) (cn sn : Nat) (H : Heap) (locs : List Loc) (ls : Array Slot), wx4_step_j147  Z Y post x1 K T → kle K0 K → kc K0 + cn = kc K → ks K0 + sn = ks K → kc K ≤ Z → ks K ≤ Y → xW G b hole K T H → va_S (xA b hole) s.heap H locs → lv_has ls 3 [(0, .ref (b + 80)), (1, .int x1)] → W p l e (headSpec (ws_ yX4_step cX4_step 3 none) ({ frames := 5, cells := (Z - kc K0), slots := (Y - ks K0), locals := 165 } : Room)).room s m ([.ref (b + 80)] : List Value).toArray below meth c H locs cn sn (MQ below (xQ G b hole K0 (Z - kc K0) (Y - ks K0) (ρ := Unit) eV (fun r T1 K1 => post T1 K1)) ([.ref (b + 80)] : List Value).toArray s (Z - kc K0) (Y - ks K0) (xA b hole)) (F0 m 147 ls []) := by
    intro x1 T K cn sn H locs ls h hle0 hcn hsn hzz hyy hP hS hl
    unfold wx4_step_j147 at h
    refine lv_aload_n hx hb dX4_step_147 rfl (lv_at hl 0 rfl) ?_
    refine lv_aload_n hx hb dX4_step_148 rfl (lv_at hl 0 rfl) ?_
    refine x_get (CC := RX4) (TT := TX4) (N := 17) (ci := 3) (v := .int (xi T 80 8)) hx hb hts in_X4 hown hK hP (xs_80 hP) (by decide) (by decide) rfl (xE_11 (xs_80 hP)) 8 (by decide) q304 rfl rfl dX4_step_149 ?_
    refine lv_iconst (v := 2) hx hb dX4_step_152 (by decide) ?_
    refine lv_icmp_ne (tgt := 177) hx hb dX4_step_153 (by decide) (fun c_26 => ?_) (fun c_26 => ?_)
    · have h := h.1 c_26
      refine va_ldcS hx hb hown (hV.2.2.2.1.2.1 10 (by decide)) dX4_step_177 ?_
      obtain ⟨T_17, eT_17⟩ : ∃ z : XT, z = xwi (xwr T 80 14 none) 80 14 1 := ⟨_, rfl⟩
      have h := h T_17 eT_17
      refine x_put (CC := RX4) (TT := TX4) (N := 17) (ci := 3) (T1 := T_17) (v := .ref (gem G)) (ty := _) (fsf := fun T => fs11 (gem G) b T 80) hx hb hts in_X4 tyX4 tyX4_ok nmX4 hown hK hP hS (xs_80 hP) (by decide) (by decide) rfl (fun _ => xE_11 (xs_80 hP)) rfl 14 (by decide) q313 rfl (Or.inl rfl) rfl rfl rfl (by rw [eT_17]; exact fw11_14s _ b T 80) (by rw [eT_17]; exact fun q hq => xwi_i hq) (by rw [eT_17]; exact fun q hq => xwr_r hq) (by rw [eT_17]; exact xwr_ty (j0 := 14) (v := none) hP (by rw [(xs_80 hP)]; decide) (fun p e9 => by cases e9)) dX4_step_179 (fun H locs hP hS => ?_)
      refine lv_goto (tgt := 313) hx hb dX4_step_182 (by decide) ?_
      refine W.widen (k := Z - kc K0) (n := Y - ks K0) (by omega) (by omega) ?_
      exact W.vret hx hb hr (fun t ht hW => ⟨⟨(), T_17, (kset K Z Y), rfl, h, hle0, (by show Z = _; omega), (by show Y = _; omega), by rw [ht]; exact hP, va_K.moved hW.alike hK⟩, hS.F ht⟩) hS.2.2 dX4_step_313
    · have h := h.2 c_26
      obtain ⟨hc1, hs1, h⟩ := h
      obtain ⟨K_18, eK_18⟩ : ∃ z : XK, z = knew K 15 0 4 := ⟨_, rfl⟩
      obtain ⟨T_19, eT_19⟩ : ∃ z : XT, z = xnil T (kz K) := ⟨_, rfl⟩
      have h := h K_18 eK_18 T_19 eT_19
      have hle1 : kle K K_18 := by rw [eK_18]; exact kle.new hP.2.2.1 _ _ _
      refine x_new (CC := RJ4) (TT := TJ4) (N := 4) (ci := 7) (kn := 15) (fs := [.null, .int 0, .int 0, .int 0]) hx hb hts in_J4 tyJ4 tyJ4_ok hown q507 q508 q129 hK hP hS rfl (by decide) (by decide) (fun K1 h9 => by rw [xE_15 h9]; simp [fs15, xnil, xi, xr, va_up_self, rfv, va_rf]) (fun j hj => by rcases (show j = 0 ∨ j = 1 ∨ j = 2 ∨ j = 3 by omega) with rfl | rfl | rfl | rfl <;> rfl) (by show _ + 1 ≤ Z - kc K0; omega) (by show _ + _ ≤ Y - ks K0; omega) dX4_step_156 (fun H hP hS => ?_)
      rw [← eK_18, ← eT_19] at hP
      have hk_n18 : kd K_18 (kz K) = 15 := by rw [eK_18]; exact knew_kd
      have hle0 := hle0.tr hle1
      have hcn : kc K0 + (cn + 1) = kc K_18 := by rw [eK_18]; show _ = kc K + 1; omega
      have hsn : ks K0 + (sn + 4) = ks K_18 := by rw [eK_18]; show _ = ks K + 4; omega
      have hzz : kc K_18 ≤ Z := by rw [eK_18]; exact hc1
      have hyy : ks K_18 ≤ Y := by rw [eK_18]; exact hs1
      refine lv_dup hx hb dX4_step_159 rfl ?_
      refine lv_aload_n hx hb dX4_step_160 rfl (lv_at hl 0 rfl) ?_
      refine x_get (CC := RX4) (TT := TX4) (N := 17) (ci := 3) (v := .ref (b + 82)) hx hb hts in_X4 hown hK hP (xs_80 hP) (by decide) (by decide) rfl (xE_11 (xs_80 hP)) 1 (by decide) q296 rfl rfl dX4_step_161 ?_
      refine lv_iconst (v := 0) hx hb dX4_step_164 (by decide) ?_
      refine lv_aload_n hx hb dX4_step_165 rfl (lv_at hl 0 rfl) ?_
      refine x_get (CC := RX4) (TT := TX4) (N := 17) (ci := 3) (v := .int (xi T_19 80 7)) hx hb hts in_X4 hown hK hP (xs_80 hP) (by decide) (by decide) rfl (xE_11 (xs_80 hP)) 7 (by decide) q303 rfl rfl dX4_step_166 ?_
      refine lv_iload_n hx hb dX4_step_169 rfl (lv_at hl 1 rfl) ?_
      refine lv_isub hx hb dX4_step_170 ?_
      obtain ⟨Z_23, Y_24, hz1, hz2, hy1, hy2, h⟩ := h
      refine x_cI (k := (kz K)) (As := [.ref (b + 82), .int 0, .int ((xi T_19 80 7) - x1)]) (rest := [.ref (b + (kz K)), .ref (b + 80)]) ⟨hx, hb, hml, hown, hts⟩ (mxJ4_init l G b hole (kz K) 82 0 ((xi T_19 80 7) - x1) K_18 T_19 Z_23 Y_24 hz1 hy1 hk_n18 (xs_82 hP) _ h) (cwI 3 hts (lw_meth q511) rfl rfl rfl (hts _ q129) (hts _ q509) (hts _ q510) rfl cwx_J4_init ⟨Nat.le_of_ble_eq_true rfl, Nat.le_of_ble_eq_true rfl⟩) hK hV hb0 hP hS rfl hl.1 rfl (Nat.le_of_ble_eq_true rfl) dX4_step_171 ⟨by first | exact Nat.zero_le _ | (show _ + _ ≤ Z - kc K0; omega), by first | exact Nat.zero_le _ | (show _ + _ ≤ Y - ks K0; omega)⟩ (fun r_20 T1 K1 H locs h hle1 hc1 hs1 hP hS => ?_)
      generalize T1 = T_21 at h hP
      generalize K1 = K_22 at h hP hle1 hc1 hs1
      have hk_n18 : kd K_22 (kz K) = 15 := hle1.kd hk_n18
      have hle0 := hle0.tr hle1
      have hcn : kc K0 + ((cn + 1) + (Z_23 - kc K_18)) = kc K_22 := by omega
      have hsn : ks K0 + ((sn + 4) + (Y_24 - ks K_18)) = ks K_22 := by omega
      have hzz : kc K_22 ≤ Z := by omega
      have hyy : ks K_22 ≤ Y := by omega
      refine lv_goto (tgt := 179) hx hb dX4_step_174 (by decide) ?_
      obtain ⟨T_25, eT_25⟩ : ∃ z : XT, z = xwr T_21 80 14 (some (kz K)) := ⟨_, rfl⟩
      have h := h T_25 eT_25
      refine x_put (CC := RX4) (TT := TX4) (N := 17) (ci := 3) (T1 := T_25) (v := .ref (b + (kz K))) (ty := _) (fsf := fun T => fs11 (gem G) b T 80) hx hb hts in_X4 tyX4 tyX4_ok nmX4 hown hK hP hS (xs_80 hP) (by decide) (by decide) rfl (fun _ => xE_11 (xs_80 hP)) rfl 14 (by decide) q313 rfl (Or.inl rfl) rfl rfl rfl (by rw [eT_25]; exact fw11_14r _ b T_21 80 (kz K)) (by rw [eT_25]; exact fun _ _ => rfl) (by rw [eT_25]; exact fun q hq => xwr_r hq) (by rw [eT_25]; exact xwr_ty hP (by rw [(xs_80 hP)]; decide) (fun p e9 => by cases e9; rw [hk_n18, (xs_80 hP)]; exact ⟨rfl, by decide⟩)) dX4_step_179 (fun H locs hP hS => ?_)
      refine lv_goto (tgt := 313) hx hb dX4_step_182 (by decide) ?_
      refine W.widen (k := Z - kc K0) (n := Y - ks K0) (by omega) (by omega) ?_
      exact W.vret hx hb hr (fun t ht hW => ⟨⟨(), T_25, (kset K_22 Z Y), rfl, h, hle0, (by show Z = _; omega), (by show Y = _; omega), by rw [ht]; exact hP, va_K.moved hW.alike hK⟩, hS.F ht⟩) hS.2.2 dX4_step_313
  have L70 : ∀ (x1 : Int32) (T : XT) (K : XK) (cn sn : Nat) (H : Heap) (locs : List Loc) (ls : Array Slot), wx4_step_l70  Z Y post x1  K T → kle K0 K → kc K0 + cn = kc K → ks K0 + sn = ks K → kc K ≤ Z → ks K ≤ Y → xW G b hole K T H → va_S (xA b hole) s.heap H locs → lv_has ls 3 [(0, .ref (b + 80)), (1, .int x1)] → W p l e (headSpec (ws_ yX4_step cX4_step 3 none) ({ frames := 5, cells := (Z - kc K0), slots := (Y - ks K0), locals := 165 } : Room)).room s m ([.ref (b + 80)] : List Value).toArray below meth c H locs cn sn (MQ below (xQ G b hole K0 (Z - kc K0) (Y - ks K0) (ρ := Unit) eV (fun r T1 K1 => post T1 K1)) ([.ref (b + 80)] : List Value).toArray s (Z - kc K0) (Y - ks K0) (xA b hole)) (F0 m 70 ls []) := by
    intro x1 T K cn sn H locs ls h hle0 hcn hsn hzz hyy hP hS hl
    obtain ⟨I70, n70, hI, hstep70⟩ := h
    induction n70 using Nat.strongRecOn generalizing T H locs ls with
    | ind n70 ih70 =>
      have h : wx4_step_b70  Z Y post (fun T => ∃ mm, mm < n70 ∧ I70 mm T) x1  K T := hstep70 n70 _ hI
      clear hI
      have J115 : ∀  (T : XT) (H : Heap) (locs : List Loc) (ls : Array Slot), wx4_step_j115  Z Y post (fun T => ∃ mm, mm < n70 ∧ I70 mm T) x1 K T → xW G b hole K T H → va_S (xA b hole) s.heap H locs → lv_has ls 3 [(0, .ref (b + 80)), (1, .int x1)] → W p l e (headSpec (ws_ yX4_step cX4_step 3 none) ({ frames := 5, cells := (Z - kc K0), slots := (Y - ks K0), locals := 165 } : Room)).room s m ([.ref (b + 80)] : List Value).toArray below meth c H locs cn sn (MQ below (xQ G b hole K0 (Z - kc K0) (Y - ks K0) (ρ := Unit) eV (fun r T1 K1 => post T1 K1)) ([.ref (b + 80)] : List Value).toArray s (Z - kc K0) (Y - ks K0) (xA b hole)) (F0 m 115 ls []) := by
        intro  T H locs ls h hP hS hl
        unfold wx4_step_j115 at h
        refine lv_aload_n hx hb dX4_step_115 rfl (lv_at hl 0 rfl) ?_
        refine lv_dup hx hb dX4_step_116 rfl ?_
        refine x_get (CC := RX4) (TT := TX4) (N := 17) (ci := 3) (v := .int (xi T 80 7)) hx hb hts in_X4 hown hK hP (xs_80 hP) (by decide) (by decide) rfl (xE_11 (xs_80 hP)) 7 (by decide) q303 rfl rfl dX4_step_117 ?_
        refine lv_iconst (v := 1) hx hb dX4_step_120 (by decide) ?_
        refine lv_iadd hx hb dX4_step_121 ?_
        obtain ⟨T_27, eT_27⟩ : ∃ z : XT, z = xwi T 80 7 ((xi T 80 7) + 1) := ⟨_, rfl⟩
        have h := h T_27 eT_27
        refine x_put (CC := RX4) (TT := TX4) (N := 17) (ci := 3) (T1 := T_27) (v := .int ((xi T 80 7) + 1)) (ty := .int) (fsf := fun T => fs11 (gem G) b T 80) hx hb hts in_X4 tyX4 tyX4_ok nmX4 hown hK hP hS (xs_80 hP) (by decide) (by decide) rfl (fun _ => xE_11 (xs_80 hP)) rfl 7 (by decide) q303 rfl (Or.inl rfl) rfl rfl rfl (by rw [eT_27]; exact fw11_7 _ b T 80 ((xi T 80 7) + 1)) (by rw [eT_27]; exact fun q hq => xwi_i hq) (by rw [eT_27]; exact fun _ _ => rfl) (by rw [eT_27]; exact xwi_ty hP (by rw [(xs_80 hP)]; decide)) dX4_step_122 (fun H locs hP hS => ?_)
        refine lv_goto (tgt := 70) hx hb dX4_step_125 (by decide) ?_
        obtain ⟨mm, hmm, h⟩ := h
        exact ih70 mm hmm _ _ _ _  hP hS (lv_sub hl [0, 1] rfl) h
      unfold wx4_step_b70 at h
      refine lv_aload_n hx hb dX4_step_70 rfl (lv_at hl 0 rfl) ?_
      refine lv_aload_n hx hb dX4_step_71 rfl (lv_at hl 0 rfl) ?_
      refine lv_aload_n hx hb dX4_step_72 rfl (lv_at hl 0 rfl) ?_
      refine x_get (CC := RX4) (TT := TX4) (N := 17) (ci := 3) (v := .int (xi T 80 7)) hx hb hts in_X4 hown hK hP (xs_80 hP) (by decide) (by decide) rfl (xE_11 (xs_80 hP)) 7 (by decide) q303 rfl rfl dX4_step_73 ?_
      refine x_cV (k := 80) (As := [.int (xi T 80 7)]) (rest := [.ref (b + 80)]) ⟨hx, hb, hml, hown, hts⟩ (mx4_see l G b hole (xi T 80 7) K T  _ h) (cwV 1 hts (lw_V q498 q500 qs5 q121 q501) rfl rfl rfl cwx_X4_see ⟨Nat.le_of_ble_eq_true rfl, Nat.le_of_ble_eq_true rfl⟩) (x_recv (CC := RX4) (ci := 3) hK hP (xs_80 hP) (by decide) (by decide) rfl (xE_11 (xs_80 hP))) hK hV hb0 hP hS rfl hl.1 rfl (Nat.le_of_ble_eq_true rfl) dX4_step_76 ⟨by first | exact Nat.zero_le _ | (show _ + _ ≤ Z - kc K0; omega), by first | exact Nat.zero_le _ | (show _ + _ ≤ Y - ks K0; omega)⟩ (fun r_28 T1 K1 H locs h hle1 hc1 hs1 hP hS => ?_)
      obtain ⟨h, hTe, hKe⟩ := h
      rw [hTe, hKe] at hP
      refine x_cV (k := 80) (As := [.int r_28]) (rest := []) ⟨hx, hb, hml, hown, hts⟩ (mx4_isSmall l G b hole r_28 K T  _ h) (cwV 1 hts (lw_V q502 q504 qs6 q121 q505) rfl rfl rfl cwx_X4_isSmall ⟨Nat.le_of_ble_eq_true rfl, Nat.le_of_ble_eq_true rfl⟩) (x_recv (CC := RX4) (ci := 3) hK hP (xs_80 hP) (by decide) (by decide) rfl (xE_11 (xs_80 hP))) hK hV hb0 hP hS rfl hl.1 rfl (Nat.le_of_ble_eq_true rfl) dX4_step_79 ⟨by first | exact Nat.zero_le _ | (show _ + _ ≤ Z - kc K0; omega), by first | exact Nat.zero_le _ | (show _ + _ ≤ Y - ks K0; omega)⟩ (fun r_31 T1 K1 H locs h hle1 hc1 hs1 hP hS => ?_)
      obtain ⟨h, hTe, hKe⟩ := h
      rw [hTe, hKe] at hP
      refine lv_if_eq (tgt := 128) hx hb dX4_step_82 (by decide) (fun c_43 => ?_) (fun c_43 => ?_)
      · have h := h.1 c_43
        refine lv_aload_n hx hb dX4_step_128 rfl (lv_at hl 0 rfl) ?_
        refine lv_aload_n hx hb dX4_step_129 rfl (lv_at hl 0 rfl) ?_
        refine x_get (CC := RX4) (TT := TX4) (N := 17) (ci := 3) (v := .int (xi T 80 7)) hx hb hts in_X4 hown hK hP (xs_80 hP) (by decide) (by decide) rfl (xE_11 (xs_80 hP)) 7 (by decide) q303 rfl rfl dX4_step_130 ?_
        refine lv_iload_n hx hb dX4_step_133 rfl (lv_at hl 1 rfl) ?_
        refine lv_isub hx hb dX4_step_134 ?_
        refine lv_iconst (v := 5) hx hb dX4_step_135 (by decide) ?_
        refine lv_icmp_le (tgt := 143) hx hb dX4_step_136 (by decide) (fun c_36 => ?_) (fun c_36 => ?_)
        · have h := h.1 c_36
          refine lv_iconst (v := 2) hx hb dX4_step_143 (by decide) ?_
          obtain ⟨T_34, eT_34⟩ : ∃ z : XT, z = xwi T 80 8 2 := ⟨_, rfl⟩
          have h := h T_34 eT_34
          refine x_put (CC := RX4) (TT := TX4) (N := 17) (ci := 3) (T1 := T_34) (v := .int 2) (ty := .int) (fsf := fun T => fs11 (gem G) b T 80) hx hb hts in_X4 tyX4 tyX4_ok nmX4 hown hK hP hS (xs_80 hP) (by decide) (by decide) rfl (fun _ => xE_11 (xs_80 hP)) rfl 8 (by decide) q304 rfl (Or.inl rfl) rfl rfl rfl (by rw [eT_34]; exact fw11_8 _ b T 80 2) (by rw [eT_34]; exact fun q hq => xwi_i hq) (by rw [eT_34]; exact fun _ _ => rfl) (by rw [eT_34]; exact xwi_ty hP (by rw [(xs_80 hP)]; decide)) dX4_step_144 (fun H locs hP hS => ?_)
          exact J147 _ _ _ _ _ _ _ _ h hle0 hcn hsn hzz hyy hP hS (lv_sub hl [0, 1] rfl)
        · have h := h.2 c_36
          refine lv_iconst (v := 1) hx hb dX4_step_139 (by decide) ?_
          refine lv_goto (tgt := 144) hx hb dX4_step_140 (by decide) ?_
          obtain ⟨T_35, eT_35⟩ : ∃ z : XT, z = xwi T 80 8 1 := ⟨_, rfl⟩
          have h := h T_35 eT_35
          refine x_put (CC := RX4) (TT := TX4) (N := 17) (ci := 3) (T1 := T_35) (v := .int 1) (ty := .int) (fsf := fun T => fs11 (gem G) b T 80) hx hb hts in_X4 tyX4 tyX4_ok nmX4 hown hK hP hS (xs_80 hP) (by decide) (by decide) rfl (fun _ => xE_11 (xs_80 hP)) rfl 8 (by decide) q304 rfl (Or.inl rfl) rfl rfl rfl (by rw [eT_35]; exact fw11_8 _ b T 80 1) (by rw [eT_35]; exact fun q hq => xwi_i hq) (by rw [eT_35]; exact fun _ _ => rfl) (by rw [eT_35]; exact xwi_ty hP (by rw [(xs_80 hP)]; decide)) dX4_step_144 (fun H locs hP hS => ?_)
          exact J147 _ _ _ _ _ _ _ _ h hle0 hcn hsn hzz hyy hP hS (lv_sub hl [0, 1] rfl)
      · have h := h.2 c_43
        refine lv_aload_n hx hb dX4_step_85 rfl (lv_at hl 0 rfl) ?_
        refine x_get (CC := RX4) (TT := TX4) (N := 17) (ci := 3) (v := .int (xi T 80 7)) hx hb hts in_X4 hown hK hP (xs_80 hP) (by decide) (by decide) rfl (xE_11 (xs_80 hP)) 7 (by decide) q303 rfl rfl dX4_step_86 ?_
        refine lv_iload_n hx hb dX4_step_89 rfl (lv_at hl 1 rfl) ?_
        refine lv_isub hx hb dX4_step_90 ?_
        refine lv_iconst (v := 5) hx hb dX4_step_91 (by decide) ?_
        refine lv_icmp_ge (tgt := 115) hx hb dX4_step_92 (by decide) (fun c_42 => ?_) (fun c_42 => ?_)
        · have h := h.1 c_42
          exact J115 _ _ _ _ h  hP hS (lv_sub hl [0, 1] rfl)
        · have h := h.2 c_42
          refine lv_aload_n hx hb dX4_step_95 rfl (lv_at hl 0 rfl) ?_
          refine x_get (CC := RX4) (TT := TX4) (N := 17) (ci := 3) (v := .ref (b + 82)) hx hb hts in_X4 hown hK hP (xs_80 hP) (by decide) (by decide) rfl (xE_11 (xs_80 hP)) 1 (by decide) q296 rfl rfl dX4_step_96 ?_
          refine lv_aload_n hx hb dX4_step_99 rfl (lv_at hl 0 rfl) ?_
          refine x_get (CC := RX4) (TT := TX4) (N := 17) (ci := 3) (v := .int (xi T 80 7)) hx hb hts in_X4 hown hK hP (xs_80 hP) (by decide) (by decide) rfl (xE_11 (xs_80 hP)) 7 (by decide) q303 rfl rfl dX4_step_100 ?_
          refine lv_iload_n hx hb dX4_step_103 rfl (lv_at hl 1 rfl) ?_
          refine lv_isub hx hb dX4_step_104 ?_
          refine lv_aload_n hx hb dX4_step_105 rfl (lv_at hl 0 rfl) ?_
          refine lv_aload_n hx hb dX4_step_106 rfl (lv_at hl 0 rfl) ?_
          refine x_get (CC := RX4) (TT := TX4) (N := 17) (ci := 3) (v := .int (xi T 80 7)) hx hb hts in_X4 hown hK hP (xs_80 hP) (by decide) (by decide) rfl (xE_11 (xs_80 hP)) 7 (by decide) q303 rfl rfl dX4_step_107 ?_
          refine x_cV (k := 80) (As := [.int (xi T 80 7)]) (rest := [.int ((xi T 80 7) - x1), .ref (b + 82)]) ⟨hx, hb, hml, hown, hts⟩ (mx4_see l G b hole (xi T 80 7) K T  _ h) (cwV 1 hts (lw_V q498 q500 qs5 q121 q501) rfl rfl rfl cwx_X4_see ⟨Nat.le_of_ble_eq_true rfl, Nat.le_of_ble_eq_true rfl⟩) (x_recv (CC := RX4) (ci := 3) hK hP (xs_80 hP) (by decide) (by decide) rfl (xE_11 (xs_80 hP))) hK hV hb0 hP hS rfl hl.1 rfl (Nat.le_of_ble_eq_true rfl) dX4_step_110 ⟨by first | exact Nat.zero_le _ | (show _ + _ ≤ Z - kc K0; omega), by first | exact Nat.zero_le _ | (show _ + _ ≤ Y - ks K0; omega)⟩ (fun r_37 T1 K1 H locs h hle1 hc1 hs1 hP hS => ?_)
          obtain ⟨h, hTe, hKe⟩ := h
          rw [hTe, hKe] at hP
          refine lv_i2c hx hb dX4_step_113 rfl ?_
          obtain ⟨j_40, hj_40, ej_40, h⟩ := h
          obtain ⟨T_41, eT_41⟩ : ∃ z : XT, z = xwi T 82 j_40 (((r_37.toUInt32 % 65536).toInt32).toUInt32.toUInt16.toUInt32.toInt32) := ⟨_, rfl⟩
          have h := h T_41 eT_41
          refine x_cast hx hb hK hP hS (xs_82 hP) ej_40 (by rw [xl_82 hP]; exact hj_40) dX4_step_114 (fun H locs hP hS => ?_)
          rw [← eT_41] at hP
          exact J115 _ _ _ _ h  hP hS (lv_sub hl [0, 1] rfl)
  have L5 : ∀ (x1 : Int32) (T : XT) (K : XK) (cn sn : Nat) (H : Heap) (locs : List Loc) (ls : Array Slot), wx4_step_l5  Z Y post  x1 K T → kle K0 K → kc K0 + cn = kc K → ks K0 + sn = ks K → kc K ≤ Z → ks K ≤ Y → xW G b hole K T H → va_S (xA b hole) s.heap H locs → lv_has ls 3 [(0, .ref (b + 80)), (1, .int x1)] → W p l e (headSpec (ws_ yX4_step cX4_step 3 none) ({ frames := 5, cells := (Z - kc K0), slots := (Y - ks K0), locals := 165 } : Room)).room s m ([.ref (b + 80)] : List Value).toArray below meth c H locs cn sn (MQ below (xQ G b hole K0 (Z - kc K0) (Y - ks K0) (ρ := Unit) eV (fun r T1 K1 => post T1 K1)) ([.ref (b + 80)] : List Value).toArray s (Z - kc K0) (Y - ks K0) (xA b hole)) (F0 m 5 ls []) := by
    intro x1 T K cn sn H locs ls h hle0 hcn hsn hzz hyy hP hS hl
    obtain ⟨I5, n5, hI, hstep5⟩ := h
    induction n5 using Nat.strongRecOn generalizing x1 H locs ls with
    | ind n5 ih5 =>
      have h : wx4_step_b5  Z Y post (fun x1 => ∃ mm, mm < n5 ∧ I5 mm x1)  x1 K T := hstep5 n5 _ hI
      clear hI
      unfold wx4_step_b5 at h
      refine lv_aload_n hx hb dX4_step_5 rfl (lv_at hl 0 rfl) ?_
      refine lv_iload_n hx hb dX4_step_6 rfl (lv_at hl 1 rfl) ?_
      refine x_cV (k := 80) (As := [.int x1]) (rest := []) ⟨hx, hb, hml, hown, hts⟩ (mx4_see l G b hole x1 K T  _ h) (cwV 1 hts (lw_V q498 q500 qs5 q121 q501) rfl rfl rfl cwx_X4_see ⟨Nat.le_of_ble_eq_true rfl, Nat.le_of_ble_eq_true rfl⟩) (x_recv (CC := RX4) (ci := 3) hK hP (xs_80 hP) (by decide) (by decide) rfl (xE_11 (xs_80 hP))) hK hV hb0 hP hS rfl hl.1 rfl (Nat.le_of_ble_eq_true rfl) dX4_step_7 ⟨by first | exact Nat.zero_le _ | (show _ + _ ≤ Z - kc K0; omega), by first | exact Nat.zero_le _ | (show _ + _ ≤ Y - ks K0; omega)⟩ (fun r_44 T1 K1 H locs h hle1 hc1 hs1 hP hS => ?_)
      obtain ⟨h, hTe, hKe⟩ := h
      rw [hTe, hKe] at hP
      refine lv_bipush (v := 32) hx hb dX4_step_10 (by decide) ?_
      refine lv_icmp_ne (tgt := 21) hx hb dX4_step_12 (by decide) (fun c_74 => ?_) (fun c_74 => ?_)
      · have h := h.1 c_74
        refine lv_aload_n hx hb dX4_step_21 rfl (lv_at hl 0 rfl) ?_
        refine lv_iload_n hx hb dX4_step_22 rfl (lv_at hl 1 rfl) ?_
        obtain ⟨T_47, eT_47⟩ : ∃ z : XT, z = xwi T 80 9 x1 := ⟨_, rfl⟩
        have h := h T_47 eT_47
        refine x_put (CC := RX4) (TT := TX4) (N := 17) (ci := 3) (T1 := T_47) (v := .int x1) (ty := .int) (fsf := fun T => fs11 (gem G) b T 80) hx hb hts in_X4 tyX4 tyX4_ok nmX4 hown hK hP hS (xs_80 hP) (by decide) (by decide) rfl (fun _ => xE_11 (xs_80 hP)) rfl 9 (by decide) q305 rfl (Or.inl rfl) rfl rfl rfl (by rw [eT_47]; exact fw11_9 _ b T 80 x1) (by rw [eT_47]; exact fun q hq => xwi_i hq) (by rw [eT_47]; exact fun _ _ => rfl) (by rw [eT_47]; exact xwi_ty hP (by rw [(xs_80 hP)]; decide)) dX4_step_23 (fun H locs hP hS => ?_)
        refine lv_aload_n hx hb dX4_step_26 rfl (lv_at hl 0 rfl) ?_
        refine lv_iload_n hx hb dX4_step_27 rfl (lv_at hl 1 rfl) ?_
        refine lv_iconst (v := 1) hx hb dX4_step_28 (by decide) ?_
        refine lv_iadd hx hb dX4_step_29 ?_
        obtain ⟨T_48, eT_48⟩ : ∃ z : XT, z = xwi T_47 80 7 (x1 + 1) := ⟨_, rfl⟩
        have h := h T_48 eT_48
        refine x_put (CC := RX4) (TT := TX4) (N := 17) (ci := 3) (T1 := T_48) (v := .int (x1 + 1)) (ty := .int) (fsf := fun T => fs11 (gem G) b T 80) hx hb hts in_X4 tyX4 tyX4_ok nmX4 hown hK hP hS (xs_80 hP) (by decide) (by decide) rfl (fun _ => xE_11 (xs_80 hP)) rfl 7 (by decide) q303 rfl (Or.inl rfl) rfl rfl rfl (by rw [eT_48]; exact fw11_7 _ b T_47 80 (x1 + 1)) (by rw [eT_48]; exact fun q hq => xwi_i hq) (by rw [eT_48]; exact fun _ _ => rfl) (by rw [eT_48]; exact xwi_ty hP (by rw [(xs_80 hP)]; decide)) dX4_step_30 (fun H locs hP hS => ?_)
        refine lv_aload_n hx hb dX4_step_33 rfl (lv_at hl 0 rfl) ?_
        refine lv_iload_n hx hb dX4_step_34 rfl (lv_at hl 1 rfl) ?_
        refine x_cV (k := 80) (As := [.int x1]) (rest := []) ⟨hx, hb, hml, hown, hts⟩ (mx4_see l G b hole x1 K T_48  _ h) (cwV 1 hts (lw_V q498 q500 qs5 q121 q501) rfl rfl rfl cwx_X4_see ⟨Nat.le_of_ble_eq_true rfl, Nat.le_of_ble_eq_true rfl⟩) (x_recv (CC := RX4) (ci := 3) hK hP (xs_80 hP) (by decide) (by decide) rfl (xE_11 (xs_80 hP))) hK hV hb0 hP hS rfl hl.1 rfl (Nat.le_of_ble_eq_true rfl) dX4_step_35 ⟨by first | exact Nat.zero_le _ | (show _ + _ ≤ Z - kc K0; omega), by first | exact Nat.zero_le _ | (show _ + _ ≤ Y - ks K0; omega)⟩ (fun r_49 T1 K1 H locs h hle1 hc1 hs1 hP hS => ?_)
        obtain ⟨h, hTe, hKe⟩ := h
        rw [hTe, hKe] at hP
        refine lv_istore_n (lv' := [(2, .int r_49), (0, .ref (b + 80)), (1, .int x1)]) hx hb dX4_step_38 rfl hl (by decide) rfl (fun ls hl => ?_)
        refine lv_iload_n hx hb dX4_step_39 rfl (lv_at hl 0 rfl) ?_
        refine lv_iconst (v := (-1)) hx hb dX4_step_40 (by decide) ?_
        refine lv_icmp_ne (tgt := 57) hx hb dX4_step_41 (by decide) (fun c_72 => ?_) (fun c_72 => ?_)
        · have h := h.1 c_72
          refine lv_aload_n hx hb dX4_step_57 rfl (lv_at hl 1 rfl) ?_
          refine lv_iload_n hx hb dX4_step_58 rfl (lv_at hl 0 rfl) ?_
          refine x_cV (k := 80) (As := [.int r_49]) (rest := []) ⟨hx, hb, hml, hown, hts⟩ (mx4_isSmall l G b hole r_49 K T_48  _ h) (cwV 1 hts (lw_V q502 q504 qs6 q121 q505) rfl rfl rfl cwx_X4_isSmall ⟨Nat.le_of_ble_eq_true rfl, Nat.le_of_ble_eq_true rfl⟩) (x_recv (CC := RX4) (ci := 3) hK hP (xs_80 hP) (by decide) (by decide) rfl (xE_11 (xs_80 hP))) hK hV hb0 hP hS rfl hl.1 rfl (Nat.le_of_ble_eq_true rfl) dX4_step_59 ⟨by first | exact Nat.zero_le _ | (show _ + _ ≤ Z - kc K0; omega), by first | exact Nat.zero_le _ | (show _ + _ ≤ Y - ks K0; omega)⟩ (fun r_52 T1 K1 H locs h hle1 hc1 hs1 hP hS => ?_)
          obtain ⟨h, hTe, hKe⟩ := h
          rw [hTe, hKe] at hP
          refine lv_if_eq (tgt := 185) hx hb dX4_step_62 (by decide) (fun c_69 => ?_) (fun c_69 => ?_)
          · have h := h.1 c_69
            refine lv_aload_n hx hb dX4_step_185 rfl (lv_at hl 1 rfl) ?_
            refine lv_iload_n hx hb dX4_step_186 rfl (lv_at hl 0 rfl) ?_
            refine x_cV (k := 80) (As := [.int r_49]) (rest := []) ⟨hx, hb, hml, hown, hts⟩ (mx4_isDigit l G b hole r_49 K T_48  _ h) (cwV 1 hts (lw_V q586 q588 qs7 q121 q589) rfl rfl rfl cwx_X4_isDigit ⟨Nat.le_of_ble_eq_true rfl, Nat.le_of_ble_eq_true rfl⟩) (x_recv (CC := RX4) (ci := 3) hK hP (xs_80 hP) (by decide) (by decide) rfl (xE_11 (xs_80 hP))) hK hV hb0 hP hS rfl hl.1 rfl (Nat.le_of_ble_eq_true rfl) dX4_step_187 ⟨by first | exact Nat.zero_le _ | (show _ + _ ≤ Z - kc K0; omega), by first | exact Nat.zero_le _ | (show _ + _ ≤ Y - ks K0; omega)⟩ (fun r_55 T1 K1 H locs h hle1 hc1 hs1 hP hS => ?_)
            obtain ⟨h, hTe, hKe⟩ := h
            rw [hTe, hKe] at hP
            refine lv_if_eq (tgt := 286) hx hb dX4_step_190 (by decide) (fun c_67 => ?_) (fun c_67 => ?_)
            · have h := h.1 c_67
              refine lv_aload_n hx hb dX4_step_286 rfl (lv_at hl 1 rfl) ?_
              refine lv_iload_n hx hb dX4_step_287 rfl (lv_at hl 0 rfl) ?_
              refine lv_bipush (v := 59) hx hb dX4_step_288 (by decide) ?_
              refine lv_icmp_eq (tgt := 305) hx hb dX4_step_290 (by decide) (fun c_64 => ?_) (fun c_64 => ?_)
              · have h := h.1 c_64
                refine lv_iload_n hx hb dX4_step_305 rfl (lv_at hl 0 rfl) ?_
                refine lv_goto (tgt := 310) hx hb dX4_step_306 (by decide) ?_
                obtain ⟨T_58, eT_58⟩ : ∃ z : XT, z = xwi T_48 80 8 r_49 := ⟨_, rfl⟩
                have h := h T_58 eT_58
                refine x_put (CC := RX4) (TT := TX4) (N := 17) (ci := 3) (T1 := T_58) (v := .int r_49) (ty := .int) (fsf := fun T => fs11 (gem G) b T 80) hx hb hts in_X4 tyX4 tyX4_ok nmX4 hown hK hP hS (xs_80 hP) (by decide) (by decide) rfl (fun _ => xE_11 (xs_80 hP)) rfl 8 (by decide) q304 rfl (Or.inl rfl) rfl rfl rfl (by rw [eT_58]; exact fw11_8 _ b T_48 80 r_49) (by rw [eT_58]; exact fun q hq => xwi_i hq) (by rw [eT_58]; exact fun _ _ => rfl) (by rw [eT_58]; exact xwi_ty hP (by rw [(xs_80 hP)]; decide)) dX4_step_310 (fun H locs hP hS => ?_)
                refine W.widen (k := Z - kc K0) (n := Y - ks K0) (by omega) (by omega) ?_
                exact W.vret hx hb hr (fun t ht hW => ⟨⟨(), T_58, (kset K Z Y), rfl, h, hle0, (by show Z = _; omega), (by show Y = _; omega), by rw [ht]; exact hP, va_K.moved hW.alike hK⟩, hS.F ht⟩) hS.2.2 dX4_step_313
              · have h := h.2 c_64
                refine lv_iload_n hx hb dX4_step_293 rfl (lv_at hl 0 rfl) ?_
                refine lv_bipush (v := 43) hx hb dX4_step_294 (by decide) ?_
                refine lv_icmp_eq (tgt := 305) hx hb dX4_step_296 (by decide) (fun c_63 => ?_) (fun c_63 => ?_)
                · have h := h.1 c_63
                  refine lv_iload_n hx hb dX4_step_305 rfl (lv_at hl 0 rfl) ?_
                  refine lv_goto (tgt := 310) hx hb dX4_step_306 (by decide) ?_
                  obtain ⟨T_59, eT_59⟩ : ∃ z : XT, z = xwi T_48 80 8 r_49 := ⟨_, rfl⟩
                  have h := h T_59 eT_59
                  refine x_put (CC := RX4) (TT := TX4) (N := 17) (ci := 3) (T1 := T_59) (v := .int r_49) (ty := .int) (fsf := fun T => fs11 (gem G) b T 80) hx hb hts in_X4 tyX4 tyX4_ok nmX4 hown hK hP hS (xs_80 hP) (by decide) (by decide) rfl (fun _ => xE_11 (xs_80 hP)) rfl 8 (by decide) q304 rfl (Or.inl rfl) rfl rfl rfl (by rw [eT_59]; exact fw11_8 _ b T_48 80 r_49) (by rw [eT_59]; exact fun q hq => xwi_i hq) (by rw [eT_59]; exact fun _ _ => rfl) (by rw [eT_59]; exact xwi_ty hP (by rw [(xs_80 hP)]; decide)) dX4_step_310 (fun H locs hP hS => ?_)
                  refine W.widen (k := Z - kc K0) (n := Y - ks K0) (by omega) (by omega) ?_
                  exact W.vret hx hb hr (fun t ht hW => ⟨⟨(), T_59, (kset K Z Y), rfl, h, hle0, (by show Z = _; omega), (by show Y = _; omega), by rw [ht]; exact hP, va_K.moved hW.alike hK⟩, hS.F ht⟩) hS.2.2 dX4_step_313
                · have h := h.2 c_63
                  refine lv_iload_n hx hb dX4_step_299 rfl (lv_at hl 0 rfl) ?_
                  refine lv_bipush (v := 45) hx hb dX4_step_300 (by decide) ?_
                  refine lv_icmp_ne (tgt := 309) hx hb dX4_step_302 (by decide) (fun c_62 => ?_) (fun c_62 => ?_)
                  · have h := h.1 c_62
                    refine lv_iconst (v := 1) hx hb dX4_step_309 (by decide) ?_
                    obtain ⟨T_60, eT_60⟩ : ∃ z : XT, z = xwi T_48 80 8 1 := ⟨_, rfl⟩
                    have h := h T_60 eT_60
                    refine x_put (CC := RX4) (TT := TX4) (N := 17) (ci := 3) (T1 := T_60) (v := .int 1) (ty := .int) (fsf := fun T => fs11 (gem G) b T 80) hx hb hts in_X4 tyX4 tyX4_ok nmX4 hown hK hP hS (xs_80 hP) (by decide) (by decide) rfl (fun _ => xE_11 (xs_80 hP)) rfl 8 (by decide) q304 rfl (Or.inl rfl) rfl rfl rfl (by rw [eT_60]; exact fw11_8 _ b T_48 80 1) (by rw [eT_60]; exact fun q hq => xwi_i hq) (by rw [eT_60]; exact fun _ _ => rfl) (by rw [eT_60]; exact xwi_ty hP (by rw [(xs_80 hP)]; decide)) dX4_step_310 (fun H locs hP hS => ?_)
                    refine W.widen (k := Z - kc K0) (n := Y - ks K0) (by omega) (by omega) ?_
                    exact W.vret hx hb hr (fun t ht hW => ⟨⟨(), T_60, (kset K Z Y), rfl, h, hle0, (by show Z = _; omega), (by show Y = _; omega), by rw [ht]; exact hP, va_K.moved hW.alike hK⟩, hS.F ht⟩) hS.2.2 dX4_step_313
                  · have h := h.2 c_62
                    refine lv_iload_n hx hb dX4_step_305 rfl (lv_at hl 0 rfl) ?_
                    refine lv_goto (tgt := 310) hx hb dX4_step_306 (by decide) ?_
                    obtain ⟨T_61, eT_61⟩ : ∃ z : XT, z = xwi T_48 80 8 r_49 := ⟨_, rfl⟩
                    have h := h T_61 eT_61
                    refine x_put (CC := RX4) (TT := TX4) (N := 17) (ci := 3) (T1 := T_61) (v := .int r_49) (ty := .int) (fsf := fun T => fs11 (gem G) b T 80) hx hb hts in_X4 tyX4 tyX4_ok nmX4 hown hK hP hS (xs_80 hP) (by decide) (by decide) rfl (fun _ => xE_11 (xs_80 hP)) rfl 8 (by decide) q304 rfl (Or.inl rfl) rfl rfl rfl (by rw [eT_61]; exact fw11_8 _ b T_48 80 r_49) (by rw [eT_61]; exact fun q hq => xwi_i hq) (by rw [eT_61]; exact fun _ _ => rfl) (by rw [eT_61]; exact xwi_ty hP (by rw [(xs_80 hP)]; decide)) dX4_step_310 (fun H locs hP hS => ?_)
                    refine W.widen (k := Z - kc K0) (n := Y - ks K0) (by omega) (by omega) ?_
                    exact W.vret hx hb hr (fun t ht hW => ⟨⟨(), T_61, (kset K Z Y), rfl, h, hle0, (by show Z = _; omega), (by show Y = _; omega), by rw [ht]; exact hP, va_K.moved hW.alike hK⟩, hS.F ht⟩) hS.2.2 dX4_step_313
            · have h := h.2 c_67
              refine lv_aload_n hx hb dX4_step_193 rfl (lv_at hl 1 rfl) ?_
              refine lv_iconst (v := 0) hx hb dX4_step_194 (by decide) ?_
              obtain ⟨T_65, eT_65⟩ : ∃ z : XT, z = xwi T_48 80 10 0 := ⟨_, rfl⟩
              have h := h T_65 eT_65
              refine x_put (CC := RX4) (TT := TX4) (N := 17) (ci := 3) (T1 := T_65) (v := .int 0) (ty := .int) (fsf := fun T => fs11 (gem G) b T 80) hx hb hts in_X4 tyX4 tyX4_ok nmX4 hown hK hP hS (xs_80 hP) (by decide) (by decide) rfl (fun _ => xE_11 (xs_80 hP)) rfl 10 (by decide) q306 rfl (Or.inl rfl) rfl rfl rfl (by rw [eT_65]; exact fw11_10 _ b T_48 80 0) (by rw [eT_65]; exact fun q hq => xwi_i hq) (by rw [eT_65]; exact fun _ _ => rfl) (by rw [eT_65]; exact xwi_ty hP (by rw [(xs_80 hP)]; decide)) dX4_step_195 (fun H locs hP hS => ?_)
              refine lv_aload_n hx hb dX4_step_198 rfl (lv_at hl 1 rfl) ?_
              refine lv_iload_n hx hb dX4_step_199 rfl (lv_at hl 2 rfl) ?_
              obtain ⟨T_66, eT_66⟩ : ∃ z : XT, z = xwi T_65 80 7 x1 := ⟨_, rfl⟩
              have h := h T_66 eT_66
              refine x_put (CC := RX4) (TT := TX4) (N := 17) (ci := 3) (T1 := T_66) (v := .int x1) (ty := .int) (fsf := fun T => fs11 (gem G) b T 80) hx hb hts in_X4 tyX4 tyX4_ok nmX4 hown hK hP hS (xs_80 hP) (by decide) (by decide) rfl (fun _ => xE_11 (xs_80 hP)) rfl 7 (by decide) q303 rfl (Or.inl rfl) rfl rfl rfl (by rw [eT_66]; exact fw11_7 _ b T_65 80 x1) (by rw [eT_66]; exact fun q hq => xwi_i hq) (by rw [eT_66]; exact fun _ _ => rfl) (by rw [eT_66]; exact xwi_ty hP (by rw [(xs_80 hP)]; decide)) dX4_step_200 (fun H locs hP hS => ?_)
              exact L203 _ _ _ _ _ _ _ _ h hle0 hcn hsn hzz hyy hP hS (lv_sub hl [1, 2] rfl)
          · have h := h.2 c_69
            refine lv_aload_n hx hb dX4_step_65 rfl (lv_at hl 1 rfl) ?_
            refine lv_iload_n hx hb dX4_step_66 rfl (lv_at hl 2 rfl) ?_
            obtain ⟨T_68, eT_68⟩ : ∃ z : XT, z = xwi T_48 80 7 x1 := ⟨_, rfl⟩
            have h := h T_68 eT_68
            refine x_put (CC := RX4) (TT := TX4) (N := 17) (ci := 3) (T1 := T_68) (v := .int x1) (ty := .int) (fsf := fun T => fs11 (gem G) b T 80) hx hb hts in_X4 tyX4 tyX4_ok nmX4 hown hK hP hS (xs_80 hP) (by decide) (by decide) rfl (fun _ => xE_11 (xs_80 hP)) rfl 7 (by decide) q303 rfl (Or.inl rfl) rfl rfl rfl (by rw [eT_68]; exact fw11_7 _ b T_48 80 x1) (by rw [eT_68]; exact fun q hq => xwi_i hq) (by rw [eT_68]; exact fun _ _ => rfl) (by rw [eT_68]; exact xwi_ty hP (by rw [(xs_80 hP)]; decide)) dX4_step_67 (fun H locs hP hS => ?_)
            exact L70 _ _ _ _ _ _ _ _ h hle0 hcn hsn hzz hyy hP hS (lv_sub hl [1, 2] rfl)
        · have h := h.2 c_72
          refine lv_aload_n hx hb dX4_step_44 rfl (lv_at hl 1 rfl) ?_
          refine lv_iconst (v := 0) hx hb dX4_step_45 (by decide) ?_
          obtain ⟨T_70, eT_70⟩ : ∃ z : XT, z = xwi T_48 80 8 0 := ⟨_, rfl⟩
          have h := h T_70 eT_70
          refine x_put (CC := RX4) (TT := TX4) (N := 17) (ci := 3) (T1 := T_70) (v := .int 0) (ty := .int) (fsf := fun T => fs11 (gem G) b T 80) hx hb hts in_X4 tyX4 tyX4_ok nmX4 hown hK hP hS (xs_80 hP) (by decide) (by decide) rfl (fun _ => xE_11 (xs_80 hP)) rfl 8 (by decide) q304 rfl (Or.inl rfl) rfl rfl rfl (by rw [eT_70]; exact fw11_8 _ b T_48 80 0) (by rw [eT_70]; exact fun q hq => xwi_i hq) (by rw [eT_70]; exact fun _ _ => rfl) (by rw [eT_70]; exact xwi_ty hP (by rw [(xs_80 hP)]; decide)) dX4_step_46 (fun H locs hP hS => ?_)
          refine lv_aload_n hx hb dX4_step_49 rfl (lv_at hl 1 rfl) ?_
          refine lv_iload_n hx hb dX4_step_50 rfl (lv_at hl 2 rfl) ?_
          obtain ⟨T_71, eT_71⟩ : ∃ z : XT, z = xwi T_70 80 7 x1 := ⟨_, rfl⟩
          have h := h T_71 eT_71
          refine x_put (CC := RX4) (TT := TX4) (N := 17) (ci := 3) (T1 := T_71) (v := .int x1) (ty := .int) (fsf := fun T => fs11 (gem G) b T 80) hx hb hts in_X4 tyX4 tyX4_ok nmX4 hown hK hP hS (xs_80 hP) (by decide) (by decide) rfl (fun _ => xE_11 (xs_80 hP)) rfl 7 (by decide) q303 rfl (Or.inl rfl) rfl rfl rfl (by rw [eT_71]; exact fw11_7 _ b T_70 80 x1) (by rw [eT_71]; exact fun q hq => xwi_i hq) (by rw [eT_71]; exact fun _ _ => rfl) (by rw [eT_71]; exact xwi_ty hP (by rw [(xs_80 hP)]; decide)) dX4_step_51 (fun H locs hP hS => ?_)
          refine lv_goto (tgt := 313) hx hb dX4_step_54 (by decide) ?_
          refine W.widen (k := Z - kc K0) (n := Y - ks K0) (by omega) (by omega) ?_
          exact W.vret hx hb hr (fun t ht hW => ⟨⟨(), T_71, (kset K Z Y), rfl, h, hle0, (by show Z = _; omega), (by show Y = _; omega), by rw [ht]; exact hP, va_K.moved hW.alike hK⟩, hS.F ht⟩) hS.2.2 dX4_step_313
      · have h := h.2 c_74
        obtain ⟨x1_73, ex1_73⟩ : ∃ y : Int32, y = x1 + 1 := ⟨_, rfl⟩
        have h := h x1_73 ex1_73
        refine lv_iinc (v := x1_73) (lv' := [(1, .int x1_73), (0, .ref (b + 80))]) hx hb dX4_step_15 hl (k := 1) rfl (by rw [ex1_73]; rfl) (by decide) rfl (fun ls hl => ?_)
        refine lv_goto (tgt := 5) hx hb dX4_step_18 (by decide) ?_
        obtain ⟨mm, hmm, h⟩ := h
        exact ih5 mm hmm _ _ _ _  hP hS (lv_sub hl [1, 0] rfl) h
  have hcn : kc K0 + 0 = kc K0 := rfl
  have hsn : ks K0 + 0 = ks K0 := rfl
  have hzz := hZ
  have hyy := hY
  unfold wx4_step at h
  refine lv_aload_n hx hb dX4_step_0 rfl (lv_at hl 0 rfl) ?_
  refine x_get (CC := RX4) (TT := TX4) (N := 17) (ci := 3) (v := .int (xi T 80 7)) hx hb hts in_X4 hown hK hP (xs_80 hP) (by decide) (by decide) rfl (xE_11 (xs_80 hP)) 7 (by decide) q303 rfl rfl dX4_step_1 ?_
  refine lv_istore_n (lv' := [(1, .int (xi T 80 7)), (0, .ref (b + 80))]) hx hb dX4_step_4 rfl hl (by decide) rfl (fun ls hl => ?_)
  exact L5 _ _ _ _ _ _ _ _ h hle0 hcn hsn hzz hyy hP hS (lv_sub hl [1, 0] rfl)
theorem cwx_J7_equals : yJ7_equals.cls ≠ "java/lang/invoke/MethodHandle" ∧ yJ7_equals.cls ≠ "java/lang/invoke/VarHandle" ∧ (parseMethodDescriptor yJ7_equals.desc).map (fun d => d.parameters.length) = some 2 := by decide +kernel
def wxJ7_equals_b9 (p1 : Nat) (p2 : Nat) (post : Int32 → Prop) (R9 : Int32 → Prop)  (x2 : Int32) (K : XK) (T : XT) : Prop :=
      (((nI (kl K p1)) ≤ x2 →
        post 1) ∧
       (¬ ((nI (kl K p1)) ≤ x2) →
        ∃ j_1 : Nat, j_1 < kl K p1 ∧ x2 = nI j_1 ∧
        ∃ j_2 : Nat, j_2 < slen.getD p2 0 ∧ x2 = nI j_2 ∧
        (((xi T p1 j_1) = ((sby.getD p2 []).getD j_2 0) →
          ∀ x2_3 : Int32, x2_3 = x2 + 1 →
          R9 x2_3) ∧
         (¬ ((xi T p1 j_1) = ((sby.getD p2 []).getD j_2 0)) →
          post 0))))
def wxJ7_equals_l9 (p1 : Nat) (p2 : Nat) (post : Int32 → Prop)  (x2 : Int32) (K : XK) (T : XT) : Prop := wLoop (fun (R : ((Int32)) → Prop) (v : (Int32)) => wxJ7_equals_b9 p1 p2 post (fun x2 => R x2)  v K T) x2
def wxJ7_equals (p1 : Nat) (p2 : Nat) (K : XK) (T : XT) (post : Int32 → Prop) : Prop :=
  ((¬ (nI (kl K p1)) = (nI (slen.getD p2 0)) →
    post 0) ∧
   ((nI (kl K p1)) = (nI (slen.getD p2 0)) →
    wxJ7_equals_l9 p1 p2 post 0 K T))
set_option maxHeartbeats 4000000 in
theorem mxJ7_equals (l : Launch) (G : XG) (b : Nat) (hole : Nat → Prop) (p1 : Nat) (p2 : Nat) (K : XK) (T : XT) (hk_p1 : kd K p1 = 6) (hk_p2 : p2 < 22) (post : Int32 → Prop) (h : wxJ7_equals p1 p2 K T post) : Met l yJ7_equals (ws_ yJ7_equals cJ7_equals 3 (some .boolean)) ({ frames := 0, cells := 0, slots := 0, locals := 0 } : Room) (xPc G b hole [.ref (b + p1), .ref ((gad G).2.1 p2)] K T) (xQ G b hole K 0 0 (ρ := Int32) eI (fun r T1 K1 => post r ∧ T1 = T ∧ K1 = K)) 0 0 (xA b hole) := by
  refine Met.ofW (cc := cJ7_equals) (maxL := 3) (ret := (some .boolean)) (by decide) rfl ?_
  intro p e s m args below meth c s₁ B hml hv
  obtain ⟨rfl, hP, hK, hV⟩ := hv
  have hx := B.exec
  have hb := B.bytes
  have hr := B.returns
  have hts := atoms_spec (ws := ws_ yJ7_equals cJ7_equals 3 (some .boolean)) B.pre
  have hts : ∀ w ∈ lw_all, w.before _ s = true := fun w h => hts w (List.mem_cons_of_mem _ h)
  have hown : s.vm.findClass RJ7 = some m.cls := findClass_of_methodNamed B.named
  have hlocks := B.notSynchronized
  have hb0 : b ≤ s.heap.size := by rw [hP.2.2.2]; exact Nat.le_add_right _ _
  have hS : va_S (xA b hole) s.heap s.heap [] := va_S.rf
  have hl := lv_entry ([.ref (b + p1), .ref ((gad G).2.1 p2)]) (n := 3) (Nat.le_of_ble_eq_true rfl)
  rw [lg_entry_eq]
  generalize (lg_sl ([.ref (b + p1), .ref ((gad G).2.1 p2)]) ++ List.replicate (3 - (lg_sl ([.ref (b + p1), .ref ((gad G).2.1 p2)])).length) Slot.unset).toArray = ls at hl ⊢
  have hl : lv_has ls 3 [(0, .ref (b + p1)), (1, .ref ((gad G).2.1 p2))] := hl
  have L9 : ∀ (x2 : Int32) (H : Heap) (locs : List Loc) (ls : Array Slot), wxJ7_equals_l9 p1 p2 post  x2 K T → xW G b hole K T H → va_S (xA b hole) s.heap H locs → lv_has ls 3 [(0, .ref (b + p1)), (1, .ref ((gad G).2.1 p2)), (2, .int x2)] → W p l e (headSpec (ws_ yJ7_equals cJ7_equals 3 (some .boolean)) ({ frames := 0, cells := 0, slots := 0, locals := 0 } : Room)).room s m ([.ref (b + p1), .ref ((gad G).2.1 p2)] : List Value).toArray below meth c H locs 0 0 (MQ below (xQ G b hole K 0 0 (ρ := Int32) eI (fun r T1 K1 => post r ∧ T1 = T ∧ K1 = K)) ([.ref (b + p1), .ref ((gad G).2.1 p2)] : List Value).toArray s 0 0 (xA b hole)) (F0 m 9 ls []) := by
    intro x2 H locs ls h hP hS hl
    obtain ⟨I9, n9, hI, hstep9⟩ := h
    induction n9 using Nat.strongRecOn generalizing x2 H locs ls with
    | ind n9 ih9 =>
      have h : wxJ7_equals_b9 p1 p2 post (fun x2 => ∃ mm, mm < n9 ∧ I9 mm x2)  x2 K T := hstep9 n9 _ hI
      clear hI
      unfold wxJ7_equals_b9 at h
      refine lv_iload_n hx hb dJ7_equals_9 rfl (lv_at hl 2 rfl) ?_
      refine lv_aload_n hx hb dJ7_equals_10 rfl (lv_at hl 0 rfl) ?_
      refine x_alen6 hx hb hK hP hk_p1 dJ7_equals_11 ?_
      refine lv_icmp_ge (tgt := 32) hx hb dJ7_equals_12 (by decide) (fun c_5 => ?_) (fun c_5 => ?_)
      · have h := h.1 c_5
        refine lv_iconst (v := 1) hx hb dJ7_equals_32 (by decide) ?_
        exact W.zret (v := 1) hx hb hr rfl (fun t ht hW => ⟨⟨1, T, K, rfl, ⟨h, rfl, rfl⟩, kle.rf, rfl, rfl, by rw [ht]; exact hP, va_K.moved hW.alike hK⟩, hS.F ht⟩) hS.2.2 dJ7_equals_33
      · have h := h.2 c_5
        refine lv_aload_n hx hb dJ7_equals_15 rfl (lv_at hl 0 rfl) ?_
        refine lv_iload_n hx hb dJ7_equals_16 rfl (lv_at hl 2 rfl) ?_
        obtain ⟨j_1, hj_1, ej_1, h⟩ := h
        refine x_bald hx hb hK hP hk_p1 ej_1 hj_1 dJ7_equals_17 ?_
        refine lv_aload_n hx hb dJ7_equals_18 rfl (lv_at hl 1 rfl) ?_
        refine lv_iload_n hx hb dJ7_equals_19 rfl (lv_at hl 2 rfl) ?_
        obtain ⟨j_2, hj_2, ej_2, h⟩ := h
        have hlen9 := e_len hk_p2
        refine va_tb (v := .int ((sby.getD p2 []).getD j_2 0)) hx hb (hV.2.2.2.1.1 _ hk_p2).2.2.2 (x_sS hV hS) (by rw [ej_2]; exact vp_in_nI hj_2 (by omega)) (by rw [ej_2, nI_clamp (by omega)]) dJ7_equals_20 ?_
        refine lv_icmp_eq (tgt := 26) hx hb dJ7_equals_21 (by decide) (fun c_4 => ?_) (fun c_4 => ?_)
        · have h := h.1 c_4
          obtain ⟨x2_3, ex2_3⟩ : ∃ y : Int32, y = x2 + 1 := ⟨_, rfl⟩
          have h := h x2_3 ex2_3
          refine lv_iinc (v := x2_3) (lv' := [(2, .int x2_3), (0, .ref (b + p1)), (1, .ref ((gad G).2.1 p2))]) hx hb dJ7_equals_26 hl (k := 2) rfl (by rw [ex2_3]; rfl) (by decide) rfl (fun ls hl => ?_)
          refine lv_goto (tgt := 9) hx hb dJ7_equals_29 (by decide) ?_
          obtain ⟨mm, hmm, h⟩ := h
          exact ih9 mm hmm _ _ _ _  hP hS (lv_sub hl [1, 2, 0] rfl) h
        · have h := h.2 c_4
          refine lv_iconst (v := 0) hx hb dJ7_equals_24 (by decide) ?_
          exact W.zret (v := 0) hx hb hr rfl (fun t ht hW => ⟨⟨0, T, K, rfl, ⟨h, rfl, rfl⟩, kle.rf, rfl, rfl, by rw [ht]; exact hP, va_K.moved hW.alike hK⟩, hS.F ht⟩) hS.2.2 dJ7_equals_25
  unfold wxJ7_equals at h
  refine lv_aload_n hx hb dJ7_equals_0 rfl (lv_at hl 0 rfl) ?_
  refine x_alen6 hx hb hK hP hk_p1 dJ7_equals_1 ?_
  refine lv_aload_n hx hb dJ7_equals_2 rfl (lv_at hl 1 rfl) ?_
  refine va_tlen (v := nI (slen.getD p2 0)) hx hb (hV.2.2.2.1.1 _ hk_p2).2.2.2 (x_sS hV hS) rfl dJ7_equals_3 ?_
  refine lv_icmp_ne (tgt := 34) hx hb dJ7_equals_4 (by decide) (fun c_6 => ?_) (fun c_6 => ?_)
  · have h := h.1 c_6
    refine lv_iconst (v := 0) hx hb dJ7_equals_34 (by decide) ?_
    exact W.zret (v := 0) hx hb hr rfl (fun t ht hW => ⟨⟨0, T, K, rfl, ⟨h, rfl, rfl⟩, kle.rf, rfl, rfl, by rw [ht]; exact hP, va_K.moved hW.alike hK⟩, hS.F ht⟩) hS.2.2 dJ7_equals_35
  · have h := h.2 c_6
    refine lv_iconst (v := 0) hx hb dJ7_equals_7 (by decide) ?_
    refine lv_istore_n (lv' := [(2, .int 0), (0, .ref (b + p1)), (1, .ref ((gad G).2.1 p2))]) hx hb dJ7_equals_8 rfl hl (by decide) rfl (fun ls hl => ?_)
    exact L9 _ _ _ _ h  hP hS (lv_sub hl [1, 2, 0] rfl)
theorem cwx_J4_equals : yJ4_equals.cls = RJ4 ∧ yJ4_equals.cls ≠ "java/lang/invoke/MethodHandle" ∧ yJ4_equals.cls ≠ "java/lang/invoke/VarHandle" ∧ (parseMethodDescriptor yJ4_equals.desc).map (fun d => d.parameters.length) = some 1 := by decide +kernel
def wxJ4_equals_j36 (p0 : Nat) (p1 : Nat) (post : Int32 → Prop) (x2 : Nat) (K : XK) (T : XT) : Prop :=
    ∃ v_1 : Nat, xr T p0 0 = some v_1 ∧
    wxJ7_equals v_1 x2 K T (fun r_2 =>
    ((r_2 = 0 →
      post 0) ∧
     (¬ (r_2 = 0) →
      post 1)))
def wxJ4_equals (p0 : Nat) (p1 : Nat) (K : XK) (T : XT) (post : Int32 → Prop) : Prop :=
  (((1 : Int32) = 0 →
    post 0) ∧
   (¬ ((1 : Int32) = 0) →
    (((1 : Int32) = 0 →
      wxJ4_equals_j36 p0 p1 post p1 K T) ∧
     (¬ ((1 : Int32) = 0) →
      ((¬ (xi T p0 1) = (0 : Int32) →
        post 0) ∧
       ((xi T p0 1) = (0 : Int32) →
        wxJ4_equals_j36 p0 p1 post p1 K T))))))
set_option maxHeartbeats 4000000 in
theorem mxJ4_equals (l : Launch) (G : XG) (b : Nat) (hole : Nat → Prop) (p0 : Nat) (p1 : Nat) (K : XK) (T : XT) (hk_p0 : kd K p0 = 15) (hk_p1 : p1 < 22) (post : Int32 → Prop) (h : wxJ4_equals p0 p1 K T post) : Met l yJ4_equals (ws_ yJ4_equals cJ4_equals 3 (some .boolean)) ({ frames := 1, cells := 0, slots := 0, locals := 22 } : Room) (xPc G b hole [.ref (b + p0), .ref ((gad G).1 p1)] K T) (xQ G b hole K 0 0 (ρ := Int32) eI (fun r T1 K1 => post r ∧ T1 = T ∧ K1 = K)) 0 0 (xA b hole) := by
  refine Met.ofW (cc := cJ4_equals) (maxL := 3) (ret := (some .boolean)) (by decide) rfl ?_
  intro p e s m args below meth c s₁ B hml hv
  obtain ⟨rfl, hP, hK, hV⟩ := hv
  have hx := B.exec
  have hb := B.bytes
  have hr := B.returns
  have hts := atoms_spec (ws := ws_ yJ4_equals cJ4_equals 3 (some .boolean)) B.pre
  have hts : ∀ w ∈ lw_all, w.before _ s = true := fun w h => hts w (List.mem_cons_of_mem _ h)
  have hown : s.vm.findClass RJ4 = some m.cls := findClass_of_methodNamed B.named
  have hlocks := B.notSynchronized
  have hb0 : b ≤ s.heap.size := by rw [hP.2.2.2]; exact Nat.le_add_right _ _
  have hS : va_S (xA b hole) s.heap s.heap [] := va_S.rf
  have hl := lv_entry ([.ref (b + p0), .ref ((gad G).1 p1)]) (n := 3) (Nat.le_of_ble_eq_true rfl)
  rw [lg_entry_eq]
  generalize (lg_sl ([.ref (b + p0), .ref ((gad G).1 p1)]) ++ List.replicate (3 - (lg_sl ([.ref (b + p0), .ref ((gad G).1 p1)])).length) Slot.unset).toArray = ls at hl ⊢
  have hl : lv_has ls 3 [(0, .ref (b + p0)), (1, .ref ((gad G).1 p1))] := hl
  have J36 : ∀ (x2 : Nat) (H : Heap) (locs : List Loc) (ls : Array Slot), wxJ4_equals_j36 p0 p1 post x2 K T → (x2 < 22) → xW G b hole K T H → va_S (xA b hole) s.heap H locs → lv_has ls 3 [(0, .ref (b + p0)), (2, .ref ((gad G).1 x2))] → W p l e (headSpec (ws_ yJ4_equals cJ4_equals 3 (some .boolean)) ({ frames := 1, cells := 0, slots := 0, locals := 22 } : Room)).room s m ([.ref (b + p0), .ref ((gad G).1 p1)] : List Value).toArray below meth c H locs 0 0 (MQ below (xQ G b hole K 0 0 (ρ := Int32) eI (fun r T1 K1 => post r ∧ T1 = T ∧ K1 = K)) ([.ref (b + p0), .ref ((gad G).1 p1)] : List Value).toArray s 0 0 (xA b hole)) (F0 m 36 ls []) := by
    intro x2 H locs ls h hk_x2 hP hS hl
    unfold wxJ4_equals_j36 at h
    refine lv_aload_n hx hb dJ4_equals_36 rfl (lv_at hl 0 rfl) ?_
    obtain ⟨v_1, ev_1, h⟩ := h
    refine x_get (CC := RJ4) (TT := TJ4) (N := 4) (ci := 7) (v := rfv b (xr T p0 0)) hx hb hts in_J4 hown hK hP hk_p0 (by decide) (by decide) rfl (xE_15 hk_p0) 0 (by decide) q572 rfl rfl dJ4_equals_37 ?_
    refine x_some ev_1 ?_
    have hk_v_1 : kd K v_1 = 6 := hP.ty hk_p0 (by decide) ev_1
    refine lv_aload_n hx hb dJ4_equals_40 rfl (lv_at hl 1 rfl) ?_
    refine vk_getf hx hb (hV.2.2.2.1.1 _ hk_x2).2.2.1 (x_sS hV hS) hown (hts _ q572) (fun _ h9 => h9) dJ4_equals_41 ?_
    refine x_cS (As := [.ref (b + v_1), .ref ((gad G).2.1 x2)]) (rest := []) ⟨hx, hb, hml, hown, hts⟩ (mxJ7_equals l G b hole v_1 x2 K T hk_v_1 hk_x2 _ h) (va_cwS 2 hts (lw_S q665 q666 q132 q667) rfl rfl rfl cwx_J7_equals ⟨Nat.le_of_ble_eq_true rfl, Nat.le_of_ble_eq_true rfl⟩) hK hV hb0 hP hS rfl hl.1 rfl (Nat.le_of_ble_eq_true rfl) dJ4_equals_44 ⟨by first | exact Nat.zero_le _ | (show _ + _ ≤ Z - kc K0; omega), by first | exact Nat.zero_le _ | (show _ + _ ≤ Y - ks K0; omega)⟩ (fun r_2 T1 K1 H locs h hle1 hc1 hs1 hP hS => ?_)
    obtain ⟨h, hTe, hKe⟩ := h
    rw [hTe, hKe] at hP
    refine lv_if_eq (tgt := 54) hx hb dJ4_equals_47 (by decide) (fun c_5 => ?_) (fun c_5 => ?_)
    · have h := h.1 c_5
      refine lv_iconst (v := 0) hx hb dJ4_equals_54 (by decide) ?_
      exact W.zret (v := 0) hx hb hr rfl (fun t ht hW => ⟨⟨0, T, K, rfl, ⟨h, rfl, rfl⟩, kle.rf, rfl, rfl, by rw [ht]; exact hP, va_K.moved hW.alike hK⟩, hS.F ht⟩) hS.2.2 dJ4_equals_55
    · have h := h.2 c_5
      refine lv_iconst (v := 1) hx hb dJ4_equals_50 (by decide) ?_
      refine lv_goto (tgt := 55) hx hb dJ4_equals_51 (by decide) ?_
      exact W.zret (v := 1) hx hb hr rfl (fun t ht hW => ⟨⟨1, T, K, rfl, ⟨h, rfl, rfl⟩, kle.rf, rfl, rfl, by rw [ht]; exact hP, va_K.moved hW.alike hK⟩, hS.F ht⟩) hS.2.2 dJ4_equals_55
  unfold wxJ4_equals at h
  refine lv_aload_n hx hb dJ4_equals_0 rfl (lv_at hl 0 rfl) ?_
  refine lv_aload_n hx hb dJ4_equals_1 rfl (lv_at hl 1 rfl) ?_
  refine lv_acmp_ne (rx := some (b + p0)) (ry := some ((gad G).1 p1)) (tgt := 7) hx hb dJ4_equals_2 (by decide) (fun _ => ?_) (fun e9 => absurd (Option.some.inj e9) (xs_ne hV hk_p1))
  refine lv_aload_n hx hb dJ4_equals_7 rfl (lv_at hl 1 rfl) ?_
  refine va_instE hx hb hown (hts _ q664) (xs_recv hV hS hk_p1) dJ4_equals_8 ?_
  refine lv_if_eq (tgt := 54) hx hb dJ4_equals_11 (by decide) (fun c_8 => ?_) (fun c_8 => ?_)
  · have h := h.1 c_8
    refine lv_iconst (v := 0) hx hb dJ4_equals_54 (by decide) ?_
    exact W.zret (v := 0) hx hb hr rfl (fun t ht hW => ⟨⟨0, T, K, rfl, ⟨h, rfl, rfl⟩, kle.rf, rfl, rfl, by rw [ht]; exact hP, va_K.moved hW.alike hK⟩, hS.F ht⟩) hS.2.2 dJ4_equals_55
  · have h := h.2 c_8
    refine lv_aload_n hx hb dJ4_equals_14 rfl (lv_at hl 1 rfl) ?_
    refine va_castE hx hb hown (hts _ q664) (xs_recv hV hS hk_p1) dJ4_equals_15 ?_
    refine lv_astore_n (lv' := [(2, .ref ((gad G).1 p1)), (0, .ref (b + p0)), (1, .ref ((gad G).1 p1))]) hx hb dJ4_equals_18 rfl hl (by decide) rfl (fun ls hl => ?_)
    refine va_gets hx hb hV.2.2.2.1.2.2.1 (x_sS hV hS) hown (hts _ q528) (fun _ h9 => h9) dJ4_equals_19 ?_
    refine lv_if_eq (tgt := 36) hx hb dJ4_equals_22 (by decide) (fun c_7 => ?_) (fun c_7 => ?_)
    · have h := h.1 c_7
      exact J36 _ _ _ _ h hk_p1 hP hS (lv_sub hl [1, 0] rfl)
    · have h := h.2 c_7
      refine lv_aload_n hx hb dJ4_equals_25 rfl (lv_at hl 1 rfl) ?_
      refine x_get (CC := RJ4) (TT := TJ4) (N := 4) (ci := 7) (v := .int (xi T p0 1)) hx hb hts in_J4 hown hK hP hk_p0 (by decide) (by decide) rfl (xE_15 hk_p0) 1 (by decide) q573 rfl rfl dJ4_equals_26 ?_
      refine lv_aload_n hx hb dJ4_equals_29 rfl (lv_at hl 0 rfl) ?_
      refine vk_getf hx hb (hV.2.2.2.1.1 _ hk_p1).2.1 (x_sS hV hS) hown (hts _ q573) (fun _ h9 => h9) dJ4_equals_30 ?_
      refine lv_icmp_ne (tgt := 54) hx hb dJ4_equals_33 (by decide) (fun c_6 => ?_) (fun c_6 => ?_)
      · have h := h.1 c_6
        refine lv_iconst (v := 0) hx hb dJ4_equals_54 (by decide) ?_
        exact W.zret (v := 0) hx hb hr rfl (fun t ht hW => ⟨⟨0, T, K, rfl, ⟨h, rfl, rfl⟩, kle.rf, rfl, rfl, by rw [ht]; exact hP, va_K.moved hW.alike hK⟩, hS.F ht⟩) hS.2.2 dJ4_equals_55
      · have h := h.2 c_6
        exact J36 _ _ _ _ h hk_p1 hP hS (lv_sub hl [1, 0] rfl)
theorem cwx_X4_is : yX4_is.cls = RX4 ∧ yX4_is.cls ≠ "java/lang/invoke/MethodHandle" ∧ yX4_is.cls ≠ "java/lang/invoke/VarHandle" ∧ (parseMethodDescriptor yX4_is.desc).map (fun d => d.parameters.length) = some 1 := by decide +kernel
def wx4_is (p1 : Nat) (K : XK) (T : XT) (post : Int32 → Prop) : Prop :=
  ((¬ (xi T 80 8) = 2 →
    post 0) ∧
   ((xi T 80 8) = 2 →
    ∃ v_1 : Nat, xr T 80 14 = some v_1 ∧
    wxJ4_equals v_1 p1 K T (fun r_2 =>
    ((r_2 = 0 →
      post 0) ∧
     (¬ (r_2 = 0) →
      post 1)))))
set_option maxHeartbeats 4000000 in
theorem mx4_is (l : Launch) (G : XG) (b : Nat) (hole : Nat → Prop) (p1 : Nat) (K : XK) (T : XT) (hk_p1 : p1 < 22) (post : Int32 → Prop) (h : wx4_is p1 K T post) : Met l yX4_is (ws_ yX4_is cX4_is 2 (some .boolean)) ({ frames := 2, cells := 0, slots := 0, locals := 44 } : Room) (xPc G b hole [.ref (b + 80), .ref ((gad G).1 p1)] K T) (xQ G b hole K 0 0 (ρ := Int32) eI (fun r T1 K1 => post r ∧ T1 = T ∧ K1 = K)) 0 0 (xA b hole) := by
  refine Met.ofW (cc := cX4_is) (maxL := 2) (ret := (some .boolean)) (by decide) rfl ?_
  intro p e s m args below meth c s₁ B hml hv
  obtain ⟨rfl, hP, hK, hV⟩ := hv
  have hx := B.exec
  have hb := B.bytes
  have hr := B.returns
  have hts := atoms_spec (ws := ws_ yX4_is cX4_is 2 (some .boolean)) B.pre
  have hts : ∀ w ∈ lw_all, w.before _ s = true := fun w h => hts w (List.mem_cons_of_mem _ h)
  have hown : s.vm.findClass RX4 = some m.cls := findClass_of_methodNamed B.named
  have hlocks := B.notSynchronized
  have hb0 : b ≤ s.heap.size := by rw [hP.2.2.2]; exact Nat.le_add_right _ _
  have hS : va_S (xA b hole) s.heap s.heap [] := va_S.rf
  have hl := lv_entry ([.ref (b + 80), .ref ((gad G).1 p1)]) (n := 2) (Nat.le_of_ble_eq_true rfl)
  rw [lg_entry_eq]
  generalize (lg_sl ([.ref (b + 80), .ref ((gad G).1 p1)]) ++ List.replicate (2 - (lg_sl ([.ref (b + 80), .ref ((gad G).1 p1)])).length) Slot.unset).toArray = ls at hl ⊢
  have hl : lv_has ls 2 [(0, .ref (b + 80)), (1, .ref ((gad G).1 p1))] := hl
  unfold wx4_is at h
  refine lv_aload_n hx hb dX4_is_0 rfl (lv_at hl 0 rfl) ?_
  refine x_get (CC := RX4) (TT := TX4) (N := 17) (ci := 3) (v := .int (xi T 80 8)) hx hb hts in_X4 hown hK hP (xs_80 hP) (by decide) (by decide) rfl (xE_11 (xs_80 hP)) 8 (by decide) q304 rfl rfl dX4_is_1 ?_
  refine lv_iconst (v := 2) hx hb dX4_is_4 (by decide) ?_
  refine lv_icmp_ne (tgt := 23) hx hb dX4_is_5 (by decide) (fun c_6 => ?_) (fun c_6 => ?_)
  · have h := h.1 c_6
    refine lv_iconst (v := 0) hx hb dX4_is_23 (by decide) ?_
    exact W.zret (v := 0) hx hb hr rfl (fun t ht hW => ⟨⟨0, T, K, rfl, ⟨h, rfl, rfl⟩, kle.rf, rfl, rfl, by rw [ht]; exact hP, va_K.moved hW.alike hK⟩, hS.F ht⟩) hS.2.2 dX4_is_24
  · have h := h.2 c_6
    refine lv_aload_n hx hb dX4_is_8 rfl (lv_at hl 0 rfl) ?_
    obtain ⟨v_1, ev_1, h⟩ := h
    refine x_get (CC := RX4) (TT := TX4) (N := 17) (ci := 3) (v := xwd (gem G) b (xr T 80 14) (xi T 80 14)) hx hb hts in_X4 hown hK hP (xs_80 hP) (by decide) (by decide) rfl (xE_11 (xs_80 hP)) 14 (by decide) q313 rfl rfl dX4_is_9 ?_
    refine x_somew ev_1 ?_
    have hk_v_1 : kd K v_1 = 15 := hP.ty (xs_80 hP) (by decide) ev_1
    refine lv_aload_n hx hb dX4_is_12 rfl (lv_at hl 1 rfl) ?_
    refine x_cV (k := v_1) (As := [.ref ((gad G).1 p1)]) (rest := []) ⟨hx, hb, hml, hown, hts⟩ (mxJ4_equals l G b hole v_1 p1 K T hk_v_1 hk_p1 _ h) (cwV 1 hts (lw_V q660 q661 q662 q129 q663) rfl rfl rfl cwx_J4_equals ⟨Nat.le_of_ble_eq_true rfl, Nat.le_of_ble_eq_true rfl⟩) (x_recv (CC := RJ4) (ci := 7) hK hP hk_v_1 (by decide) (by decide) rfl (xE_15 hk_v_1)) hK hV hb0 hP hS rfl hl.1 rfl (Nat.le_of_ble_eq_true rfl) dX4_is_13 ⟨by first | exact Nat.zero_le _ | (show _ + _ ≤ Z - kc K0; omega), by first | exact Nat.zero_le _ | (show _ + _ ≤ Y - ks K0; omega)⟩ (fun r_2 T1 K1 H locs h hle1 hc1 hs1 hP hS => ?_)
    obtain ⟨h, hTe, hKe⟩ := h
    rw [hTe, hKe] at hP
    refine lv_if_eq (tgt := 23) hx hb dX4_is_16 (by decide) (fun c_5 => ?_) (fun c_5 => ?_)
    · have h := h.1 c_5
      refine lv_iconst (v := 0) hx hb dX4_is_23 (by decide) ?_
      exact W.zret (v := 0) hx hb hr rfl (fun t ht hW => ⟨⟨0, T, K, rfl, ⟨h, rfl, rfl⟩, kle.rf, rfl, rfl, by rw [ht]; exact hP, va_K.moved hW.alike hK⟩, hS.F ht⟩) hS.2.2 dX4_is_24
    · have h := h.2 c_5
      refine lv_iconst (v := 1) hx hb dX4_is_19 (by decide) ?_
      refine lv_goto (tgt := 24) hx hb dX4_is_20 (by decide) ?_
      exact W.zret (v := 1) hx hb hr rfl (fun t ht hW => ⟨⟨1, T, K, rfl, ⟨h, rfl, rfl⟩, kle.rf, rfl, rfl, by rw [ht]; exact hP, va_K.moved hW.alike hK⟩, hS.F ht⟩) hS.2.2 dX4_is_24
theorem cwx_X4_must : yX4_must.cls = RX4 ∧ yX4_must.cls ≠ "java/lang/invoke/MethodHandle" ∧ yX4_must.cls ≠ "java/lang/invoke/VarHandle" ∧ (parseMethodDescriptor yX4_must.desc).map (fun d => d.parameters.length) = some 1 := by decide +kernel
def wx4_must (p1 : Int32) (K : XK) (T : XT) (post : XT → Prop) (xpost : XT → Prop) : Prop :=
  ((¬ p1 = 0 →
    post T) ∧
   (p1 = 0 →
    wx4_fail 1 K T (fun r_1 T_2 =>
    r_1 = 81 ∧ xpost T_2)))
set_option maxHeartbeats 4000000 in
theorem mx4_must (l : Launch) (G : XG) (b : Nat) (hole : Nat → Prop) (p1 : Int32) (K : XK) (T : XT)  (post : XT → Prop) (xpost : XT → Prop) (h : wx4_must p1 K T post xpost) : vx_Met l yX4_must (ws_ yX4_must cX4_must 2 none) ({ frames := 2, cells := 0, slots := 0, locals := 43 } : Room) (xPc G b hole [.ref (b + 80), .int p1] K T) (xQ G b hole K 0 0 (ρ := Unit) eV (fun r T1 K1 => post T1 ∧ K1 = K)) (xXC G b hole K 0 0 (fun T1 K1 => xpost T1 ∧ K1 = K)) 0 0 (xA b hole) := by
  refine vx_ofW (cc := cX4_must) (maxL := 2) (ret := none) (by decide) rfl ?_
  intro p e s m args below meth c s₁ B hml ht9 hv
  obtain ⟨rfl, hP, hK, hV⟩ := hv
  have hx := B.exec
  have hb := B.bytes
  have hr := B.returns
  have hts := atoms_spec (ws := ws_ yX4_must cX4_must 2 none) B.pre
  have hts : ∀ w ∈ lw_all, w.before _ s = true := fun w h => hts w (List.mem_cons_of_mem _ h)
  have hown : s.vm.findClass RX4 = some m.cls := findClass_of_methodNamed B.named
  have hlocks := B.notSynchronized
  have hb0 : b ≤ s.heap.size := by rw [hP.2.2.2]; exact Nat.le_add_right _ _
  have hS : va_S (xA b hole) s.heap s.heap [] := va_S.rf
  have hl := lv_entry ([.ref (b + 80), .int p1]) (n := 2) (Nat.le_of_ble_eq_true rfl)
  rw [lg_entry_eq]
  generalize (lg_sl ([.ref (b + 80), .int p1]) ++ List.replicate (2 - (lg_sl ([.ref (b + 80), .int p1])).length) Slot.unset).toArray = ls at hl ⊢
  have hl : lv_has ls 2 [(0, .ref (b + 80)), (1, .int p1)] := hl
  unfold wx4_must at h
  refine lv_iload_n hx hb dX4_must_0 rfl (lv_at hl 1 rfl) ?_
  refine lv_if_ne (tgt := 10) hx hb dX4_must_1 (by decide) (fun c_4 => ?_) (fun c_4 => ?_)
  · have h := h.1 c_4
    refine vx_ret ?_
    exact W.vret hx hb hr (fun t ht hW => ⟨⟨(), T, K, rfl, ⟨h, rfl⟩, kle.rf, rfl, rfl, by rw [ht]; exact hP, va_K.moved hW.alike hK⟩, hS.F ht⟩) hS.2.2 dX4_must_10
  · have h := h.2 c_4
    refine lv_aload_n hx hb dX4_must_4 rfl (lv_at hl 0 rfl) ?_
    refine lv_iconst (v := 1) hx hb dX4_must_5 (by decide) ?_
    refine x_cV (k := 80) (As := [.int 1]) (rest := []) ⟨hx, hb, hml, hown, hts⟩ (mx4_fail l G b hole 1 K T  _ h) (cwV 1 hts (lw_V q598 q600 qs10 q121 q601) rfl rfl rfl cwx_X4_fail ⟨Nat.le_of_ble_eq_true rfl, Nat.le_of_ble_eq_true rfl⟩) (x_recv (CC := RX4) (ci := 3) hK hP (xs_80 hP) (by decide) (by decide) rfl (xE_11 (xs_80 hP))) hK hV hb0 hP hS rfl hl.1 rfl (Nat.le_of_ble_eq_true rfl) dX4_must_6 ⟨by first | exact Nat.zero_le _ | (show _ + _ ≤ Z - kc K0; omega), by first | exact Nat.zero_le _ | (show _ + _ ≤ Y - ks K0; omega)⟩ (fun r_1 T1 K1 H locs h hle1 hc1 hs1 hP hS => ?_)
    obtain ⟨h, hk_r_1, hKe⟩ := h
    rw [hKe] at hP
    generalize T1 = T_2 at h hP
    rw [hKe] at hk_r_1
    obtain ⟨hq9, h⟩ := h
    rw [hq9]
    refine vx_athrow hx hb dX4_must_9 ?_
    exact x_out (K0 := K) (K1 := K) (mc := 0) (ms := 0) (fun x h9 => (ht9 x h9).elim) hlocks hK hP hS kle.rf ⟨h, rfl⟩ rfl rfl (Nat.le_refl _) (Nat.le_refl _)
theorem cwx_X4_good : yX4_good.cls = RX4 ∧ yX4_good.cls ≠ "java/lang/invoke/MethodHandle" ∧ yX4_good.cls ≠ "java/lang/invoke/VarHandle" ∧ (parseMethodDescriptor yX4_good.desc).map (fun d => d.parameters.length) = some 2 := by decide +kernel
def wx4_good (p1 : Int32) (p2 : Int32) (K : XK) (T : XT) (post : XT → Prop) (xpost : XT → Prop) : Prop :=
  ((¬ p1 = 0 →
    post T) ∧
   (p1 = 0 →
    wx4_fail p2 K T (fun r_1 T_2 =>
    r_1 = 81 ∧ xpost T_2)))
set_option maxHeartbeats 4000000 in
theorem mx4_good (l : Launch) (G : XG) (b : Nat) (hole : Nat → Prop) (p1 : Int32) (p2 : Int32) (K : XK) (T : XT)  (post : XT → Prop) (xpost : XT → Prop) (h : wx4_good p1 p2 K T post xpost) : vx_Met l yX4_good (ws_ yX4_good cX4_good 3 none) ({ frames := 2, cells := 0, slots := 0, locals := 43 } : Room) (xPc G b hole [.ref (b + 80), .int p1, .int p2] K T) (xQ G b hole K 0 0 (ρ := Unit) eV (fun r T1 K1 => post T1 ∧ K1 = K)) (xXC G b hole K 0 0 (fun T1 K1 => xpost T1 ∧ K1 = K)) 0 0 (xA b hole) := by
  refine vx_ofW (cc := cX4_good) (maxL := 3) (ret := none) (by decide) rfl ?_
  intro p e s m args below meth c s₁ B hml ht9 hv
  obtain ⟨rfl, hP, hK, hV⟩ := hv
  have hx := B.exec
  have hb := B.bytes
  have hr := B.returns
  have hts := atoms_spec (ws := ws_ yX4_good cX4_good 3 none) B.pre
  have hts : ∀ w ∈ lw_all, w.before _ s = true := fun w h => hts w (List.mem_cons_of_mem _ h)
  have hown : s.vm.findClass RX4 = some m.cls := findClass_of_methodNamed B.named
  have hlocks := B.notSynchronized
  have hb0 : b ≤ s.heap.size := by rw [hP.2.2.2]; exact Nat.le_add_right _ _
  have hS : va_S (xA b hole) s.heap s.heap [] := va_S.rf
  have hl := lv_entry ([.ref (b + 80), .int p1, .int p2]) (n := 3) (Nat.le_of_ble_eq_true rfl)
  rw [lg_entry_eq]
  generalize (lg_sl ([.ref (b + 80), .int p1, .int p2]) ++ List.replicate (3 - (lg_sl ([.ref (b + 80), .int p1, .int p2])).length) Slot.unset).toArray = ls at hl ⊢
  have hl : lv_has ls 3 [(0, .ref (b + 80)), (1, .int p1), (2, .int p2)] := hl
  unfold wx4_good at h
  refine lv_iload_n hx hb dX4_good_0 rfl (lv_at hl 1 rfl) ?_
  refine lv_if_ne (tgt := 10) hx hb dX4_good_1 (by decide) (fun c_4 => ?_) (fun c_4 => ?_)
  · have h := h.1 c_4
    refine vx_ret ?_
    exact W.vret hx hb hr (fun t ht hW => ⟨⟨(), T, K, rfl, ⟨h, rfl⟩, kle.rf, rfl, rfl, by rw [ht]; exact hP, va_K.moved hW.alike hK⟩, hS.F ht⟩) hS.2.2 dX4_good_10
  · have h := h.2 c_4
    refine lv_aload_n hx hb dX4_good_4 rfl (lv_at hl 0 rfl) ?_
    refine lv_iload_n hx hb dX4_good_5 rfl (lv_at hl 2 rfl) ?_
    refine x_cV (k := 80) (As := [.int p2]) (rest := []) ⟨hx, hb, hml, hown, hts⟩ (mx4_fail l G b hole p2 K T  _ h) (cwV 1 hts (lw_V q598 q600 qs10 q121 q601) rfl rfl rfl cwx_X4_fail ⟨Nat.le_of_ble_eq_true rfl, Nat.le_of_ble_eq_true rfl⟩) (x_recv (CC := RX4) (ci := 3) hK hP (xs_80 hP) (by decide) (by decide) rfl (xE_11 (xs_80 hP))) hK hV hb0 hP hS rfl hl.1 rfl (Nat.le_of_ble_eq_true rfl) dX4_good_6 ⟨by first | exact Nat.zero_le _ | (show _ + _ ≤ Z - kc K0; omega), by first | exact Nat.zero_le _ | (show _ + _ ≤ Y - ks K0; omega)⟩ (fun r_1 T1 K1 H locs h hle1 hc1 hs1 hP hS => ?_)
    obtain ⟨h, hk_r_1, hKe⟩ := h
    rw [hKe] at hP
    generalize T1 = T_2 at h hP
    rw [hKe] at hk_r_1
    obtain ⟨hq9, h⟩ := h
    rw [hq9]
    refine vx_athrow hx hb dX4_good_9 ?_
    exact x_out (K0 := K) (K1 := K) (mc := 0) (ms := 0) (fun x h9 => (ht9 x h9).elim) hlocks hK hP hS kle.rf ⟨h, rfl⟩ rfl rfl (Nat.le_refl _) (Nat.le_refl _)
