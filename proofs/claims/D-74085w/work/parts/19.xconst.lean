set_option maxRecDepth 100000
abbrev xNL : List Cond := vx_at0 "TermDesk" 432 "java/util/NoSuchElementException" ["java/lang/RuntimeException", "java/lang/Exception"]
def dcN (n : String) : Cond := .declares ⟨n, "<init>", "()V"⟩
def xDc (U : State) : Prop := va_Nw (dcN "java/lang/RuntimeException") U ∧ va_Nw (dcN "java/lang/Exception") U ∧ va_Nw (dcN "java/lang/Throwable") U
theorem xDc.same {s U : State} (hv : s.vm = U.vm) (h : xDc s) : xDc U := ⟨va_Nw.same rfl hv h.1, va_Nw.same rfl hv h.2.1, va_Nw.same rfl hv h.2.2⟩
abbrev xPcD (G : XG) (b : Nat) (hole : Nat → Prop) (av : List Value) (K : XK) (T : XT) : Array Value → State → Prop := va_Pc av (fun U => xB G b hole K T U ∧ xDc U)
def kgap (K : XK) (n : Nat) : XK := (kd K, kl K, kz K + n, kc K + 1, ks K + 6)
theorem xW.gap {G : XG} {b : Nat} {hole : Nat → Prop} {K : XK} {T : XT} {H H1 : Heap} (h : xW G b hole K T H) (hz : H.size ≤ H1.size) (ho : ∀ q : Nat, q < H.size → H1[q]? = H[q]?) : xW G b hole (kgap K (H1.size - H.size)) T H1 := by
  obtain ⟨h1, h2, ⟨w1, w2, w3, w4, w5⟩, h4⟩ := h
  refine ⟨fun k => ?_, h2, ⟨w1, fun k hk => ⟨Nat.lt_of_lt_of_le (w2 k hk).1 (Nat.le_add_right _ _), (w2 k hk).2⟩, fun k hk => Nat.lt_of_lt_of_le (w3 k hk) (Nat.le_add_right _ _), w4, w5⟩, ?_⟩
  · by_cases hk0 : kd K k = 0
    · exact ⟨fun a _ => absurd hk0 a, fun a => by have a : kd K k = 16 := a; rw [hk0] at a; cases a⟩
    · exact xat_cg (h1 k) rfl rfl rfl rfl (ho _ (by have := (w2 k hk0).1; omega))
  · show H1.size = b + (kz K + (H1.size - H.size))
    omega
def xNC (G : XG) (b : Nat) (hole : Nat → Prop) (K : XK) (T : XT) (xp : Prop) : String → Addr → State → State → Prop := fun E _ st t => E = "java/util/NoSuchElementException" ∧ xp ∧ (∃ n : Nat, xW G b hole (kgap K n) T t.heap) ∧ va_K G.1 xcl (xKt G) t ∧ va_F (xA b hole) st t
theorem xN_good : ∀ w ∈ Cond.classLink "TermDesk" 430 "java/util/NoSuchElementException" :: Cond.initialized "java/util/NoSuchElementException" :: xNL, vx_ot w = true := by decide +kernel
theorem xN_in : ∀ w ∈ xNL.filter goodWord, w ∈ lw_all := lw_in _ [122, 243, 252, 255, 258, 260, 244, 245, 145, 146, 246, 251, 256, 279, 233, 280, 235, 281, 237, 247, 249, 239, 1191, 1192, 1193, 1194, 1194, 1195, 1196, 1197, 1197, 1198, 1199, 244, 1190, 1182, 1184, 254, 1185, 1186, 1187, 1188, 277, 241, 1189] (by decide +kernel) (by decide +kernel)
theorem xN_bad : ∀ w ∈ xNL.filter (fun w => !goodWord w), w ∈ [Cond.castable "java/util/NoSuchElementException" "java/util/NoSuchElementException", dcN "java/lang/RuntimeException", dcN "java/lang/Exception", dcN "java/lang/Throwable"] := by decide +kernel
theorem xN_at {G : XG} {b : Nat} {s : State} {H0 : Heap} {args : Array Value} (hts : ∀ w ∈ lw_all, w.before args s = true) (hV : xV G b s H0) (hD : xDc s) : ∀ w ∈ xNL, w.before args s = true := vx_hat (fun w hw => hts w (xN_in w hw)) xN_bad (vx_c (va_Nw.use rfl (hV.1.2.2 _ _ q1183)) (vx_c (va_Nw.use rfl hD.1) (vx_c (va_Nw.use rfl hD.2.1) (vx_c (va_Nw.use rfl hD.2.2) vx_n))))
set_option maxRecDepth 100000
theorem cwx_X1_constant : yX1_constant.cls = RX1 ∧ yX1_constant.cls ≠ "java/lang/invoke/MethodHandle" ∧ yX1_constant.cls ≠ "java/lang/invoke/VarHandle" ∧ (parseMethodDescriptor yX1_constant.desc).map (fun d => d.parameters.length) = some 1 := by decide +kernel
def wx1_constant_j63 (p1 : Int32) (post : Int32 → Prop) (xpost : Prop)  (K : XK) (T : XT) : Prop :=
    xpost
def wx1_constant_j57 (p1 : Int32) (post : Int32 → Prop) (xpost : Prop) (R4 : Int32 → Int32 → Prop) (x2 : Int32) (x3 : Int32) (K : XK) (T : XT) : Prop :=
        ∀ x3_1 : Int32, x3_1 = x3 + 1 →
        R4 x2 x3_1
def wx1_constant_b4 (p1 : Int32) (post : Int32 → Prop) (xpost : Prop) (R4 : Int32 → Int32 → Prop)  (x2 : Int32) (x3 : Int32) (K : XK) (T : XT) : Prop :=
      (((xi T 0 21) = 0 →
        wx1_constant_j63 p1 post xpost  K T) ∧
       (¬ ((xi T 0 21) = 0) →
        ((8 ≤ x3 →
          wx1_constant_j63 p1 post xpost  K T) ∧
         (¬ (8 ≤ x3) →
          ∃ v_2 : Nat, xr T 0 18 = some v_2 ∧
          ∃ j_3 : Nat, j_3 < kl K v_2 ∧ x3 = nI j_3 ∧ ∃ v_4 : Nat, xr T v_2 j_3 = some v_4 ∧
          ((¬ (xi T v_4 2) = 1 →
            wx1_constant_j57 p1 post xpost R4 x2 x3 K T) ∧
           ((xi T v_4 2) = 1 →
            ∃ v_5 : Nat, xr T 0 18 = some v_5 ∧
            ∃ j_6 : Nat, j_6 < kl K v_5 ∧ x3 = nI j_6 ∧ ∃ v_7 : Nat, xr T v_5 j_6 = some v_7 ∧
            ∃ v_8 : Nat, xr T v_7 0 = some v_8 ∧
            ∃ j_9 : Nat, j_9 < kl K v_8 ∧ 0 = nI j_9 ∧
            (((xi T v_8 j_9) = 0 →
              ((¬ x2 = p1 →
                ∀ x2_10 : Int32, x2_10 = x2 + 1 →
                wx1_constant_j57 p1 post xpost R4 x2_10 x3 K T) ∧
               (x2 = p1 →
                post x3))) ∧
             (¬ ((xi T v_8 j_9) = 0) →
              wx1_constant_j57 p1 post xpost R4 x2 x3 K T))))))))
def wx1_constant_l4 (p1 : Int32) (post : Int32 → Prop) (xpost : Prop)  (x2 : Int32) (x3 : Int32) (K : XK) (T : XT) : Prop := wLoop (fun (R : ((Int32) × (Int32)) → Prop) (v : (Int32) × (Int32)) => wx1_constant_b4 p1 post xpost (fun x2 x3 => R (x2, x3))  v.1 v.2 K T) (x2, x3)
def wx1_constant (p1 : Int32) (K : XK) (T : XT) (post : Int32 → Prop) (xpost : Prop) : Prop :=
  wx1_constant_l4 p1 post xpost 0 0 K T
set_option maxHeartbeats 4000000 in
theorem mx1_constant (l : Launch) (hst : l.stackTraces = false) (G : XG) (b : Nat) (hole : Nat → Prop) (p1 : Int32) (K : XK) (T : XT)  (post : Int32 → Prop) (xpost : Prop) (h : wx1_constant p1 K T post xpost) : vx_Met l yX1_constant (ws_ yX1_constant cX1_constant 4 (some .int)) ({ frames := 8, cells := 1, slots := 6, locals := 200 } : Room) (xPcD G b hole [.ref (b + 0), .int p1] K T) (xQ G b hole K 0 0 (ρ := Int32) eI (fun r T1 K1 => post r ∧ T1 = T ∧ K1 = K)) (xNC G b hole K T xpost) 1 6 (xA b hole) := by
  refine vx_ofW (cc := cX1_constant) (maxL := 4) (ret := (some .int)) (by decide) rfl ?_
  intro p e s m args below meth c s₁ B hml ht9 hv
  obtain ⟨rfl, ⟨hP, hK, hV⟩, hD9⟩ := hv
  have hx := B.exec
  have hb := B.bytes
  have hr := B.returns
  have hts := atoms_spec (ws := ws_ yX1_constant cX1_constant 4 (some .int)) B.pre
  have hts : ∀ w ∈ lw_all, w.before _ s = true := fun w h => hts w (List.mem_cons_of_mem _ h)
  have hown : s.vm.findClass RX1 = some m.cls := findClass_of_methodNamed B.named
  have hlocks := B.notSynchronized
  have hb0 : b ≤ s.heap.size := by rw [hP.2.2.2]; exact Nat.le_add_right _ _
  have hS : va_S (xA b hole) s.heap s.heap [] := va_S.rf
  have hl := lv_entry ([.ref (b + 0), .int p1]) (n := 4) (Nat.le_of_ble_eq_true rfl)
  rw [lg_entry_eq]
  generalize (lg_sl ([.ref (b + 0), .int p1]) ++ List.replicate (4 - (lg_sl ([.ref (b + 0), .int p1])).length) Slot.unset).toArray = ls at hl ⊢
  have hl : lv_has ls 4 [(0, .ref (b + 0)), (1, .int p1)] := hl
  have J63 : ∀  (H : Heap) (locs : List Loc) (ls : Array Slot), wx1_constant_j63 p1 post xpost  K T → xW G b hole K T H → va_S (xA b hole) s.heap H locs → lv_has ls 4 [(0, .ref (b + 0))] → W p l e (headSpec (ws_ yX1_constant cX1_constant 4 (some .int)) ({ frames := 8, cells := 1, slots := 6, locals := 200 } : Room)).room s m ([.ref (b + 0), .int p1] : List Value).toArray below meth c H locs 0 0 (vx_MQ below (xQ G b hole K 0 0 (ρ := Int32) eI (fun r T1 K1 => post r ∧ T1 = T ∧ K1 = K)) (xNC G b hole K T xpost) ([.ref (b + 0), .int p1] : List Value).toArray s 1 6 (xA b hole)) (F0 m 63 ls []) := by
    intro  H locs ls h hP hS hl
    unfold wx1_constant_j63 at h
    exact vx_throw0 (names := ["java/lang/RuntimeException", "java/lang/Exception"]) (cls := "java/util/NoSuchElementException") (A := sA (gz G)) hx hb hst hown (by decide +kernel) (by decide +kernel) (hts _ q1181) (hts _ q138) (xN_at hts hV hD9) xN_good hV.2.2.2.1.2.2.2.2.2.2.1 hV.2.2.2.1.2.2.2.2.2.2.2 (x_sS hV hS) (hl.1.trans hml.symm) dX1_constant_63 dX1_constant_66 dX1_constant_67 dX1_constant_70 (fun x h9 => (ht9 x h9).elim) (by decide) (by decide) (Nat.le_refl _) (Nat.le_refl _) hlocks (fun q9 t hA9 hz9 hq9 => ⟨rfl, h, ⟨_, hP.gap hz9 hq9⟩, va_K.moved hA9 hK, Nat.le_trans hS.1 hz9, fun q h1 h2 => (hq9 q (Nat.lt_of_lt_of_le h1 hS.1)).trans (hS.2.1 q h1 h2)⟩) hS.2.2 (Nat.le_refl _) (Nat.le_refl _)
  have L4 : ∀ (x2 : Int32) (x3 : Int32) (H : Heap) (locs : List Loc) (ls : Array Slot), wx1_constant_l4 p1 post xpost  x2 x3 K T → xW G b hole K T H → va_S (xA b hole) s.heap H locs → lv_has ls 4 [(0, .ref (b + 0)), (1, .int p1), (2, .int x2), (3, .int x3)] → W p l e (headSpec (ws_ yX1_constant cX1_constant 4 (some .int)) ({ frames := 8, cells := 1, slots := 6, locals := 200 } : Room)).room s m ([.ref (b + 0), .int p1] : List Value).toArray below meth c H locs 0 0 (vx_MQ below (xQ G b hole K 0 0 (ρ := Int32) eI (fun r T1 K1 => post r ∧ T1 = T ∧ K1 = K)) (xNC G b hole K T xpost) ([.ref (b + 0), .int p1] : List Value).toArray s 1 6 (xA b hole)) (F0 m 4 ls []) := by
    intro x2 x3 H locs ls h hP hS hl
    obtain ⟨I4, n4, hI, hstep4⟩ := h
    induction n4 using Nat.strongRecOn generalizing x2 x3 H locs ls with
    | ind n4 ih4 =>
      have h : wx1_constant_b4 p1 post xpost (fun x2 x3 => ∃ mm, mm < n4 ∧ I4 mm (x2, x3))  x2 x3 K T := hstep4 n4 _ hI
      clear hI
      have J57 : ∀ (x2 : Int32) (x3 : Int32) (H : Heap) (locs : List Loc) (ls : Array Slot), wx1_constant_j57 p1 post xpost (fun x2 x3 => ∃ mm, mm < n4 ∧ I4 mm (x2, x3)) x2 x3 K T → xW G b hole K T H → va_S (xA b hole) s.heap H locs → lv_has ls 4 [(0, .ref (b + 0)), (1, .int p1), (2, .int x2), (3, .int x3)] → W p l e (headSpec (ws_ yX1_constant cX1_constant 4 (some .int)) ({ frames := 8, cells := 1, slots := 6, locals := 200 } : Room)).room s m ([.ref (b + 0), .int p1] : List Value).toArray below meth c H locs 0 0 (vx_MQ below (xQ G b hole K 0 0 (ρ := Int32) eI (fun r T1 K1 => post r ∧ T1 = T ∧ K1 = K)) (xNC G b hole K T xpost) ([.ref (b + 0), .int p1] : List Value).toArray s 1 6 (xA b hole)) (F0 m 57 ls []) := by
        intro x2 x3 H locs ls h hP hS hl
        unfold wx1_constant_j57 at h
        obtain ⟨x3_1, ex3_1⟩ : ∃ y : Int32, y = x3 + 1 := ⟨_, rfl⟩
        have h := h x3_1 ex3_1
        refine lv_iinc (v := x3_1) (lv' := [(3, .int x3_1), (0, .ref (b + 0)), (1, .int p1), (2, .int x2)]) hx hb dX1_constant_57 hl (k := 3) rfl (by rw [ex3_1]; rfl) (by decide) rfl (fun ls hl => ?_)
        refine lv_goto (tgt := 4) hx hb dX1_constant_60 (by decide) ?_
        obtain ⟨mm, hmm, h⟩ := h
        exact ih4 mm hmm _ _ _ _ _  hP hS (lv_sub hl [1, 2, 3, 0] rfl) h
      unfold wx1_constant_b4 at h
      refine lv_aload_n hx hb dX1_constant_4 rfl (lv_at hl 0 rfl) ?_
      refine x_get (CC := RX1) (TT := TX1) (N := 26) (ci := 0) (v := .int (xi T 0 21)) hx hb hts in_X1 hown hK hP (xs_0 hP) (by decide) (by decide) rfl (xE_8 (xs_0 hP)) 21 (by decide) q408 rfl rfl dX1_constant_5 ?_
      refine lv_if_eq (tgt := 63) hx hb dX1_constant_8 (by decide) (fun c_15 => ?_) (fun c_15 => ?_)
      · have h := h.1 c_15
        exact J63  _ _ _ h  hP hS (lv_sub hl [0] rfl)
      · have h := h.2 c_15
        refine lv_iload_n hx hb dX1_constant_11 rfl (lv_at hl 3 rfl) ?_
        refine lv_bipush (v := 8) hx hb dX1_constant_12 (by decide) ?_
        refine lv_icmp_ge (tgt := 63) hx hb dX1_constant_14 (by decide) (fun c_14 => ?_) (fun c_14 => ?_)
        · have h := h.1 c_14
          exact J63  _ _ _ h  hP hS (lv_sub hl [0] rfl)
        · have h := h.2 c_14
          refine lv_aload_n hx hb dX1_constant_17 rfl (lv_at hl 0 rfl) ?_
          obtain ⟨v_2, ev_2, h⟩ := h
          refine x_get (CC := RX1) (TT := TX1) (N := 26) (ci := 0) (v := rfv b (xr T 0 18)) hx hb hts in_X1 hown hK hP (xs_0 hP) (by decide) (by decide) rfl (xE_8 (xs_0 hP)) 18 (by decide) q405 rfl rfl dX1_constant_18 ?_
          refine x_some ev_2 ?_
          have hk_v_2 : kd K v_2 = 3 := hP.ty (xs_0 hP) (by decide) ev_2
          refine lv_iload_n hx hb dX1_constant_21 rfl (lv_at hl 3 rfl) ?_
          obtain ⟨j_3, hj_3, ej_3, v_4, ev_4, h⟩ := h
          refine x_aald3 hx hb hK hP hk_v_2 ej_3 hj_3 dX1_constant_22 ?_
          refine x_some ev_4 ?_
          have hk_v_4 : kd K v_4 = 2 := hP.ty hk_v_2 (by decide) ev_4
          refine x_get (CC := RX6) (TT := TX6) (N := 3) (ci := 5) (v := .int (xi T v_4 2)) hx hb hts in_X6 hown hK hP hk_v_4 (by decide) (by decide) rfl (xE_2 hk_v_4) 2 (by decide) q372 rfl rfl dX1_constant_23 ?_
          refine lv_iconst (v := 1) hx hb dX1_constant_26 (by decide) ?_
          refine lv_icmp_ne (tgt := 57) hx hb dX1_constant_27 (by decide) (fun c_13 => ?_) (fun c_13 => ?_)
          · have h := h.1 c_13
            exact J57 _ _ _ _ _ h  hP hS (lv_sub hl [0, 1, 2, 3] rfl)
          · have h := h.2 c_13
            refine lv_aload_n hx hb dX1_constant_30 rfl (lv_at hl 0 rfl) ?_
            obtain ⟨v_5, ev_5, h⟩ := h
            refine x_get (CC := RX1) (TT := TX1) (N := 26) (ci := 0) (v := rfv b (xr T 0 18)) hx hb hts in_X1 hown hK hP (xs_0 hP) (by decide) (by decide) rfl (xE_8 (xs_0 hP)) 18 (by decide) q405 rfl rfl dX1_constant_31 ?_
            refine x_some ev_5 ?_
            have hk_v_5 : kd K v_5 = 3 := hP.ty (xs_0 hP) (by decide) ev_5
            refine lv_iload_n hx hb dX1_constant_34 rfl (lv_at hl 3 rfl) ?_
            obtain ⟨j_6, hj_6, ej_6, v_7, ev_7, h⟩ := h
            refine x_aald3 hx hb hK hP hk_v_5 ej_6 hj_6 dX1_constant_35 ?_
            refine x_some ev_7 ?_
            have hk_v_7 : kd K v_7 = 2 := hP.ty hk_v_5 (by decide) ev_7
            obtain ⟨v_8, ev_8, h⟩ := h
            refine x_get (CC := RX6) (TT := TX6) (N := 3) (ci := 5) (v := rfv b (xr T v_7 0)) hx hb hts in_X6 hown hK hP hk_v_7 (by decide) (by decide) rfl (xE_2 hk_v_7) 0 (by decide) q366 rfl rfl dX1_constant_36 ?_
            refine x_some ev_8 ?_
            have hk_v_8 : kd K v_8 = 1 := hP.ty hk_v_7 (by decide) ev_8
            refine lv_iconst (v := 0) hx hb dX1_constant_39 (by decide) ?_
            obtain ⟨j_9, hj_9, ej_9, h⟩ := h
            refine x_iald hx hb hK hP hk_v_8 ej_9 hj_9 dX1_constant_40 ?_
            refine lv_if_eq (tgt := 47) hx hb dX1_constant_41 (by decide) (fun c_12 => ?_) (fun c_12 => ?_)
            · have h := h.1 c_12
              refine lv_iload_n hx hb dX1_constant_47 rfl (lv_at hl 2 rfl) ?_
              refine lv_iload_n hx hb dX1_constant_48 rfl (lv_at hl 1 rfl) ?_
              refine lv_icmp_ne (tgt := 54) hx hb dX1_constant_49 (by decide) (fun c_11 => ?_) (fun c_11 => ?_)
              · have h := h.1 c_11
                obtain ⟨x2_10, ex2_10⟩ : ∃ y : Int32, y = x2 + 1 := ⟨_, rfl⟩
                have h := h x2_10 ex2_10
                refine lv_iinc (v := x2_10) (lv' := [(2, .int x2_10), (0, .ref (b + 0)), (1, .int p1), (3, .int x3)]) hx hb dX1_constant_54 hl (k := 2) rfl (by rw [ex2_10]; rfl) (by decide) rfl (fun ls hl => ?_)
                exact J57 _ _ _ _ _ h  hP hS (lv_sub hl [1, 2, 0, 3] rfl)
              · have h := h.2 c_11
                refine lv_iload_n hx hb dX1_constant_52 rfl (lv_at hl 3 rfl) ?_
                refine vx_ret ?_
                refine W.widen (k := 1) (n := 6) (by decide) (by decide) ?_
                exact W.iret (v := x3) hx hb hr (fun t ht hW => ⟨⟨x3, T, K, rfl, ⟨h, rfl, rfl⟩, kle.rf, rfl, rfl, by rw [ht]; exact hP, va_K.moved hW.alike hK⟩, hS.F ht⟩) hS.2.2 dX1_constant_53
            · have h := h.2 c_12
              refine lv_goto (tgt := 57) hx hb dX1_constant_44 (by decide) ?_
              exact J57 _ _ _ _ _ h  hP hS (lv_sub hl [0, 1, 2, 3] rfl)
  unfold wx1_constant at h
  refine lv_iconst (v := 0) hx hb dX1_constant_0 (by decide) ?_
  refine lv_istore_n (lv' := [(2, .int 0), (0, .ref (b + 0)), (1, .int p1)]) hx hb dX1_constant_1 rfl hl (by decide) rfl (fun ls hl => ?_)
  refine lv_iconst (v := 0) hx hb dX1_constant_2 (by decide) ?_
  refine lv_istore_n (lv' := [(3, .int 0), (2, .int 0), (0, .ref (b + 0)), (1, .int p1)]) hx hb dX1_constant_3 rfl hl (by decide) rfl (fun ls hl => ?_)
  exact L4 _ _ _ _ _ h  hP hS (lv_sub hl [2, 3, 1, 0] rfl)
