set_option maxRecDepth 100000
/-! constructors: what is thrown -/
def cthr : va_E := .inr (4, [.null, .null, .null, .null, .null, .int 0, .int 0, .int 0])
/-- the two statics of Throwable -/
def xth (b : Nat) (U : State) : Prop := (∃ t : Nat, va_Z RJ0 "UNASSIGNED_STACK" "[Ljava/lang/StackTraceElement;" (.ref t) (cA b) U U.heap) ∧ ∃ t : Nat, va_Z RJ0 "SUPPRESSED_SENTINEL" "Ljava/util/List;" (.ref t) (cA b) U U.heap
set_option maxHeartbeats 4000000 in
theorem ci_thr (l : Launch) (G : XG) (D : va_G) (b n k : Nat) (E : Nat → va_E) (X : State → Prop) (hk : k < n) (hE : E k = cthr) (hT : ∀ U, X U → xth b U) : Met l yJ0_init_2 (ws_ yJ0_init_2 cJ0_init_2 5 none) ({ frames := 1, cells := 0, slots := 0, locals := 60 } : Room) (va_Pc [.ref (b + k), .null, .null, .int 0, .int 0] (cP D ycl (xKt G) b n E X)) (cQ D ycl (xKt G) b (n) (E)) (0) (0) (cA b) := by
  refine Met.ofW (cc := cJ0_init_2) (maxL := 5) (ret := none) (by decide) rfl ?_
  intro p e s m args below meth c s₁ B hml hv
  obtain ⟨rfl, hP, hK, hXs⟩ := hv
  have hx := B.exec
  have hb := B.bytes
  have hr := B.returns
  have hts := atoms_spec (ws := ws_ yJ0_init_2 cJ0_init_2 5 none) B.pre
  have hts : ∀ w ∈ lw_all, w.before _ s = true := fun w h => hts w (List.mem_cons_of_mem _ h)
  have hown : s.vm.findClass RJ0 = some m.cls := findClass_of_methodNamed B.named
  have hin : meth.name = "<init>" := (name_of_methodNamed B.named B.method).1
  have hcI : s.vm.findClass "[I" = some (G.2.1 1) := (hK.2 0 _ rfl).2
  have hS : va_S (cA b) s.heap s.heap [] := va_S.rf
  have hl := lv_entry ([.ref (b + k), .null, .null, .int 0, .int 0]) (n := 5) (Nat.le_of_ble_eq_true rfl)
  rw [lg_entry_eq]
  generalize (lg_sl ([.ref (b + k), .null, .null, .int 0, .int 0]) ++ List.replicate (5 - (lg_sl ([.ref (b + k), .null, .null, .int 0, .int 0])).length) Slot.unset).toArray = ls at hl ⊢
  have hl : lv_has ls 5 [(0, .ref (b + k)), (1, .null), (2, .null), (3, .int 0), (4, .int 0)] := hl
  obtain ⟨⟨t1, hz1⟩, t2, hz2⟩ := hT s hXs
  refine lv_aload_n hx hb dJ0_init_2_0 rfl (lv_at hl 0 rfl) ?_
  refine W.objInit hx hb hown (hts _ q246) (hts _ q145) (hts _ q146) rfl (by rw [hml]; exact hl.1) rfl dJ0_init_2_1 (Nat.le_of_ble_eq_true rfl) (Nat.le_of_ble_eq_true rfl) ?_
  refine W.eq (g2 := F0 m 4 ls []) rfl ?_
  refine lv_aload_n hx hb dJ0_init_2_4 rfl (lv_at hl 0 rfl) ?_
  refine lv_aload_n hx hb dJ0_init_2_5 rfl (lv_at hl 0 rfl) ?_
  refine c_put (CC := RX5) (TT := TX5) (N := 8) (ci := 4) (k := k) (v := .ref (b + k)) (fs := [.null, .null, .null, .null, .null, .int 0, .int 0, .int 0]) hx hb hts in_X5 tyX5 tyX5_ok nmX5 hown hK hP hS hk rfl (hE) rfl 0 (by decide) q279 rfl (Or.inl rfl) rfl rfl rfl dJ0_init_2_6 (fun H locs hP hS => ?_)
  refine lv_aload_n hx hb dJ0_init_2_9 rfl (lv_at hl 0 rfl) ?_
  refine va_gets hx hb hz1 hS hown (hts _ q247) (fun x h => h) dJ0_init_2_10 ?_
  refine c_put (CC := RX5) (TT := TX5) (N := 8) (ci := 4) (k := k) (v := .ref t1) (fs := [.ref (b + k), .null, .null, .null, .null, .int 0, .int 0, .int 0]) hx hb hts in_X5 tyX5 tyX5_ok nmX5 hown hK hP hS hk rfl (if_pos rfl) rfl 1 (by decide) q280 rfl (Or.inl rfl) rfl rfl rfl dJ0_init_2_13 (fun H locs hP hS => ?_)
  refine lv_aload_n hx hb dJ0_init_2_16 rfl (lv_at hl 0 rfl) ?_
  refine va_gets hx hb hz2 hS hown (hts _ q249) (fun x h => h) dJ0_init_2_17 ?_
  refine c_put (CC := RX5) (TT := TX5) (N := 8) (ci := 4) (k := k) (v := .ref t2) (fs := [.ref (b + k), .ref t1, .null, .null, .null, .int 0, .int 0, .int 0]) hx hb hts in_X5 tyX5 tyX5_ok nmX5 hown hK hP hS hk rfl (if_pos rfl) rfl 2 (by decide) q281 rfl (Or.inl rfl) rfl rfl rfl dJ0_init_2_20 (fun H locs hP hS => ?_)
  refine lv_iload hx hb dJ0_init_2_23 (lv_at hl 4 rfl) ?_
  refine lv_if_eq (tgt := 36) hx hb dJ0_init_2_25 (by decide) (fun _ => ?_) (fun c => absurd rfl c)
  refine lv_aload_n hx hb dJ0_init_2_36 rfl (lv_at hl 0 rfl) ?_
  refine lv_null hx hb dJ0_init_2_37 ?_
  refine c_put (CC := RX5) (TT := TX5) (N := 8) (ci := 4) (k := k) (v := .null) (fs := [.ref (b + k), .ref t1, .ref t2, .null, .null, .int 0, .int 0, .int 0]) hx hb hts in_X5 tyX5 tyX5_ok nmX5 hown hK hP hS hk rfl (if_pos rfl) rfl 1 (by decide) q280 rfl (Or.inl rfl) rfl rfl rfl dJ0_init_2_38 (fun H locs hP hS => ?_)
  refine lv_aload_n hx hb dJ0_init_2_41 rfl (lv_at hl 0 rfl) ?_
  refine x_aload_n (b := b) (r := none) hx hb dJ0_init_2_42 rfl (lv_at hl 1 rfl) ?_
  refine c_put (CC := RX5) (TT := TX5) (N := 8) (ci := 4) (k := k) (v := .null) (fs := [.ref (b + k), .null, .ref t2, .null, .null, .int 0, .int 0, .int 0]) hx hb hts in_X5 tyX5 tyX5_ok nmX5 hown hK hP hS hk rfl (if_pos rfl) rfl 3 (by decide) q278 rfl (Or.inl rfl) rfl rfl rfl dJ0_init_2_43 (fun H locs hP hS => ?_)
  refine lv_aload_n hx hb dJ0_init_2_46 rfl (lv_at hl 0 rfl) ?_
  refine x_aload_n (b := b) (r := none) hx hb dJ0_init_2_47 rfl (lv_at hl 2 rfl) ?_
  refine c_put (CC := RX5) (TT := TX5) (N := 8) (ci := 4) (k := k) (v := .null) (fs := [.ref (b + k), .null, .ref t2, .null, .null, .int 0, .int 0, .int 0]) hx hb hts in_X5 tyX5 tyX5_ok nmX5 hown hK hP hS hk rfl (if_pos rfl) rfl 0 (by decide) q279 rfl (Or.inl rfl) rfl rfl rfl dJ0_init_2_48 (fun H locs hP hS => ?_)
  refine lv_iload_n hx hb dJ0_init_2_51 rfl (lv_at hl 3 rfl) ?_
  refine lv_if_ne (tgt := 60) hx hb dJ0_init_2_52 (by decide) (fun c => absurd rfl c) (fun _ => ?_)
  refine lv_aload_n hx hb dJ0_init_2_55 rfl (lv_at hl 0 rfl) ?_
  refine lv_null hx hb dJ0_init_2_56 ?_
  refine c_put (CC := RX5) (TT := TX5) (N := 8) (ci := 4) (k := k) (v := .null) (fs := [.null, .null, .ref t2, .null, .null, .int 0, .int 0, .int 0]) hx hb hts in_X5 tyX5 tyX5_ok nmX5 hown hK hP hS hk rfl (if_pos rfl) rfl 2 (by decide) q281 rfl (Or.inl rfl) rfl rfl rfl dJ0_init_2_57 (fun H locs hP hS => ?_)
  have hP : cW D ycl b n E H := hP.cg (fun j hj => by
    unfold cset
    by_cases h1 : j = k
    · simp only [if_pos h1]; rw [h1, hE]; rfl
    · simp only [if_neg h1])
  exact W.vret hx hb hr (fun t ht hW => ⟨rfl, ⟨by rw [ht]; exact hP, va_K.moved hW.alike hK⟩, hS.F ht⟩) hS.2.2 dJ0_init_2_60
