set_option maxRecDepth 100000
/-! constructors: the division -/
def Ediv (G : XG) (b : Nat) (E : Nat → va_E) : Nat → va_E := cset (Erow G b 39 38 61 (cset (cset (Erow G b 36 35 61 (cset (cset (Erow G b 33 32 61 (cset (cset (Erow G b 30 29 61 (cset (cset (Erow G b 27 26 61 (cset (cset (Erow G b 24 23 61 (cset (cset (Erow G b 21 20 61 (cset (cset (Erow G b 18 17 61 (cset (cset (Erow G b 15 14 122 (cset (cset (Erow G b 12 11 122 (cset (cset (Erow G b 9 8 61 (cset (cset (cset (cset (E) 6 (.inr (2, [.null, .null, .null, .null, .int 0, .int 0, .int 0, .int 0, .ref (b + 0)]))) 7 (.inl (G.2.1 5, 8, .inr (.inr (.inr (.inr (fun _ => none))))))) 6 (.inr (2, [.ref (b + 7), .null, .null, .null, .int 0, .int 0, .int 0, .int 0, .ref (b + 0)]))) 8 crow0)) 6 (.inr (2, [.ref (b + 7), .ref (b + 8), .null, .null, .int 0, .int 0, .int 0, .int 0, .ref (b + 0)]))) 11 crow0)) 6 (.inr (2, [.ref (b + 7), .ref (b + 8), .ref (b + 11), .null, .int 0, .int 0, .int 0, .int 0, .ref (b + 0)]))) 14 crow0)) 6 (.inr (2, [.ref (b + 7), .ref (b + 8), .ref (b + 11), .ref (b + 14), .int 0, .int 0, .int 0, .int 0, .ref (b + 0)]))) 17 crow0)) 7 (.inl (G.2.1 5, 8, .inr (.inr (.inr (.inr (va_up (fun _ => none) 0 (some (b + 17))))))))) 20 crow0)) 7 (.inl (G.2.1 5, 8, .inr (.inr (.inr (.inr (va_up (va_up (fun _ => none) 0 (some (b + 17))) 1 (some (b + 20))))))))) 23 crow0)) 7 (.inl (G.2.1 5, 8, .inr (.inr (.inr (.inr (va_up (va_up (va_up (fun _ => none) 0 (some (b + 17))) 1 (some (b + 20))) 2 (some (b + 23))))))))) 26 crow0)) 7 (.inl (G.2.1 5, 8, .inr (.inr (.inr (.inr (va_up (va_up (va_up (va_up (fun _ => none) 0 (some (b + 17))) 1 (some (b + 20))) 2 (some (b + 23))) 3 (some (b + 26))))))))) 29 crow0)) 7 (.inl (G.2.1 5, 8, .inr (.inr (.inr (.inr (va_up (va_up (va_up (va_up (va_up (fun _ => none) 0 (some (b + 17))) 1 (some (b + 20))) 2 (some (b + 23))) 3 (some (b + 26))) 4 (some (b + 29))))))))) 32 crow0)) 7 (.inl (G.2.1 5, 8, .inr (.inr (.inr (.inr (va_up (va_up (va_up (va_up (va_up (va_up (fun _ => none) 0 (some (b + 17))) 1 (some (b + 20))) 2 (some (b + 23))) 3 (some (b + 26))) 4 (some (b + 29))) 5 (some (b + 32))))))))) 35 crow0)) 7 (.inl (G.2.1 5, 8, .inr (.inr (.inr (.inr (va_up (va_up (va_up (va_up (va_up (va_up (va_up (fun _ => none) 0 (some (b + 17))) 1 (some (b + 20))) 2 (some (b + 23))) 3 (some (b + 26))) 4 (some (b + 29))) 5 (some (b + 32))) 6 (some (b + 35))))))))) 38 crow0)) 7 (.inl (G.2.1 5, 8, .inr (.inr (.inr (.inr (va_up (va_up (va_up (va_up (va_up (va_up (va_up (va_up (fun _ => none) 0 (some (b + 17))) 1 (some (b + 20))) 2 (some (b + 23))) 3 (some (b + 26))) 4 (some (b + 29))) 5 (some (b + 32))) 6 (some (b + 35))) 7 (some (b + 38))))))))
set_option maxHeartbeats 4000000 in
theorem ci_div (l : Launch) (G : XG) (D : va_G) (b : Nat) (E : Nat → va_E) (X : State → Prop) (hX : stb b X) (hRow : ∀ U, X U → va_AO "TermDesk$Row" U) (hE : E 6 = .inr (2, [.null, .null, .null, .null, .int 0, .int 0, .int 0, .int 0, .null])) : Met l yX3_init (ws_ yX3_init cX3_init 3 none) ({ frames := 2, cells := 34, slots := 1627, locals := 95 } : Room) (va_Pc [.ref (b + 6), .ref (b + 0)] (cP D ycl (xKt G) b 7 E X)) (cQ D ycl (xKt G) b (41) (Ediv G b E)) (34) (1627) (cA b) := by
  refine Met.ofW (cc := cX3_init) (maxL := 3) (ret := none) (by decide) rfl ?_
  intro p e s m args below meth c s₁ B hml hv
  obtain ⟨rfl, hP, hK, hXs⟩ := hv
  have hx := B.exec
  have hb := B.bytes
  have hr := B.returns
  have hts := atoms_spec (ws := ws_ yX3_init cX3_init 3 none) B.pre
  have hts : ∀ w ∈ lw_all, w.before _ s = true := fun w h => hts w (List.mem_cons_of_mem _ h)
  have hown : s.vm.findClass RX3 = some m.cls := findClass_of_methodNamed B.named
  have hin : meth.name = "<init>" := (name_of_methodNamed B.named B.method).1
  have hcI : s.vm.findClass "[I" = some (G.2.1 1) := (hK.2 0 _ rfl).2
  have hS : va_S (cA b) s.heap s.heap [] := va_S.rf
  have hl := lv_entry ([.ref (b + 6), .ref (b + 0)]) (n := 3) (Nat.le_of_ble_eq_true rfl)
  rw [lg_entry_eq]
  generalize (lg_sl ([.ref (b + 6), .ref (b + 0)]) ++ List.replicate (3 - (lg_sl ([.ref (b + 6), .ref (b + 0)])).length) Slot.unset).toArray = ls at hl ⊢
  have hl : lv_has ls 3 [(0, .ref (b + 6)), (1, .ref (b + 0))] := hl
  refine lv_aload_n hx hb dX3_init_0 rfl (lv_at hl 0 rfl) ?_
  refine lv_aload_n hx hb dX3_init_1 rfl (lv_at hl 1 rfl) ?_
  refine c_put (CC := RX3) (TT := TX3) (N := 9) (ci := 2) (k := 6) (v := .ref (b + 0)) (fs := [.null, .null, .null, .null, .int 0, .int 0, .int 0, .int 0, .null]) hx hb hts in_X3 tyX3 tyX3_ok nmX3 hown hK hP hS (by decide) rfl (hE) rfl 8 (by decide) q193 rfl (Or.inr ⟨rfl, hin, rfl⟩) rfl rfl rfl dX3_init_2 (fun H locs hP hS => ?_)
  refine lv_aload_n hx hb dX3_init_5 rfl (lv_at hl 0 rfl) ?_
  refine W.objInit hx hb hown (hts _ q176) (hts _ q145) (hts _ q146) rfl (by rw [hml]; exact hl.1) rfl dX3_init_6 (Nat.le_of_ble_eq_true rfl) (Nat.le_of_ble_eq_true rfl) ?_
  refine W.eq (g2 := F0 m 9 ls []) rfl ?_
  refine lv_aload_n hx hb dX3_init_9 rfl (lv_at hl 0 rfl) ?_
  refine lv_bipush (v := 8) hx hb dX3_init_10 (by decide) ?_
  refine c_newq (N := 8) (ti := 4) (C := "TermDesk$Row") hx hb hown (hts _ q177) (hRow s hXs) hK rfl hP hS (by decide) (by decide) (Nat.le_of_ble_eq_true rfl) (Nat.le_of_ble_eq_true rfl) dX3_init_12 (fun H hP hS => ?_)
  refine c_put (CC := RX3) (TT := TX3) (N := 9) (ci := 2) (k := 6) (v := .ref (b + 7)) (fs := [.null, .null, .null, .null, .int 0, .int 0, .int 0, .int 0, .ref (b + 0)]) hx hb hts in_X3 tyX3 tyX3_ok nmX3 hown hK hP hS (by decide) rfl (rfl) rfl 0 (by decide) q180 rfl (Or.inr ⟨rfl, hin, rfl⟩) rfl rfl rfl dX3_init_15 (fun H locs hP hS => ?_)
  refine lv_aload_n hx hb dX3_init_18 rfl (lv_at hl 0 rfl) ?_
  refine c_new (CC := RX2) (TT := TX2) (N := 3) (ci := 1) (NS := 3) (fs := [.null, .null, .int 0]) hx hb hts in_X2 tyX2 tyX2_ok hown q177 q148 q119 hK hP hS rfl (by decide) (Nat.le_of_ble_eq_true rfl) (Nat.le_of_ble_eq_true rfl) dX3_init_19 (fun H hP hS => ?_)
  refine lv_dup hx hb dX3_init_22 rfl ?_
  refine lv_bipush (v := 61) hx hb dX3_init_23 (by decide) ?_
  refine c_cI (k := 8) (As := [.int 61]) (rest := [.ref (b + 8), .ref (b + 6)]) hX hXs ⟨hx, hb, hml, hown, hts⟩ (ci_row2 l G D b 9 8 61 _ X (by decide) rfl (by decide)) (cwI 1 hts (lw_meth q154) rfl rfl rfl (hts _ q119) (hts _ q179) (hts _ q153) rfl cwx_X2_init_2 ⟨Nat.le_of_ble_eq_true rfl, Nat.le_of_ble_eq_true rfl⟩) hK hP hS rfl hl.1 rfl (Nat.le_of_ble_eq_true rfl) dX3_init_25 ⟨Nat.le_of_ble_eq_true rfl, Nat.le_of_ble_eq_true rfl⟩ (fun H locs hP hS => ?_)
  refine c_put (CC := RX3) (TT := TX3) (N := 9) (ci := 2) (k := 6) (v := .ref (b + 8)) (fs := [.ref (b + 7), .null, .null, .null, .int 0, .int 0, .int 0, .int 0, .ref (b + 0)]) hx hb hts in_X3 tyX3 tyX3_ok nmX3 hown hK hP hS (by decide) rfl (rfl) rfl 1 (by decide) q182 rfl (Or.inr ⟨rfl, hin, rfl⟩) rfl rfl rfl dX3_init_28 (fun H locs hP hS => ?_)
  refine lv_aload_n hx hb dX3_init_31 rfl (lv_at hl 0 rfl) ?_
  refine c_new (CC := RX2) (TT := TX2) (N := 3) (ci := 1) (NS := 3) (fs := [.null, .null, .int 0]) hx hb hts in_X2 tyX2 tyX2_ok hown q177 q148 q119 hK hP hS rfl (by decide) (Nat.le_of_ble_eq_true rfl) (Nat.le_of_ble_eq_true rfl) dX3_init_32 (fun H hP hS => ?_)
  refine lv_dup hx hb dX3_init_35 rfl ?_
  refine lv_bipush (v := 122) hx hb dX3_init_36 (by decide) ?_
  refine c_cI (k := 11) (As := [.int 122]) (rest := [.ref (b + 11), .ref (b + 6)]) hX hXs ⟨hx, hb, hml, hown, hts⟩ (ci_row2 l G D b 12 11 122 _ X (by decide) rfl (by decide)) (cwI 1 hts (lw_meth q154) rfl rfl rfl (hts _ q119) (hts _ q179) (hts _ q153) rfl cwx_X2_init_2 ⟨Nat.le_of_ble_eq_true rfl, Nat.le_of_ble_eq_true rfl⟩) hK hP hS rfl hl.1 rfl (Nat.le_of_ble_eq_true rfl) dX3_init_38 ⟨Nat.le_of_ble_eq_true rfl, Nat.le_of_ble_eq_true rfl⟩ (fun H locs hP hS => ?_)
  refine c_put (CC := RX3) (TT := TX3) (N := 9) (ci := 2) (k := 6) (v := .ref (b + 11)) (fs := [.ref (b + 7), .ref (b + 8), .null, .null, .int 0, .int 0, .int 0, .int 0, .ref (b + 0)]) hx hb hts in_X3 tyX3 tyX3_ok nmX3 hown hK hP hS (by decide) rfl (rfl) rfl 2 (by decide) q184 rfl (Or.inl rfl) rfl rfl rfl dX3_init_41 (fun H locs hP hS => ?_)
  refine lv_aload_n hx hb dX3_init_44 rfl (lv_at hl 0 rfl) ?_
  refine c_new (CC := RX2) (TT := TX2) (N := 3) (ci := 1) (NS := 3) (fs := [.null, .null, .int 0]) hx hb hts in_X2 tyX2 tyX2_ok hown q177 q148 q119 hK hP hS rfl (by decide) (Nat.le_of_ble_eq_true rfl) (Nat.le_of_ble_eq_true rfl) dX3_init_45 (fun H hP hS => ?_)
  refine lv_dup hx hb dX3_init_48 rfl ?_
  refine lv_bipush (v := 122) hx hb dX3_init_49 (by decide) ?_
  refine c_cI (k := 14) (As := [.int 122]) (rest := [.ref (b + 14), .ref (b + 6)]) hX hXs ⟨hx, hb, hml, hown, hts⟩ (ci_row2 l G D b 15 14 122 _ X (by decide) rfl (by decide)) (cwI 1 hts (lw_meth q154) rfl rfl rfl (hts _ q119) (hts _ q179) (hts _ q153) rfl cwx_X2_init_2 ⟨Nat.le_of_ble_eq_true rfl, Nat.le_of_ble_eq_true rfl⟩) hK hP hS rfl hl.1 rfl (Nat.le_of_ble_eq_true rfl) dX3_init_51 ⟨Nat.le_of_ble_eq_true rfl, Nat.le_of_ble_eq_true rfl⟩ (fun H locs hP hS => ?_)
  refine c_put (CC := RX3) (TT := TX3) (N := 9) (ci := 2) (k := 6) (v := .ref (b + 14)) (fs := [.ref (b + 7), .ref (b + 8), .ref (b + 11), .null, .int 0, .int 0, .int 0, .int 0, .ref (b + 0)]) hx hb hts in_X3 tyX3 tyX3_ok nmX3 hown hK hP hS (by decide) rfl (rfl) rfl 3 (by decide) q185 rfl (Or.inl rfl) rfl rfl rfl dX3_init_54 (fun H locs hP hS => ?_)
  refine lv_iconst (v := 0) hx hb dX3_init_57 (by decide) ?_
  refine lv_istore_n (lv' := [(2, .int 0), (0, .ref (b + 6)), (1, .ref (b + 0))]) hx hb dX3_init_58 rfl hl (by decide) rfl (fun ls hl => ?_)
  refine lv_iload_n hx hb dX3_init_59 rfl (lv_at hl 0 rfl) ?_
  refine lv_bipush (v := 8) hx hb dX3_init_60 (by decide) ?_
  refine lv_icmp_ge (tgt := 86) hx hb dX3_init_62 (by decide) (fun c => absurd c (by decide)) (fun _ => ?_)
  refine lv_aload_n hx hb dX3_init_65 rfl (lv_at hl 1 rfl) ?_
  refine c_get (CC := RX3) (TT := TX3) (N := 9) (ci := 2) (k := 6) (v := .ref (b + 7)) (fs := [.ref (b + 7), .ref (b + 8), .ref (b + 11), .ref (b + 14), .int 0, .int 0, .int 0, .int 0, .ref (b + 0)]) hx hb hts in_X3 hown hK hP (by decide) rfl rfl 0 (by decide) q180 rfl rfl dX3_init_66 ?_
  refine lv_iload_n hx hb dX3_init_69 rfl (lv_at hl 0 rfl) ?_
  refine c_new (CC := RX2) (TT := TX2) (N := 3) (ci := 1) (NS := 3) (fs := [.null, .null, .int 0]) hx hb hts in_X2 tyX2 tyX2_ok hown q177 q148 q119 hK hP hS rfl (by decide) (Nat.le_of_ble_eq_true rfl) (Nat.le_of_ble_eq_true rfl) dX3_init_70 (fun H hP hS => ?_)
  refine lv_dup hx hb dX3_init_73 rfl ?_
  refine lv_bipush (v := 61) hx hb dX3_init_74 (by decide) ?_
  refine c_cI (k := 17) (As := [.int 61]) (rest := [.ref (b + 17), .int 0, .ref (b + 7)]) hX hXs ⟨hx, hb, hml, hown, hts⟩ (ci_row2 l G D b 18 17 61 _ X (by decide) rfl (by decide)) (cwI 1 hts (lw_meth q154) rfl rfl rfl (hts _ q119) (hts _ q179) (hts _ q153) rfl cwx_X2_init_2 ⟨Nat.le_of_ble_eq_true rfl, Nat.le_of_ble_eq_true rfl⟩) hK hP hS rfl hl.1 rfl (Nat.le_of_ble_eq_true rfl) dX3_init_76 ⟨Nat.le_of_ble_eq_true rfl, Nat.le_of_ble_eq_true rfl⟩ (fun H locs hP hS => ?_)
  refine c_aast (k := 7) (v := 17) (ti := 4) (ci := 1) (N := 8) (j := 0) (rf := (fun _ => none)) hx hb hK hP hS (by decide) (by decide) rfl rfl rfl rfl (by decide) (by decide) (by decide) dX3_init_79 (fun H locs hP hS => ?_)
  refine lv_iinc (v := 1) (lv' := [(2, .int 1), (0, .ref (b + 6)), (1, .ref (b + 0))]) hx hb dX3_init_80 hl (k := 0) rfl (by decide) (by decide) rfl (fun ls hl => ?_)
  refine lv_goto (tgt := 59) hx hb dX3_init_83 (by decide) ?_
  refine lv_iload_n hx hb dX3_init_59 rfl (lv_at hl 0 rfl) ?_
  refine lv_bipush (v := 8) hx hb dX3_init_60 (by decide) ?_
  refine lv_icmp_ge (tgt := 86) hx hb dX3_init_62 (by decide) (fun c => absurd c (by decide)) (fun _ => ?_)
  refine lv_aload_n hx hb dX3_init_65 rfl (lv_at hl 1 rfl) ?_
  refine c_get (CC := RX3) (TT := TX3) (N := 9) (ci := 2) (k := 6) (v := .ref (b + 7)) (fs := [.ref (b + 7), .ref (b + 8), .ref (b + 11), .ref (b + 14), .int 0, .int 0, .int 0, .int 0, .ref (b + 0)]) hx hb hts in_X3 hown hK hP (by decide) rfl rfl 0 (by decide) q180 rfl rfl dX3_init_66 ?_
  refine lv_iload_n hx hb dX3_init_69 rfl (lv_at hl 0 rfl) ?_
  refine c_new (CC := RX2) (TT := TX2) (N := 3) (ci := 1) (NS := 3) (fs := [.null, .null, .int 0]) hx hb hts in_X2 tyX2 tyX2_ok hown q177 q148 q119 hK hP hS rfl (by decide) (Nat.le_of_ble_eq_true rfl) (Nat.le_of_ble_eq_true rfl) dX3_init_70 (fun H hP hS => ?_)
  refine lv_dup hx hb dX3_init_73 rfl ?_
  refine lv_bipush (v := 61) hx hb dX3_init_74 (by decide) ?_
  refine c_cI (k := 20) (As := [.int 61]) (rest := [.ref (b + 20), .int 1, .ref (b + 7)]) hX hXs ⟨hx, hb, hml, hown, hts⟩ (ci_row2 l G D b 21 20 61 _ X (by decide) rfl (by decide)) (cwI 1 hts (lw_meth q154) rfl rfl rfl (hts _ q119) (hts _ q179) (hts _ q153) rfl cwx_X2_init_2 ⟨Nat.le_of_ble_eq_true rfl, Nat.le_of_ble_eq_true rfl⟩) hK hP hS rfl hl.1 rfl (Nat.le_of_ble_eq_true rfl) dX3_init_76 ⟨Nat.le_of_ble_eq_true rfl, Nat.le_of_ble_eq_true rfl⟩ (fun H locs hP hS => ?_)
  refine c_aast (k := 7) (v := 20) (ti := 4) (ci := 1) (N := 8) (j := 1) (rf := (va_up (fun _ => none) 0 (some (b + 17)))) hx hb hK hP hS (by decide) (by decide) rfl rfl rfl rfl (by decide) (by decide) (by decide) dX3_init_79 (fun H locs hP hS => ?_)
  refine lv_iinc (v := 2) (lv' := [(2, .int 2), (0, .ref (b + 6)), (1, .ref (b + 0))]) hx hb dX3_init_80 hl (k := 0) rfl (by decide) (by decide) rfl (fun ls hl => ?_)
  refine lv_goto (tgt := 59) hx hb dX3_init_83 (by decide) ?_
  refine lv_iload_n hx hb dX3_init_59 rfl (lv_at hl 0 rfl) ?_
  refine lv_bipush (v := 8) hx hb dX3_init_60 (by decide) ?_
  refine lv_icmp_ge (tgt := 86) hx hb dX3_init_62 (by decide) (fun c => absurd c (by decide)) (fun _ => ?_)
  refine lv_aload_n hx hb dX3_init_65 rfl (lv_at hl 1 rfl) ?_
  refine c_get (CC := RX3) (TT := TX3) (N := 9) (ci := 2) (k := 6) (v := .ref (b + 7)) (fs := [.ref (b + 7), .ref (b + 8), .ref (b + 11), .ref (b + 14), .int 0, .int 0, .int 0, .int 0, .ref (b + 0)]) hx hb hts in_X3 hown hK hP (by decide) rfl rfl 0 (by decide) q180 rfl rfl dX3_init_66 ?_
  refine lv_iload_n hx hb dX3_init_69 rfl (lv_at hl 0 rfl) ?_
  refine c_new (CC := RX2) (TT := TX2) (N := 3) (ci := 1) (NS := 3) (fs := [.null, .null, .int 0]) hx hb hts in_X2 tyX2 tyX2_ok hown q177 q148 q119 hK hP hS rfl (by decide) (Nat.le_of_ble_eq_true rfl) (Nat.le_of_ble_eq_true rfl) dX3_init_70 (fun H hP hS => ?_)
  refine lv_dup hx hb dX3_init_73 rfl ?_
  refine lv_bipush (v := 61) hx hb dX3_init_74 (by decide) ?_
  refine c_cI (k := 23) (As := [.int 61]) (rest := [.ref (b + 23), .int 2, .ref (b + 7)]) hX hXs ⟨hx, hb, hml, hown, hts⟩ (ci_row2 l G D b 24 23 61 _ X (by decide) rfl (by decide)) (cwI 1 hts (lw_meth q154) rfl rfl rfl (hts _ q119) (hts _ q179) (hts _ q153) rfl cwx_X2_init_2 ⟨Nat.le_of_ble_eq_true rfl, Nat.le_of_ble_eq_true rfl⟩) hK hP hS rfl hl.1 rfl (Nat.le_of_ble_eq_true rfl) dX3_init_76 ⟨Nat.le_of_ble_eq_true rfl, Nat.le_of_ble_eq_true rfl⟩ (fun H locs hP hS => ?_)
  refine c_aast (k := 7) (v := 23) (ti := 4) (ci := 1) (N := 8) (j := 2) (rf := (va_up (va_up (fun _ => none) 0 (some (b + 17))) 1 (some (b + 20)))) hx hb hK hP hS (by decide) (by decide) rfl rfl rfl rfl (by decide) (by decide) (by decide) dX3_init_79 (fun H locs hP hS => ?_)
  refine lv_iinc (v := 3) (lv' := [(2, .int 3), (0, .ref (b + 6)), (1, .ref (b + 0))]) hx hb dX3_init_80 hl (k := 0) rfl (by decide) (by decide) rfl (fun ls hl => ?_)
  refine lv_goto (tgt := 59) hx hb dX3_init_83 (by decide) ?_
  refine lv_iload_n hx hb dX3_init_59 rfl (lv_at hl 0 rfl) ?_
  refine lv_bipush (v := 8) hx hb dX3_init_60 (by decide) ?_
  refine lv_icmp_ge (tgt := 86) hx hb dX3_init_62 (by decide) (fun c => absurd c (by decide)) (fun _ => ?_)
  refine lv_aload_n hx hb dX3_init_65 rfl (lv_at hl 1 rfl) ?_
  refine c_get (CC := RX3) (TT := TX3) (N := 9) (ci := 2) (k := 6) (v := .ref (b + 7)) (fs := [.ref (b + 7), .ref (b + 8), .ref (b + 11), .ref (b + 14), .int 0, .int 0, .int 0, .int 0, .ref (b + 0)]) hx hb hts in_X3 hown hK hP (by decide) rfl rfl 0 (by decide) q180 rfl rfl dX3_init_66 ?_
  refine lv_iload_n hx hb dX3_init_69 rfl (lv_at hl 0 rfl) ?_
  refine c_new (CC := RX2) (TT := TX2) (N := 3) (ci := 1) (NS := 3) (fs := [.null, .null, .int 0]) hx hb hts in_X2 tyX2 tyX2_ok hown q177 q148 q119 hK hP hS rfl (by decide) (Nat.le_of_ble_eq_true rfl) (Nat.le_of_ble_eq_true rfl) dX3_init_70 (fun H hP hS => ?_)
  refine lv_dup hx hb dX3_init_73 rfl ?_
  refine lv_bipush (v := 61) hx hb dX3_init_74 (by decide) ?_
  refine c_cI (k := 26) (As := [.int 61]) (rest := [.ref (b + 26), .int 3, .ref (b + 7)]) hX hXs ⟨hx, hb, hml, hown, hts⟩ (ci_row2 l G D b 27 26 61 _ X (by decide) rfl (by decide)) (cwI 1 hts (lw_meth q154) rfl rfl rfl (hts _ q119) (hts _ q179) (hts _ q153) rfl cwx_X2_init_2 ⟨Nat.le_of_ble_eq_true rfl, Nat.le_of_ble_eq_true rfl⟩) hK hP hS rfl hl.1 rfl (Nat.le_of_ble_eq_true rfl) dX3_init_76 ⟨Nat.le_of_ble_eq_true rfl, Nat.le_of_ble_eq_true rfl⟩ (fun H locs hP hS => ?_)
  refine c_aast (k := 7) (v := 26) (ti := 4) (ci := 1) (N := 8) (j := 3) (rf := (va_up (va_up (va_up (fun _ => none) 0 (some (b + 17))) 1 (some (b + 20))) 2 (some (b + 23)))) hx hb hK hP hS (by decide) (by decide) rfl rfl rfl rfl (by decide) (by decide) (by decide) dX3_init_79 (fun H locs hP hS => ?_)
  refine lv_iinc (v := 4) (lv' := [(2, .int 4), (0, .ref (b + 6)), (1, .ref (b + 0))]) hx hb dX3_init_80 hl (k := 0) rfl (by decide) (by decide) rfl (fun ls hl => ?_)
  refine lv_goto (tgt := 59) hx hb dX3_init_83 (by decide) ?_
  refine lv_iload_n hx hb dX3_init_59 rfl (lv_at hl 0 rfl) ?_
  refine lv_bipush (v := 8) hx hb dX3_init_60 (by decide) ?_
  refine lv_icmp_ge (tgt := 86) hx hb dX3_init_62 (by decide) (fun c => absurd c (by decide)) (fun _ => ?_)
  refine lv_aload_n hx hb dX3_init_65 rfl (lv_at hl 1 rfl) ?_
  refine c_get (CC := RX3) (TT := TX3) (N := 9) (ci := 2) (k := 6) (v := .ref (b + 7)) (fs := [.ref (b + 7), .ref (b + 8), .ref (b + 11), .ref (b + 14), .int 0, .int 0, .int 0, .int 0, .ref (b + 0)]) hx hb hts in_X3 hown hK hP (by decide) rfl rfl 0 (by decide) q180 rfl rfl dX3_init_66 ?_
  refine lv_iload_n hx hb dX3_init_69 rfl (lv_at hl 0 rfl) ?_
  refine c_new (CC := RX2) (TT := TX2) (N := 3) (ci := 1) (NS := 3) (fs := [.null, .null, .int 0]) hx hb hts in_X2 tyX2 tyX2_ok hown q177 q148 q119 hK hP hS rfl (by decide) (Nat.le_of_ble_eq_true rfl) (Nat.le_of_ble_eq_true rfl) dX3_init_70 (fun H hP hS => ?_)
  refine lv_dup hx hb dX3_init_73 rfl ?_
  refine lv_bipush (v := 61) hx hb dX3_init_74 (by decide) ?_
  refine c_cI (k := 29) (As := [.int 61]) (rest := [.ref (b + 29), .int 4, .ref (b + 7)]) hX hXs ⟨hx, hb, hml, hown, hts⟩ (ci_row2 l G D b 30 29 61 _ X (by decide) rfl (by decide)) (cwI 1 hts (lw_meth q154) rfl rfl rfl (hts _ q119) (hts _ q179) (hts _ q153) rfl cwx_X2_init_2 ⟨Nat.le_of_ble_eq_true rfl, Nat.le_of_ble_eq_true rfl⟩) hK hP hS rfl hl.1 rfl (Nat.le_of_ble_eq_true rfl) dX3_init_76 ⟨Nat.le_of_ble_eq_true rfl, Nat.le_of_ble_eq_true rfl⟩ (fun H locs hP hS => ?_)
  refine c_aast (k := 7) (v := 29) (ti := 4) (ci := 1) (N := 8) (j := 4) (rf := (va_up (va_up (va_up (va_up (fun _ => none) 0 (some (b + 17))) 1 (some (b + 20))) 2 (some (b + 23))) 3 (some (b + 26)))) hx hb hK hP hS (by decide) (by decide) rfl rfl rfl rfl (by decide) (by decide) (by decide) dX3_init_79 (fun H locs hP hS => ?_)
  refine lv_iinc (v := 5) (lv' := [(2, .int 5), (0, .ref (b + 6)), (1, .ref (b + 0))]) hx hb dX3_init_80 hl (k := 0) rfl (by decide) (by decide) rfl (fun ls hl => ?_)
  refine lv_goto (tgt := 59) hx hb dX3_init_83 (by decide) ?_
  refine lv_iload_n hx hb dX3_init_59 rfl (lv_at hl 0 rfl) ?_
  refine lv_bipush (v := 8) hx hb dX3_init_60 (by decide) ?_
  refine lv_icmp_ge (tgt := 86) hx hb dX3_init_62 (by decide) (fun c => absurd c (by decide)) (fun _ => ?_)
  refine lv_aload_n hx hb dX3_init_65 rfl (lv_at hl 1 rfl) ?_
  refine c_get (CC := RX3) (TT := TX3) (N := 9) (ci := 2) (k := 6) (v := .ref (b + 7)) (fs := [.ref (b + 7), .ref (b + 8), .ref (b + 11), .ref (b + 14), .int 0, .int 0, .int 0, .int 0, .ref (b + 0)]) hx hb hts in_X3 hown hK hP (by decide) rfl rfl 0 (by decide) q180 rfl rfl dX3_init_66 ?_
  refine lv_iload_n hx hb dX3_init_69 rfl (lv_at hl 0 rfl) ?_
  refine c_new (CC := RX2) (TT := TX2) (N := 3) (ci := 1) (NS := 3) (fs := [.null, .null, .int 0]) hx hb hts in_X2 tyX2 tyX2_ok hown q177 q148 q119 hK hP hS rfl (by decide) (Nat.le_of_ble_eq_true rfl) (Nat.le_of_ble_eq_true rfl) dX3_init_70 (fun H hP hS => ?_)
  refine lv_dup hx hb dX3_init_73 rfl ?_
  refine lv_bipush (v := 61) hx hb dX3_init_74 (by decide) ?_
  refine c_cI (k := 32) (As := [.int 61]) (rest := [.ref (b + 32), .int 5, .ref (b + 7)]) hX hXs ⟨hx, hb, hml, hown, hts⟩ (ci_row2 l G D b 33 32 61 _ X (by decide) rfl (by decide)) (cwI 1 hts (lw_meth q154) rfl rfl rfl (hts _ q119) (hts _ q179) (hts _ q153) rfl cwx_X2_init_2 ⟨Nat.le_of_ble_eq_true rfl, Nat.le_of_ble_eq_true rfl⟩) hK hP hS rfl hl.1 rfl (Nat.le_of_ble_eq_true rfl) dX3_init_76 ⟨Nat.le_of_ble_eq_true rfl, Nat.le_of_ble_eq_true rfl⟩ (fun H locs hP hS => ?_)
  refine c_aast (k := 7) (v := 32) (ti := 4) (ci := 1) (N := 8) (j := 5) (rf := (va_up (va_up (va_up (va_up (va_up (fun _ => none) 0 (some (b + 17))) 1 (some (b + 20))) 2 (some (b + 23))) 3 (some (b + 26))) 4 (some (b + 29)))) hx hb hK hP hS (by decide) (by decide) rfl rfl rfl rfl (by decide) (by decide) (by decide) dX3_init_79 (fun H locs hP hS => ?_)
  refine lv_iinc (v := 6) (lv' := [(2, .int 6), (0, .ref (b + 6)), (1, .ref (b + 0))]) hx hb dX3_init_80 hl (k := 0) rfl (by decide) (by decide) rfl (fun ls hl => ?_)
  refine lv_goto (tgt := 59) hx hb dX3_init_83 (by decide) ?_
  refine lv_iload_n hx hb dX3_init_59 rfl (lv_at hl 0 rfl) ?_
  refine lv_bipush (v := 8) hx hb dX3_init_60 (by decide) ?_
  refine lv_icmp_ge (tgt := 86) hx hb dX3_init_62 (by decide) (fun c => absurd c (by decide)) (fun _ => ?_)
  refine lv_aload_n hx hb dX3_init_65 rfl (lv_at hl 1 rfl) ?_
  refine c_get (CC := RX3) (TT := TX3) (N := 9) (ci := 2) (k := 6) (v := .ref (b + 7)) (fs := [.ref (b + 7), .ref (b + 8), .ref (b + 11), .ref (b + 14), .int 0, .int 0, .int 0, .int 0, .ref (b + 0)]) hx hb hts in_X3 hown hK hP (by decide) rfl rfl 0 (by decide) q180 rfl rfl dX3_init_66 ?_
  refine lv_iload_n hx hb dX3_init_69 rfl (lv_at hl 0 rfl) ?_
  refine c_new (CC := RX2) (TT := TX2) (N := 3) (ci := 1) (NS := 3) (fs := [.null, .null, .int 0]) hx hb hts in_X2 tyX2 tyX2_ok hown q177 q148 q119 hK hP hS rfl (by decide) (Nat.le_of_ble_eq_true rfl) (Nat.le_of_ble_eq_true rfl) dX3_init_70 (fun H hP hS => ?_)
  refine lv_dup hx hb dX3_init_73 rfl ?_
  refine lv_bipush (v := 61) hx hb dX3_init_74 (by decide) ?_
  refine c_cI (k := 35) (As := [.int 61]) (rest := [.ref (b + 35), .int 6, .ref (b + 7)]) hX hXs ⟨hx, hb, hml, hown, hts⟩ (ci_row2 l G D b 36 35 61 _ X (by decide) rfl (by decide)) (cwI 1 hts (lw_meth q154) rfl rfl rfl (hts _ q119) (hts _ q179) (hts _ q153) rfl cwx_X2_init_2 ⟨Nat.le_of_ble_eq_true rfl, Nat.le_of_ble_eq_true rfl⟩) hK hP hS rfl hl.1 rfl (Nat.le_of_ble_eq_true rfl) dX3_init_76 ⟨Nat.le_of_ble_eq_true rfl, Nat.le_of_ble_eq_true rfl⟩ (fun H locs hP hS => ?_)
  refine c_aast (k := 7) (v := 35) (ti := 4) (ci := 1) (N := 8) (j := 6) (rf := (va_up (va_up (va_up (va_up (va_up (va_up (fun _ => none) 0 (some (b + 17))) 1 (some (b + 20))) 2 (some (b + 23))) 3 (some (b + 26))) 4 (some (b + 29))) 5 (some (b + 32)))) hx hb hK hP hS (by decide) (by decide) rfl rfl rfl rfl (by decide) (by decide) (by decide) dX3_init_79 (fun H locs hP hS => ?_)
  refine lv_iinc (v := 7) (lv' := [(2, .int 7), (0, .ref (b + 6)), (1, .ref (b + 0))]) hx hb dX3_init_80 hl (k := 0) rfl (by decide) (by decide) rfl (fun ls hl => ?_)
  refine lv_goto (tgt := 59) hx hb dX3_init_83 (by decide) ?_
  refine lv_iload_n hx hb dX3_init_59 rfl (lv_at hl 0 rfl) ?_
  refine lv_bipush (v := 8) hx hb dX3_init_60 (by decide) ?_
  refine lv_icmp_ge (tgt := 86) hx hb dX3_init_62 (by decide) (fun c => absurd c (by decide)) (fun _ => ?_)
  refine lv_aload_n hx hb dX3_init_65 rfl (lv_at hl 1 rfl) ?_
  refine c_get (CC := RX3) (TT := TX3) (N := 9) (ci := 2) (k := 6) (v := .ref (b + 7)) (fs := [.ref (b + 7), .ref (b + 8), .ref (b + 11), .ref (b + 14), .int 0, .int 0, .int 0, .int 0, .ref (b + 0)]) hx hb hts in_X3 hown hK hP (by decide) rfl rfl 0 (by decide) q180 rfl rfl dX3_init_66 ?_
  refine lv_iload_n hx hb dX3_init_69 rfl (lv_at hl 0 rfl) ?_
  refine c_new (CC := RX2) (TT := TX2) (N := 3) (ci := 1) (NS := 3) (fs := [.null, .null, .int 0]) hx hb hts in_X2 tyX2 tyX2_ok hown q177 q148 q119 hK hP hS rfl (by decide) (Nat.le_of_ble_eq_true rfl) (Nat.le_of_ble_eq_true rfl) dX3_init_70 (fun H hP hS => ?_)
  refine lv_dup hx hb dX3_init_73 rfl ?_
  refine lv_bipush (v := 61) hx hb dX3_init_74 (by decide) ?_
  refine c_cI (k := 38) (As := [.int 61]) (rest := [.ref (b + 38), .int 7, .ref (b + 7)]) hX hXs ⟨hx, hb, hml, hown, hts⟩ (ci_row2 l G D b 39 38 61 _ X (by decide) rfl (by decide)) (cwI 1 hts (lw_meth q154) rfl rfl rfl (hts _ q119) (hts _ q179) (hts _ q153) rfl cwx_X2_init_2 ⟨Nat.le_of_ble_eq_true rfl, Nat.le_of_ble_eq_true rfl⟩) hK hP hS rfl hl.1 rfl (Nat.le_of_ble_eq_true rfl) dX3_init_76 ⟨Nat.le_of_ble_eq_true rfl, Nat.le_of_ble_eq_true rfl⟩ (fun H locs hP hS => ?_)
  refine c_aast (k := 7) (v := 38) (ti := 4) (ci := 1) (N := 8) (j := 7) (rf := (va_up (va_up (va_up (va_up (va_up (va_up (va_up (fun _ => none) 0 (some (b + 17))) 1 (some (b + 20))) 2 (some (b + 23))) 3 (some (b + 26))) 4 (some (b + 29))) 5 (some (b + 32))) 6 (some (b + 35)))) hx hb hK hP hS (by decide) (by decide) rfl rfl rfl rfl (by decide) (by decide) (by decide) dX3_init_79 (fun H locs hP hS => ?_)
  refine lv_iinc (v := 8) (lv' := [(2, .int 8), (0, .ref (b + 6)), (1, .ref (b + 0))]) hx hb dX3_init_80 hl (k := 0) rfl (by decide) (by decide) rfl (fun ls hl => ?_)
  refine lv_goto (tgt := 59) hx hb dX3_init_83 (by decide) ?_
  refine lv_iload_n hx hb dX3_init_59 rfl (lv_at hl 0 rfl) ?_
  refine lv_bipush (v := 8) hx hb dX3_init_60 (by decide) ?_
  refine lv_icmp_ge (tgt := 86) hx hb dX3_init_62 (by decide) (fun _ => ?_) (fun c => absurd (by decide) c)
  exact W.vret hx hb hr (fun t ht hW => ⟨rfl, ⟨by rw [ht]; exact hP, va_K.moved hW.alike hK⟩, hS.F ht⟩) hS.2.2 dX3_init_86
