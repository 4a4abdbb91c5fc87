set_option maxRecDepth 100000
def mfs0 : List Value := [.int 0, .int 0, .int 0, .null, .null, .int 0, .int 0, .int 0, .int 0, .int 0, .int 0, .int 0, .int 0, .int 0, .int 0, .null, .int 0, .int 0, .int 0, .int 0, .int 0, .int 0, .int 0, .long 0, .null, .int 0, .null, .int 0, .null, .int 0, .null, .null, .null, .null, .null, .null, .int 0, .int 0, .int 0, .int 0, .null, .null, .null, .null, .null, .int 0, .null, .null, .null, .null, .null, .null, .null]
def mS0 : St := fun k i => if k = 0 ∧ i = 2 then -1 else 0
def mrf (b k n : Nat) : Value := if k ≤ n then .ref (b + k) else .null
def mfsn (b n : Nat) (S : St) : List Value := [.int (S 0 0), .int (S 0 1), .int (S 0 2), mrf b 1 n, mrf b 2 n, .int (S 0 5), .int (S 0 6), .int (S 0 7), .int (S 0 8), .int (S 0 9), .int (S 0 10), .int (S 0 11), .int (S 0 12), .int (S 0 13), .int (S 0 14), mrf b 3 n, .int (S 0 16), .int (S 0 17), .int (S 0 18), .int (S 0 19), .int (S 0 20), .int (S 0 21), .int (S 0 22), .long (mkL (S 0 23) (S 0 53)), mrf b 4 n, .int (S 0 25), mrf b 5 n, .int (S 0 27), mrf b 6 n, .int (S 0 29), mrf b 7 n, mrf b 8 n, mrf b 9 n, mrf b 10 n, mrf b 11 n, mrf b 12 n, .int (S 0 36), .int (S 0 37), .int (S 0 38), .int (S 0 39), mrf b 13 n, mrf b 14 n, mrf b 15 n, mrf b 16 n, mrf b 17 n, .int (S 0 45), mrf b 18 n, mrf b 19 n, mrf b 20 n, mrf b 21 n, mrf b 22 n, mrf b 23 n, mrf b 24 n]
def mEn (cI cB : ClassId) (b n : Nat) (S : St) (k : Nat) : va_E := if k = 0 then .inr (0, mfsn b n S) else .inl (if k = 3 then cB else cI, mlen k, .inl (S k))
def mSz : St := fun _ _ => 0
theorem cW.cg {D : va_G} {cl : List vw_C} {b n : Nat} {E E1 : Nat → va_E} {H : Heap} (h : cW D cl b n E H) (he : ∀ k, k < n → E k = E1 k) : cW D cl b n E1 H := ⟨fun k hk => by rw [← he k hk]; exact h.1 k hk, h.2⟩
theorem mi_st {D : va_G} {cI cB cX : ClassId} {b n N j : Nat} {v : Value} {S : St} {H : Heap} (hj : (mfsn b n S).set j v = mfsn b (n + 1) S) (hN : (.inl (cX, N, .inl (fun _ => 0)) : va_E) = .inl (if n + 1 = 3 then cB else cI, mlen (n + 1), .inl (S (n + 1)))) (h : cW D mcl b (n + 2) (cset (cset (mEn cI cB b n S) (n + 1) (.inl (cX, N, .inl (fun _ => 0)))) 0 (.inr (0, (mfsn b n S).set j v))) H) : cW D mcl b (n + 1 + 1) (mEn cI cB b (n + 1) S) H := by
  refine h.cg (fun k hk => ?_)
  by_cases h0 : k = 0
  · subst h0
    show (Sum.inr (0, (mfsn b n S).set j v) : va_E) = .inr (0, mfsn b (n + 1) S)
    rw [hj]
  · have e1 : ∀ E x, cset E 0 x k = E k := fun E x => if_neg h0
    have e2 : mEn cI cB b (n + 1) S k = .inl (if k = 3 then cB else cI, mlen k, .inl (S k)) := if_neg h0
    rw [e1, e2]
    by_cases h1 : k = n + 1
    · subst h1
      show (if n + 1 = n + 1 then _ else _) = _
      rw [if_pos rfl]
      exact hN
    · show (if k = n + 1 then _ else mEn cI cB b n S k) = _
      rw [if_neg h1]
      exact if_neg h0
set_option maxHeartbeats 4000000 in
theorem mi_init (l : Launch) (D : va_G) (cI cB : ClassId) (b : Nat) : Met l yX7_init (ws_ yX7_init cX7_init 1 none) ({ frames := 1, cells := 24, slots := 225329, locals := 60 } : Room) (va_Pc [.ref (b + 0)] (fun U => cW D mcl b 1 (mEn cI cB b 0 mSz) U.heap ∧ va_K D mcl (mKt cI cB) U)) (fun _ st oc t => oc = .returned none ∧ (mW D cI cB b mS0 t.heap ∧ t.heap.size = b + 25 ∧ va_K D mcl (mKt cI cB) t) ∧ va_F (cA b) st t) 24 225329 (cA b) := by
  refine Met.ofW (cc := cX7_init) (maxL := 1) (ret := none) (by decide) rfl ?_
  intro p e s m args below meth c s₁ B hml hv
  obtain ⟨rfl, hP, hK⟩ := hv
  have hx := B.exec
  have hb := B.bytes
  have hr := B.returns
  have hts := atoms_spec (ws := ws_ yX7_init cX7_init 1 none) B.pre
  have hts : ∀ w ∈ lw_all, w.before _ s = true := fun w h => hts w (List.mem_cons_of_mem _ h)
  have hown : s.vm.findClass RX7 = some m.cls := findClass_of_methodNamed B.named
  have hin : meth.name = "<init>" := (name_of_methodNamed B.named B.method).1
  have hcI : s.vm.findClass "[I" = some cI := (hK.2 0 _ rfl).2
  have hcB : s.vm.findClass "[B" = some cB := (hK.2 1 _ rfl).2
  have hS : va_S (cA b) s.heap s.heap [] := va_S.rf
  have hl := lv_entry ([.ref (b + 0)]) (n := 1) (Nat.le_of_ble_eq_true rfl)
  rw [lg_entry_eq]
  generalize (lg_sl ([.ref (b + 0)]) ++ List.replicate (1 - (lg_sl ([.ref (b + 0)])).length) Slot.unset).toArray = ls at hl ⊢
  have hl : lv_has ls 1 [(0, .ref (b + 0))] := hl
  refine lv_aload_n hx hb dX7_init_0 rfl (lv_at hl 0 rfl) ?_
  refine W.objInit hx hb hown (hts _ q1207) (hts _ q145) (hts _ q146) rfl (by rw [hml]; exact hl.1) rfl dX7_init_1 (Nat.le_of_ble_eq_true rfl) (Nat.le_of_ble_eq_true rfl) ?_
  refine W.eq (g2 := F0 m 4 ls []) rfl ?_
  refine lv_aload_n hx hb dX7_init_4 rfl (lv_at hl 0 rfl) ?_
  refine lv_iconst (v := (-1)) hx hb dX7_init_5 (by decide) ?_
  refine c_put (CC := RX7) (TT := TX7) (N := 53) (ci := 0) (k := 0) (v := .int (-1)) (fs := mfsn b 0 mSz) hx hb hts in_X7 tyX7 tyX7_ok nmX7 hown hK hP hS (by decide) rfl rfl rfl 2 (by decide) q1212 rfl (Or.inl rfl) rfl rfl rfl dX7_init_6 (fun H locs hP hS => ?_)
  have hP : cW D mcl b 1 (mEn cI cB b 0 mS0) H := hP.cg (fun k hk => by rw [show k = 0 by omega]; rfl)
  refine lv_aload_n hx hb dX7_init_9 rfl (lv_at hl 0 rfl) ?_
  refine lv_ldc (v := 32768) hx hb hown (hts _ q1208) dX7_init_10 ?_
  refine c_newai (N := 32768) hx hb hts q170 hcI hP hS (by decide) (by decide) (Nat.le_of_ble_eq_true rfl) (Nat.le_of_ble_eq_true rfl) dX7_init_12 (fun H hP hS => ?_)
  refine c_put (CC := RX7) (TT := TX7) (N := 53) (ci := 0) (k := 0) (v := .ref (b + 1)) (fs := mfsn b 0 mS0) hx hb hts in_X7 tyX7 tyX7_ok nmX7 hown hK hP hS (by decide) rfl rfl rfl 3 (by decide) q1213 rfl (Or.inr ⟨rfl, hin, rfl⟩) rfl rfl rfl dX7_init_14 (fun H locs hP hS => ?_)
  have hP := mi_st (n := 0) (S := mS0) rfl rfl hP
  refine lv_aload_n hx hb dX7_init_17 rfl (lv_at hl 0 rfl) ?_
  refine lv_sipush (v := 24576) hx hb dX7_init_18 (by decide) ?_
  refine c_newai (N := 24576) hx hb hts q170 hcI hP hS (by decide) (by decide) (Nat.le_of_ble_eq_true rfl) (Nat.le_of_ble_eq_true rfl) dX7_init_21 (fun H hP hS => ?_)
  refine c_put (CC := RX7) (TT := TX7) (N := 53) (ci := 0) (k := 0) (v := .ref (b + 2)) (fs := mfsn b 1 mS0) hx hb hts in_X7 tyX7 tyX7_ok nmX7 hown hK hP hS (by decide) rfl rfl rfl 4 (by decide) q1214 rfl (Or.inr ⟨rfl, hin, rfl⟩) rfl rfl rfl dX7_init_23 (fun H locs hP hS => ?_)
  have hP := mi_st (n := 1) (S := mS0) rfl rfl hP
  refine lv_aload_n hx hb dX7_init_26 rfl (lv_at hl 0 rfl) ?_
  refine lv_sipush (v := 700) hx hb dX7_init_27 (by decide) ?_
  refine c_newab (N := 700) hx hb hts q294 hcB hP hS (by decide) (by decide) (Nat.le_of_ble_eq_true rfl) (Nat.le_of_ble_eq_true rfl) dX7_init_30 (fun H hP hS => ?_)
  refine c_put (CC := RX7) (TT := TX7) (N := 53) (ci := 0) (k := 0) (v := .ref (b + 3)) (fs := mfsn b 2 mS0) hx hb hts in_X7 tyX7 tyX7_ok nmX7 hown hK hP hS (by decide) rfl rfl rfl 15 (by decide) q1225 rfl (Or.inr ⟨rfl, hin, rfl⟩) rfl rfl rfl dX7_init_32 (fun H locs hP hS => ?_)
  have hP := mi_st (n := 2) (S := mS0) rfl rfl hP
  refine lv_aload_n hx hb dX7_init_35 rfl (lv_at hl 0 rfl) ?_
  refine lv_sipush (v := 4096) hx hb dX7_init_36 (by decide) ?_
  refine c_newai (N := 4096) hx hb hts q170 hcI hP hS (by decide) (by decide) (Nat.le_of_ble_eq_true rfl) (Nat.le_of_ble_eq_true rfl) dX7_init_39 (fun H hP hS => ?_)
  refine c_put (CC := RX7) (TT := TX7) (N := 53) (ci := 0) (k := 0) (v := .ref (b + 4)) (fs := mfsn b 3 mS0) hx hb hts in_X7 tyX7 tyX7_ok nmX7 hown hK hP hS (by decide) rfl rfl rfl 24 (by decide) q1234 rfl (Or.inr ⟨rfl, hin, rfl⟩) rfl rfl rfl dX7_init_41 (fun H locs hP hS => ?_)
  have hP := mi_st (n := 3) (S := mS0) rfl rfl hP
  refine lv_aload_n hx hb dX7_init_44 rfl (lv_at hl 0 rfl) ?_
  refine lv_bipush (v := 61) hx hb dX7_init_45 (by decide) ?_
  refine c_newai (N := 61) hx hb hts q170 hcI hP hS (by decide) (by decide) (Nat.le_of_ble_eq_true rfl) (Nat.le_of_ble_eq_true rfl) dX7_init_47 (fun H hP hS => ?_)
  refine c_put (CC := RX7) (TT := TX7) (N := 53) (ci := 0) (k := 0) (v := .ref (b + 5)) (fs := mfsn b 4 mS0) hx hb hts in_X7 tyX7 tyX7_ok nmX7 hown hK hP hS (by decide) rfl rfl rfl 26 (by decide) q1236 rfl (Or.inr ⟨rfl, hin, rfl⟩) rfl rfl rfl dX7_init_49 (fun H locs hP hS => ?_)
  have hP := mi_st (n := 4) (S := mS0) rfl rfl hP
  refine lv_aload_n hx hb dX7_init_52 rfl (lv_at hl 0 rfl) ?_
  refine lv_sipush (v := 4096) hx hb dX7_init_53 (by decide) ?_
  refine c_newai (N := 4096) hx hb hts q170 hcI hP hS (by decide) (by decide) (Nat.le_of_ble_eq_true rfl) (Nat.le_of_ble_eq_true rfl) dX7_init_56 (fun H hP hS => ?_)
  refine c_put (CC := RX7) (TT := TX7) (N := 53) (ci := 0) (k := 0) (v := .ref (b + 6)) (fs := mfsn b 5 mS0) hx hb hts in_X7 tyX7 tyX7_ok nmX7 hown hK hP hS (by decide) rfl rfl rfl 28 (by decide) q1238 rfl (Or.inr ⟨rfl, hin, rfl⟩) rfl rfl rfl dX7_init_58 (fun H locs hP hS => ?_)
  have hP := mi_st (n := 5) (S := mS0) rfl rfl hP
  refine lv_aload_n hx hb dX7_init_61 rfl (lv_at hl 0 rfl) ?_
  refine lv_sipush (v := 4096) hx hb dX7_init_62 (by decide) ?_
  refine c_newai (N := 4096) hx hb hts q170 hcI hP hS (by decide) (by decide) (Nat.le_of_ble_eq_true rfl) (Nat.le_of_ble_eq_true rfl) dX7_init_65 (fun H hP hS => ?_)
  refine c_put (CC := RX7) (TT := TX7) (N := 53) (ci := 0) (k := 0) (v := .ref (b + 7)) (fs := mfsn b 6 mS0) hx hb hts in_X7 tyX7 tyX7_ok nmX7 hown hK hP hS (by decide) rfl rfl rfl 30 (by decide) q1240 rfl (Or.inr ⟨rfl, hin, rfl⟩) rfl rfl rfl dX7_init_67 (fun H locs hP hS => ?_)
  have hP := mi_st (n := 6) (S := mS0) rfl rfl hP
  refine lv_aload_n hx hb dX7_init_70 rfl (lv_at hl 0 rfl) ?_
  refine lv_sipush (v := 4096) hx hb dX7_init_71 (by decide) ?_
  refine c_newai (N := 4096) hx hb hts q170 hcI hP hS (by decide) (by decide) (Nat.le_of_ble_eq_true rfl) (Nat.le_of_ble_eq_true rfl) dX7_init_74 (fun H hP hS => ?_)
  refine c_put (CC := RX7) (TT := TX7) (N := 53) (ci := 0) (k := 0) (v := .ref (b + 8)) (fs := mfsn b 7 mS0) hx hb hts in_X7 tyX7 tyX7_ok nmX7 hown hK hP hS (by decide) rfl rfl rfl 31 (by decide) q1241 rfl (Or.inr ⟨rfl, hin, rfl⟩) rfl rfl rfl dX7_init_76 (fun H locs hP hS => ?_)
  have hP := mi_st (n := 7) (S := mS0) rfl rfl hP
  refine lv_aload_n hx hb dX7_init_79 rfl (lv_at hl 0 rfl) ?_
  refine lv_ldc (v := 32768) hx hb hown (hts _ q1208) dX7_init_80 ?_
  refine c_newai (N := 32768) hx hb hts q170 hcI hP hS (by decide) (by decide) (Nat.le_of_ble_eq_true rfl) (Nat.le_of_ble_eq_true rfl) dX7_init_82 (fun H hP hS => ?_)
  refine c_put (CC := RX7) (TT := TX7) (N := 53) (ci := 0) (k := 0) (v := .ref (b + 9)) (fs := mfsn b 8 mS0) hx hb hts in_X7 tyX7 tyX7_ok nmX7 hown hK hP hS (by decide) rfl rfl rfl 32 (by decide) q1242 rfl (Or.inr ⟨rfl, hin, rfl⟩) rfl rfl rfl dX7_init_84 (fun H locs hP hS => ?_)
  have hP := mi_st (n := 8) (S := mS0) rfl rfl hP
  refine lv_aload_n hx hb dX7_init_87 rfl (lv_at hl 0 rfl) ?_
  refine lv_bipush (v := 8) hx hb dX7_init_88 (by decide) ?_
  refine c_newai (N := 8) hx hb hts q170 hcI hP hS (by decide) (by decide) (Nat.le_of_ble_eq_true rfl) (Nat.le_of_ble_eq_true rfl) dX7_init_90 (fun H hP hS => ?_)
  refine c_put (CC := RX7) (TT := TX7) (N := 53) (ci := 0) (k := 0) (v := .ref (b + 10)) (fs := mfsn b 9 mS0) hx hb hts in_X7 tyX7 tyX7_ok nmX7 hown hK hP hS (by decide) rfl rfl rfl 33 (by decide) q1243 rfl (Or.inr ⟨rfl, hin, rfl⟩) rfl rfl rfl dX7_init_92 (fun H locs hP hS => ?_)
  have hP := mi_st (n := 9) (S := mS0) rfl rfl hP
  refine lv_aload_n hx hb dX7_init_95 rfl (lv_at hl 0 rfl) ?_
  refine lv_bipush (v := 8) hx hb dX7_init_96 (by decide) ?_
  refine c_newai (N := 8) hx hb hts q170 hcI hP hS (by decide) (by decide) (Nat.le_of_ble_eq_true rfl) (Nat.le_of_ble_eq_true rfl) dX7_init_98 (fun H hP hS => ?_)
  refine c_put (CC := RX7) (TT := TX7) (N := 53) (ci := 0) (k := 0) (v := .ref (b + 11)) (fs := mfsn b 10 mS0) hx hb hts in_X7 tyX7 tyX7_ok nmX7 hown hK hP hS (by decide) rfl rfl rfl 34 (by decide) q1244 rfl (Or.inr ⟨rfl, hin, rfl⟩) rfl rfl rfl dX7_init_100 (fun H locs hP hS => ?_)
  have hP := mi_st (n := 10) (S := mS0) rfl rfl hP
  refine lv_aload_n hx hb dX7_init_103 rfl (lv_at hl 0 rfl) ?_
  refine lv_bipush (v := 8) hx hb dX7_init_104 (by decide) ?_
  refine c_newai (N := 8) hx hb hts q170 hcI hP hS (by decide) (by decide) (Nat.le_of_ble_eq_true rfl) (Nat.le_of_ble_eq_true rfl) dX7_init_106 (fun H hP hS => ?_)
  refine c_put (CC := RX7) (TT := TX7) (N := 53) (ci := 0) (k := 0) (v := .ref (b + 12)) (fs := mfsn b 11 mS0) hx hb hts in_X7 tyX7 tyX7_ok nmX7 hown hK hP hS (by decide) rfl rfl rfl 35 (by decide) q1245 rfl (Or.inr ⟨rfl, hin, rfl⟩) rfl rfl rfl dX7_init_108 (fun H locs hP hS => ?_)
  have hP := mi_st (n := 11) (S := mS0) rfl rfl hP
  refine lv_aload_n hx hb dX7_init_111 rfl (lv_at hl 0 rfl) ?_
  refine lv_ldc (v := 32768) hx hb hown (hts _ q1208) dX7_init_112 ?_
  refine c_newai (N := 32768) hx hb hts q170 hcI hP hS (by decide) (by decide) (Nat.le_of_ble_eq_true rfl) (Nat.le_of_ble_eq_true rfl) dX7_init_114 (fun H hP hS => ?_)
  refine c_put (CC := RX7) (TT := TX7) (N := 53) (ci := 0) (k := 0) (v := .ref (b + 13)) (fs := mfsn b 12 mS0) hx hb hts in_X7 tyX7 tyX7_ok nmX7 hown hK hP hS (by decide) rfl rfl rfl 40 (by decide) q1250 rfl (Or.inr ⟨rfl, hin, rfl⟩) rfl rfl rfl dX7_init_116 (fun H locs hP hS => ?_)
  have hP := mi_st (n := 12) (S := mS0) rfl rfl hP
  refine lv_aload_n hx hb dX7_init_119 rfl (lv_at hl 0 rfl) ?_
  refine lv_bipush (v := 8) hx hb dX7_init_120 (by decide) ?_
  refine c_newai (N := 8) hx hb hts q170 hcI hP hS (by decide) (by decide) (Nat.le_of_ble_eq_true rfl) (Nat.le_of_ble_eq_true rfl) dX7_init_122 (fun H hP hS => ?_)
  refine c_put (CC := RX7) (TT := TX7) (N := 53) (ci := 0) (k := 0) (v := .ref (b + 14)) (fs := mfsn b 13 mS0) hx hb hts in_X7 tyX7 tyX7_ok nmX7 hown hK hP hS (by decide) rfl rfl rfl 41 (by decide) q1251 rfl (Or.inr ⟨rfl, hin, rfl⟩) rfl rfl rfl dX7_init_124 (fun H locs hP hS => ?_)
  have hP := mi_st (n := 13) (S := mS0) rfl rfl hP
  refine lv_aload_n hx hb dX7_init_127 rfl (lv_at hl 0 rfl) ?_
  refine lv_bipush (v := 8) hx hb dX7_init_128 (by decide) ?_
  refine c_newai (N := 8) hx hb hts q170 hcI hP hS (by decide) (by decide) (Nat.le_of_ble_eq_true rfl) (Nat.le_of_ble_eq_true rfl) dX7_init_130 (fun H hP hS => ?_)
  refine c_put (CC := RX7) (TT := TX7) (N := 53) (ci := 0) (k := 0) (v := .ref (b + 15)) (fs := mfsn b 14 mS0) hx hb hts in_X7 tyX7 tyX7_ok nmX7 hown hK hP hS (by decide) rfl rfl rfl 42 (by decide) q1252 rfl (Or.inr ⟨rfl, hin, rfl⟩) rfl rfl rfl dX7_init_132 (fun H locs hP hS => ?_)
  have hP := mi_st (n := 14) (S := mS0) rfl rfl hP
  refine lv_aload_n hx hb dX7_init_135 rfl (lv_at hl 0 rfl) ?_
  refine lv_bipush (v := 8) hx hb dX7_init_136 (by decide) ?_
  refine c_newai (N := 8) hx hb hts q170 hcI hP hS (by decide) (by decide) (Nat.le_of_ble_eq_true rfl) (Nat.le_of_ble_eq_true rfl) dX7_init_138 (fun H hP hS => ?_)
  refine c_put (CC := RX7) (TT := TX7) (N := 53) (ci := 0) (k := 0) (v := .ref (b + 16)) (fs := mfsn b 15 mS0) hx hb hts in_X7 tyX7 tyX7_ok nmX7 hown hK hP hS (by decide) rfl rfl rfl 43 (by decide) q1253 rfl (Or.inr ⟨rfl, hin, rfl⟩) rfl rfl rfl dX7_init_140 (fun H locs hP hS => ?_)
  have hP := mi_st (n := 15) (S := mS0) rfl rfl hP
  refine lv_aload_n hx hb dX7_init_143 rfl (lv_at hl 0 rfl) ?_
  refine lv_bipush (v := 8) hx hb dX7_init_144 (by decide) ?_
  refine c_newai (N := 8) hx hb hts q170 hcI hP hS (by decide) (by decide) (Nat.le_of_ble_eq_true rfl) (Nat.le_of_ble_eq_true rfl) dX7_init_146 (fun H hP hS => ?_)
  refine c_put (CC := RX7) (TT := TX7) (N := 53) (ci := 0) (k := 0) (v := .ref (b + 17)) (fs := mfsn b 16 mS0) hx hb hts in_X7 tyX7 tyX7_ok nmX7 hown hK hP hS (by decide) rfl rfl rfl 44 (by decide) q1254 rfl (Or.inr ⟨rfl, hin, rfl⟩) rfl rfl rfl dX7_init_148 (fun H locs hP hS => ?_)
  have hP := mi_st (n := 16) (S := mS0) rfl rfl hP
  refine lv_aload_n hx hb dX7_init_151 rfl (lv_at hl 0 rfl) ?_
  refine lv_ldc (v := 36864) hx hb hown (hts _ q1209) dX7_init_152 ?_
  refine c_newai (N := 36864) hx hb hts q170 hcI hP hS (by decide) (by decide) (Nat.le_of_ble_eq_true rfl) (Nat.le_of_ble_eq_true rfl) dX7_init_154 (fun H hP hS => ?_)
  refine c_put (CC := RX7) (TT := TX7) (N := 53) (ci := 0) (k := 0) (v := .ref (b + 18)) (fs := mfsn b 17 mS0) hx hb hts in_X7 tyX7 tyX7_ok nmX7 hown hK hP hS (by decide) rfl rfl rfl 46 (by decide) q1256 rfl (Or.inr ⟨rfl, hin, rfl⟩) rfl rfl rfl dX7_init_156 (fun H locs hP hS => ?_)
  have hP := mi_st (n := 17) (S := mS0) rfl rfl hP
  refine lv_aload_n hx hb dX7_init_159 rfl (lv_at hl 0 rfl) ?_
  refine lv_ldc (v := 36864) hx hb hown (hts _ q1209) dX7_init_160 ?_
  refine c_newai (N := 36864) hx hb hts q170 hcI hP hS (by decide) (by decide) (Nat.le_of_ble_eq_true rfl) (Nat.le_of_ble_eq_true rfl) dX7_init_162 (fun H hP hS => ?_)
  refine c_put (CC := RX7) (TT := TX7) (N := 53) (ci := 0) (k := 0) (v := .ref (b + 19)) (fs := mfsn b 18 mS0) hx hb hts in_X7 tyX7 tyX7_ok nmX7 hown hK hP hS (by decide) rfl rfl rfl 47 (by decide) q1257 rfl (Or.inr ⟨rfl, hin, rfl⟩) rfl rfl rfl dX7_init_164 (fun H locs hP hS => ?_)
  have hP := mi_st (n := 18) (S := mS0) rfl rfl hP
  refine lv_aload_n hx hb dX7_init_167 rfl (lv_at hl 0 rfl) ?_
  refine lv_sipush (v := 2304) hx hb dX7_init_168 (by decide) ?_
  refine c_newai (N := 2304) hx hb hts q170 hcI hP hS (by decide) (by decide) (Nat.le_of_ble_eq_true rfl) (Nat.le_of_ble_eq_true rfl) dX7_init_171 (fun H hP hS => ?_)
  refine c_put (CC := RX7) (TT := TX7) (N := 53) (ci := 0) (k := 0) (v := .ref (b + 20)) (fs := mfsn b 19 mS0) hx hb hts in_X7 tyX7 tyX7_ok nmX7 hown hK hP hS (by decide) rfl rfl rfl 48 (by decide) q1258 rfl (Or.inr ⟨rfl, hin, rfl⟩) rfl rfl rfl dX7_init_173 (fun H locs hP hS => ?_)
  have hP := mi_st (n := 19) (S := mS0) rfl rfl hP
  refine lv_aload_n hx hb dX7_init_176 rfl (lv_at hl 0 rfl) ?_
  refine lv_sipush (v := 2304) hx hb dX7_init_177 (by decide) ?_
  refine c_newai (N := 2304) hx hb hts q170 hcI hP hS (by decide) (by decide) (Nat.le_of_ble_eq_true rfl) (Nat.le_of_ble_eq_true rfl) dX7_init_180 (fun H hP hS => ?_)
  refine c_put (CC := RX7) (TT := TX7) (N := 53) (ci := 0) (k := 0) (v := .ref (b + 21)) (fs := mfsn b 20 mS0) hx hb hts in_X7 tyX7 tyX7_ok nmX7 hown hK hP hS (by decide) rfl rfl rfl 49 (by decide) q1259 rfl (Or.inr ⟨rfl, hin, rfl⟩) rfl rfl rfl dX7_init_182 (fun H locs hP hS => ?_)
  have hP := mi_st (n := 20) (S := mS0) rfl rfl hP
  refine lv_aload_n hx hb dX7_init_185 rfl (lv_at hl 0 rfl) ?_
  refine lv_sipush (v := 2304) hx hb dX7_init_186 (by decide) ?_
  refine c_newai (N := 2304) hx hb hts q170 hcI hP hS (by decide) (by decide) (Nat.le_of_ble_eq_true rfl) (Nat.le_of_ble_eq_true rfl) dX7_init_189 (fun H hP hS => ?_)
  refine c_put (CC := RX7) (TT := TX7) (N := 53) (ci := 0) (k := 0) (v := .ref (b + 22)) (fs := mfsn b 21 mS0) hx hb hts in_X7 tyX7 tyX7_ok nmX7 hown hK hP hS (by decide) rfl rfl rfl 50 (by decide) q1260 rfl (Or.inr ⟨rfl, hin, rfl⟩) rfl rfl rfl dX7_init_191 (fun H locs hP hS => ?_)
  have hP := mi_st (n := 21) (S := mS0) rfl rfl hP
  refine lv_aload_n hx hb dX7_init_194 rfl (lv_at hl 0 rfl) ?_
  refine lv_sipush (v := 2304) hx hb dX7_init_195 (by decide) ?_
  refine c_newai (N := 2304) hx hb hts q170 hcI hP hS (by decide) (by decide) (Nat.le_of_ble_eq_true rfl) (Nat.le_of_ble_eq_true rfl) dX7_init_198 (fun H hP hS => ?_)
  refine c_put (CC := RX7) (TT := TX7) (N := 53) (ci := 0) (k := 0) (v := .ref (b + 23)) (fs := mfsn b 22 mS0) hx hb hts in_X7 tyX7 tyX7_ok nmX7 hown hK hP hS (by decide) rfl rfl rfl 51 (by decide) q1261 rfl (Or.inr ⟨rfl, hin, rfl⟩) rfl rfl rfl dX7_init_200 (fun H locs hP hS => ?_)
  have hP := mi_st (n := 22) (S := mS0) rfl rfl hP
  refine lv_aload_n hx hb dX7_init_203 rfl (lv_at hl 0 rfl) ?_
  refine lv_sipush (v := 2304) hx hb dX7_init_204 (by decide) ?_
  refine c_newai (N := 2304) hx hb hts q170 hcI hP hS (by decide) (by decide) (Nat.le_of_ble_eq_true rfl) (Nat.le_of_ble_eq_true rfl) dX7_init_207 (fun H hP hS => ?_)
  refine c_put (CC := RX7) (TT := TX7) (N := 53) (ci := 0) (k := 0) (v := .ref (b + 24)) (fs := mfsn b 23 mS0) hx hb hts in_X7 tyX7 tyX7_ok nmX7 hown hK hP hS (by decide) rfl rfl rfl 52 (by decide) q1262 rfl (Or.inr ⟨rfl, hin, rfl⟩) rfl rfl rfl dX7_init_209 (fun H locs hP hS => ?_)
  have hP := mi_st (n := 23) (S := mS0) rfl rfl hP
  have hMW : mW D cI cB b mS0 H := by
    intro k hk
    have h9 := hP.1 k hk
    show va_at D mcl (b + k, mE cI cB b mS0 k) H
    rw [show mE cI cB b mS0 k = mEn cI cB b 24 mS0 k from rfl]
    exact h9
  exact W.vret hx hb hr (fun t ht hW => ⟨rfl, ⟨by rw [ht]; exact hMW, by rw [ht]; exact hP.2, va_K.moved hW.alike hK⟩, hS.F ht⟩) hS.2.2 dX7_init_212
