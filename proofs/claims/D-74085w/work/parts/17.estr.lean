set_option maxRecDepth 100000
set_option maxHeartbeats 4000000 in
theorem eJ5_checkFromIndexSizeN (l : Launch) (nn : Nat) (h : nn ≤ 5) : Met l yJ5_checkFromIndexSize (ws_ yJ5_checkFromIndexSize cJ5_checkFromIndexSize 4 (some .int)) ({ frames := 0, cells := 0, slots := 0, locals := 0 } : Room) (va_Pc [.int (nI 0), .int (nI nn), .int (nI 5), .null] (fun _ => True)) (vp_Si (fun r => r = nI 0)) 0 0 (fun _ => False) := by
  refine Met.ofW (cc := cJ5_checkFromIndexSize) (maxL := 4) (ret := (some .int)) (by decide) rfl ?_
  intro p e s m args below meth c s₁ B hml hv
  obtain ⟨rfl, hV⟩ := hv
  have hx := B.exec
  have hb := B.bytes
  have hr := B.returns
  have hts := atoms_spec (ws := ws_ yJ5_checkFromIndexSize cJ5_checkFromIndexSize 4 (some .int)) B.pre
  have hts : ∀ w ∈ lw_all, w.before _ s = true := fun w h => hts w (List.mem_cons_of_mem _ h)
  have hown : s.vm.findClass RJ5 = some m.cls := findClass_of_methodNamed B.named
  have hlocks := B.notSynchronized
  have hS : va_S (fun _ => False) s.heap s.heap [] := va_S.rf
  have hl := lv_entry ([.int (nI 0), .int (nI nn), .int (nI 5), .null]) (n := 4) (Nat.le_of_ble_eq_true rfl)
  rw [lg_entry_eq]
  generalize (lg_sl ([.int (nI 0), .int (nI nn), .int (nI 5), .null]) ++ List.replicate (4 - (lg_sl ([.int (nI 0), .int (nI nn), .int (nI 5), .null])).length) Slot.unset).toArray = ls at hl ⊢
  have hl : lv_has ls 4 [(0, .int (nI 0)), (1, .int (nI nn)), (2, .int (nI 5)), (3, .null)] := hl
  have hc9 : ¬ ((nI 5 ||| nI 0) ||| nI nn) < 0 ∧ nI nn ≤ nI 5 - nI 0 := by
    have h9 : ∀ c : Fin 6, ¬ ((nI 5 ||| nI 0) ||| nI c.val) < 0 ∧ nI c.val ≤ nI 5 - nI 0 := by decide +kernel
    exact h9 ⟨nn, by omega⟩
  refine lv_iload_n hx hb dJ5_checkFromIndexSize_0 rfl (lv_at hl 2 rfl) ?_
  refine lv_iload_n hx hb dJ5_checkFromIndexSize_1 rfl (lv_at hl 0 rfl) ?_
  refine lv_ior hx hb dJ5_checkFromIndexSize_2 ?_
  refine lv_iload_n hx hb dJ5_checkFromIndexSize_3 rfl (lv_at hl 1 rfl) ?_
  refine lv_ior hx hb dJ5_checkFromIndexSize_4 ?_
  refine lv_if_lt (tgt := 15) hx hb dJ5_checkFromIndexSize_5 (by decide) (fun c_1 => absurd c_1 hc9.1) (fun _ => ?_)
  refine lv_iload_n hx hb dJ5_checkFromIndexSize_8 rfl (lv_at hl 1 rfl) ?_
  refine lv_iload_n hx hb dJ5_checkFromIndexSize_9 rfl (lv_at hl 2 rfl) ?_
  refine lv_iload_n hx hb dJ5_checkFromIndexSize_10 rfl (lv_at hl 0 rfl) ?_
  refine lv_isub hx hb dJ5_checkFromIndexSize_11 ?_
  refine lv_icmp_le (tgt := 23) hx hb dJ5_checkFromIndexSize_12 (by decide) (fun _ => ?_) (fun c_1 => absurd hc9.2 c_1)
  refine lv_iload_n hx hb dJ5_checkFromIndexSize_23 rfl (lv_at hl 0 rfl) ?_
  exact W.iret (v := nI 0) hx hb hr (fun t ht hW => ⟨nI 0, rfl, rfl, ht⟩) hS.2.2 dJ5_checkFromIndexSize_24
set_option maxHeartbeats 4000000 in
theorem eJ5_checkFromIndexSizeR (l : Launch) (nn : Nat) (t : Nat) (h : nn ≤ 5) : Met l yJ5_checkFromIndexSize (ws_ yJ5_checkFromIndexSize cJ5_checkFromIndexSize 4 (some .int)) ({ frames := 0, cells := 0, slots := 0, locals := 0 } : Room) (va_Pc [.int (nI 0), .int (nI nn), .int (nI 5), .ref t] (fun _ => True)) (vp_Si (fun r => r = nI 0)) 0 0 (fun _ => False) := by
  refine Met.ofW (cc := cJ5_checkFromIndexSize) (maxL := 4) (ret := (some .int)) (by decide) rfl ?_
  intro p e s m args below meth c s₁ B hml hv
  obtain ⟨rfl, hV⟩ := hv
  have hx := B.exec
  have hb := B.bytes
  have hr := B.returns
  have hts := atoms_spec (ws := ws_ yJ5_checkFromIndexSize cJ5_checkFromIndexSize 4 (some .int)) B.pre
  have hts : ∀ w ∈ lw_all, w.before _ s = true := fun w h => hts w (List.mem_cons_of_mem _ h)
  have hown : s.vm.findClass RJ5 = some m.cls := findClass_of_methodNamed B.named
  have hlocks := B.notSynchronized
  have hS : va_S (fun _ => False) s.heap s.heap [] := va_S.rf
  have hl := lv_entry ([.int (nI 0), .int (nI nn), .int (nI 5), .ref t]) (n := 4) (Nat.le_of_ble_eq_true rfl)
  rw [lg_entry_eq]
  generalize (lg_sl ([.int (nI 0), .int (nI nn), .int (nI 5), .ref t]) ++ List.replicate (4 - (lg_sl ([.int (nI 0), .int (nI nn), .int (nI 5), .ref t])).length) Slot.unset).toArray = ls at hl ⊢
  have hl : lv_has ls 4 [(0, .int (nI 0)), (1, .int (nI nn)), (2, .int (nI 5)), (3, .ref t)] := hl
  have hc9 : ¬ ((nI 5 ||| nI 0) ||| nI nn) < 0 ∧ nI nn ≤ nI 5 - nI 0 := by
    have h9 : ∀ c : Fin 6, ¬ ((nI 5 ||| nI 0) ||| nI c.val) < 0 ∧ nI c.val ≤ nI 5 - nI 0 := by decide +kernel
    exact h9 ⟨nn, by omega⟩
  refine lv_iload_n hx hb dJ5_checkFromIndexSize_0 rfl (lv_at hl 2 rfl) ?_
  refine lv_iload_n hx hb dJ5_checkFromIndexSize_1 rfl (lv_at hl 0 rfl) ?_
  refine lv_ior hx hb dJ5_checkFromIndexSize_2 ?_
  refine lv_iload_n hx hb dJ5_checkFromIndexSize_3 rfl (lv_at hl 1 rfl) ?_
  refine lv_ior hx hb dJ5_checkFromIndexSize_4 ?_
  refine lv_if_lt (tgt := 15) hx hb dJ5_checkFromIndexSize_5 (by decide) (fun c_1 => absurd c_1 hc9.1) (fun _ => ?_)
  refine lv_iload_n hx hb dJ5_checkFromIndexSize_8 rfl (lv_at hl 1 rfl) ?_
  refine lv_iload_n hx hb dJ5_checkFromIndexSize_9 rfl (lv_at hl 2 rfl) ?_
  refine lv_iload_n hx hb dJ5_checkFromIndexSize_10 rfl (lv_at hl 0 rfl) ?_
  refine lv_isub hx hb dJ5_checkFromIndexSize_11 ?_
  refine lv_icmp_le (tgt := 23) hx hb dJ5_checkFromIndexSize_12 (by decide) (fun _ => ?_) (fun c_1 => absurd hc9.2 c_1)
  refine lv_iload_n hx hb dJ5_checkFromIndexSize_23 rfl (lv_at hl 0 rfl) ?_
  exact W.iret (v := nI 0) hx hb hr (fun t ht hW => ⟨nI 0, rfl, rfl, ht⟩) hS.2.2 dJ5_checkFromIndexSize_24
set_option maxHeartbeats 4000000 in
theorem eJ4_checkBoundsOffCount (l : Launch) (ad : SAD) (z nn : Nat) (h : nn ≤ 5) : Met l yJ4_checkBoundsOffCount (ws_ yJ4_checkBoundsOffCount cJ4_checkBoundsOffCount 3 (some .int)) ({ frames := 1, cells := 0, slots := 0, locals := 23 } : Room) (va_Pc [.int (nI 0), .int (nI nn), .int (nI 5)] (fun U => sV ad z U U.heap)) (vp_Si (fun r => r = nI 0)) 0 0 (fun _ => False) := by
  refine Met.ofW (cc := cJ4_checkBoundsOffCount) (maxL := 3) (ret := (some .int)) (by decide) rfl ?_
  intro p e s m args below meth c s₁ B hml hv
  obtain ⟨rfl, hV⟩ := hv
  have hx := B.exec
  have hb := B.bytes
  have hr := B.returns
  have hts := atoms_spec (ws := ws_ yJ4_checkBoundsOffCount cJ4_checkBoundsOffCount 3 (some .int)) B.pre
  have hts : ∀ w ∈ lw_all, w.before _ s = true := fun w h => hts w (List.mem_cons_of_mem _ h)
  have hown : s.vm.findClass RJ4 = some m.cls := findClass_of_methodNamed B.named
  have hlocks := B.notSynchronized
  have hS : va_S (fun _ => False) s.heap s.heap [] := va_S.rf
  have hl := lv_entry ([.int (nI 0), .int (nI nn), .int (nI 5)]) (n := 3) (Nat.le_of_ble_eq_true rfl)
  rw [lg_entry_eq]
  generalize (lg_sl ([.int (nI 0), .int (nI nn), .int (nI 5)]) ++ List.replicate (3 - (lg_sl ([.int (nI 0), .int (nI nn), .int (nI 5)])).length) Slot.unset).toArray = ls at hl ⊢
  have hl : lv_has ls 3 [(0, .int (nI 0)), (1, .int (nI nn)), (2, .int (nI 5))] := hl
  have hSz : va_S (sA z) s.heap s.heap [] := va_S.rf
  refine lv_iload_n hx hb dJ4_checkBoundsOffCount_0 rfl (lv_at hl 0 rfl) ?_
  refine lv_iload_n hx hb dJ4_checkBoundsOffCount_1 rfl (lv_at hl 1 rfl) ?_
  refine lv_iload_n hx hb dJ4_checkBoundsOffCount_2 rfl (lv_at hl 2 rfl) ?_
  rcases hV.2.2.2.1 with hZ | ⟨t, hZ⟩
  · refine va_gets hx hb hZ hSz hown (hts _ q518) (fun _ h9 => h9) dJ4_checkBoundsOffCount_3 ?_
    refine vp_callSi (W.runS (As := [.int (nI 0), .int (nI nn), .int (nI 5), .null]) (rest := []) ⟨hx, hb, hml, hown, hts⟩ (eJ5_checkFromIndexSizeN l nn h) (va_cwS 4 hts (lw_S q520 q521 q130 q522) rfl rfl rfl ⟨by decide, by decide, by decide +kernel⟩ ⟨Nat.le_of_ble_eq_true rfl, Nat.le_of_ble_eq_true rfl⟩) ⟨e_blindT, fun U hU hW => ⟨rfl, trivial⟩⟩ rfl rfl hl.1 rfl (lv_room (Nat.le_of_ble_eq_true rfl)) dJ4_checkBoundsOffCount_6 ⟨Nat.zero_le _, Nat.zero_le _⟩) (fun r hr9 => ?_)
    exact W.iret (v := r) hx hb hr (fun t ht hW => ⟨r, rfl, hr9, ht⟩) hS.2.2 dJ4_checkBoundsOffCount_9
  · refine va_gets hx hb hZ hSz hown (hts _ q518) (fun _ h9 => h9) dJ4_checkBoundsOffCount_3 ?_
    refine vp_callSi (W.runS (As := [.int (nI 0), .int (nI nn), .int (nI 5), .ref t]) (rest := []) ⟨hx, hb, hml, hown, hts⟩ (eJ5_checkFromIndexSizeR l nn t h) (va_cwS 4 hts (lw_S q520 q521 q130 q522) rfl rfl rfl ⟨by decide, by decide, by decide +kernel⟩ ⟨Nat.le_of_ble_eq_true rfl, Nat.le_of_ble_eq_true rfl⟩) ⟨e_blindT, fun U hU hW => ⟨rfl, trivial⟩⟩ rfl rfl hl.1 rfl (lv_room (Nat.le_of_ble_eq_true rfl)) dJ4_checkBoundsOffCount_6 ⟨Nat.zero_le _, Nat.zero_le _⟩) (fun r hr9 => ?_)
    exact W.iret (v := r) hx hb hr (fun t ht hW => ⟨r, rfl, hr9, ht⟩) hS.2.2 dJ4_checkBoundsOffCount_9
