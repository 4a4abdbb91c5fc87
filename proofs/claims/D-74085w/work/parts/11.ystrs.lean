set_option maxRecDepth 100000
/-- addresses: of the text constants, of their bytes, of the table of primes -/
abbrev SAD : Type := (Nat → Nat) × (Nat → Nat) × Nat
def sA (z : Nat) : Nat → Prop := fun q => z ≤ q
def slen : List Nat := [1, 1, 1, 4, 4, 5, 5, 3, 3, 3, 0, 1, 1, 1, 4, 4, 5, 5, 3, 3, 3, 0]
def sby : List (List Int32) := [[120], [121], [122], [114, 105, 110, 103], [112, 111, 108, 121], [112, 114, 105, 109, 101], [111, 114, 100, 101, 114], [108, 101, 120], [100, 101, 103], [114, 101, 118], [], [120], [121], [122], [114, 105, 110, 103], [112, 111, 108, 121], [112, 114, 105, 109, 101], [111, 114, 100, 101, 114], [108, 101, 120], [100, 101, 103], [114, 101, 118], []]
def sown : List String := ["TermDeskModel", "TermDeskModel", "TermDeskModel", "TermDeskModel", "TermDeskModel", "TermDeskModel", "TermDeskModel", "TermDeskModel", "TermDeskModel", "TermDeskModel", "TermDesk$Scanner", "TermDesk$Scanner", "TermDesk$Scanner", "TermDesk$Scanner", "TermDesk$Scanner", "TermDesk$Scanner", "TermDesk$Scanner", "TermDesk$Scanner", "TermDesk$Scanner", "TermDesk$Scanner", "TermDesk$Scanner", "java/lang/String"]
def sidx : List Nat := [156, 158, 160, 171, 176, 181, 191, 193, 195, 197, 76, 107, 109, 111, 131, 133, 141, 153, 155, 157, 159, 7]
def stx : List String := ["x", "y", "z", "ring", "poly", "prime", "order", "lex", "deg", "rev", "", "x", "y", "z", "ring", "poly", "prime", "order", "lex", "deg", "rev", ""]
def sprime : List Int32 := [0, 0, 1, 1, 0, 1, 0, 1, 0, 0, 0, 1, 0, 1, 0, 0, 0, 1, 0, 1, 0, 0, 0, 1, 0, 0, 0, 0, 0, 1, 0, 1, 0, 0, 0, 0, 0, 1, 0, 0, 0, 1, 0, 1, 0, 0, 0, 1, 0, 0, 0, 0, 0, 1, 0, 0, 0, 0, 0, 1, 0, 1, 0, 0, 0, 0, 0, 1, 0, 0, 0, 1, 0, 1, 0, 0, 0, 0, 0, 1, 0, 0, 0, 1, 0, 0, 0, 0, 0, 1, 0, 0, 0, 0, 0, 0, 0, 1]
def sS (ad : SAD) (z : Nat) (U : State) (H : Heap) : Prop := ∀ i : Nat, i < 22 → va_O "java/lang/String" (ad.1 i) (sA z) U H ∧ va_OF "java/lang/String" "coder" "B" (.int 0) (ad.1 i) (sA z) U H ∧ va_OF "java/lang/String" "value" "[B" (.ref (ad.2.1 i)) (ad.1 i) (sA z) U H ∧ va_T .byte (ad.2.1 i) (slen.getD i 0) (fun j => .int ((sby.getD i []).getD j 0)) (sA z) U H
def sR (ad : SAD) (U : State) : Prop := ∀ i : Nat, i < 22 → vk_R (sown.getD i "") (sidx.getD i 0) (stx.getD i "") (ad.1 i) U
def sZ (ad : SAD) (z : Nat) (U : State) (H : Heap) : Prop := va_Z "java/lang/String" "COMPACT_STRINGS" "Z" (.int 1) (sA z) U H ∧ va_Zq "jdk/internal/util/Preconditions" "SIOOBE_FORMATTER" "Ljava/util/function/BiFunction;" (sA z) U H ∧ va_Z "TermDesk" "PRIME" "[I" (.ref ad.2.2) (sA z) U H ∧ va_T .int ad.2.2 98 (fun j => .int (sprime.getD j 0)) (sA z) U H ∧ vx_Zq "java/lang/Throwable" "UNASSIGNED_STACK" "[Ljava/lang/StackTraceElement;" (sA z) U H ∧ vx_Zq "java/lang/Throwable" "SUPPRESSED_SENTINEL" "Ljava/util/List;" (sA z) U H
def sV (ad : SAD) (z : Nat) (U : State) (H : Heap) : Prop := sS ad z U H ∧ sR ad U ∧ sZ ad z U H
theorem sV.go {ad : SAD} {z : Nat} {s U : State} {H H1 : Heap} (h : sV ad z s H) (hW : s.WarmedH U.vm) (hq : ∀ q : Nat, q < z → H1[q]? = H[q]?) : sV ad z U H1 := by
  have hk : ∀ a : Nat, a < H.size → ¬ sA z a → H1[a]? = H[a]? := fun a _ h2 => hq a (Nat.not_le.mp h2)
  have hA := hW.alike
  obtain ⟨h1, h2, z1, z2, z3, z4, z5, z6⟩ := h
  exact ⟨fun i hi => ⟨((h1 i hi).1.moved hA).kept hk, ((h1 i hi).2.1.moved hA).kept hk, ((h1 i hi).2.2.1.moved hA).kept hk, ((h1 i hi).2.2.2.moved hA).kept hk⟩, fun i hi => (h2 i hi).warm hW, (z1.moved hA).kept hk, (z2.moved hA).kept hk, (z3.moved hA).kept hk, (z4.moved hA).kept hk, (z5.moved hA).kept hk, (z6.moved hA).kept hk⟩
theorem sV.same {ad : SAD} {z : Nat} {s U : State} {H : Heap} (h : sV ad z s H) (hv : s.vm = U.vm) : sV ad z U H := by
  have hA : s.vm.Alike U.vm := by rw [hv]; exact Vm.Alike.refl U.vm
  obtain ⟨h1, h2, z1, z2, z3, z4, z5, z6⟩ := h
  exact ⟨fun i hi => ⟨(h1 i hi).1.moved hA, (h1 i hi).2.1.moved hA, (h1 i hi).2.2.1.moved hA, (h1 i hi).2.2.2.moved hA⟩, fun i hi => (h2 i hi).same hv.symm, z1.moved hA, z2.moved hA, z3.moved hA, z4.moved hA, z5.moved hA, z6.moved hA⟩
theorem va_S.mono {A B : Nat → Prop} {H0 H : Heap} {locs : List Loc} (h : va_S A H0 H locs) (hAB : ∀ q, A q → B q) : va_S B H0 H locs := ⟨h.1, fun q h1 h2 => h.2.1 q h1 (fun z => h2 (hAB q z)), fun l hl => hAB _ (h.2.2 l hl)⟩
abbrev ePc (av : List Value) (P : State → Prop) : Array Value → State → Prop := va_Pc av P
theorem e_blind {ad : SAD} {z : Nat} {av : List Value} : FrameBlind (va_Pc av (fun U => sV ad z U U.heap)) := fun a U g mk q => ⟨q.1, q.2.same rfl⟩
theorem e_blindT {av : List Value} : FrameBlind (va_Pc av (fun _ => True)) := fun a U g mk q => ⟨q.1, trivial⟩
theorem e_fits {i j : Nat} (hi : i < 22) (hj : j < slen.getD i 0) : ∃ v : Nat, v < 128 ∧ (sby.getD i []).getD j 0 = nI v ∧ (nI v &&& 255) = nI v ∧ ((nI v).toUInt32 % 65536).toInt32 = nI v := by
  have h : ∀ i : Fin 22, ∀ j : Fin 6, j.val < slen.getD i.val 0 → ∃ v : Fin 128, (sby.getD i.val []).getD j.val 0 = nI v.val ∧ (nI v.val &&& 255) = nI v.val ∧ ((nI v.val).toUInt32 % 65536).toInt32 = nI v.val := by decide +kernel
  have hj6 : j < 6 := by
    have h2 : ∀ i : Fin 22, slen.getD i.val 0 ≤ 5 := by decide +kernel
    have := h2 ⟨i, hi⟩
    show j < 6
    simp only at this
    omega
  obtain ⟨v, hv⟩ := h ⟨i, hi⟩ ⟨j, hj6⟩ hj
  exact ⟨v.val, v.isLt, hv⟩
theorem e_len {i : Nat} (hi : i < 22) : slen.getD i 0 ≤ 5 := by
  have h2 : ∀ i : Fin 22, slen.getD i.val 0 ≤ 5 := by decide +kernel
  exact h2 ⟨i, hi⟩
set_option maxHeartbeats 4000000 in
theorem eJ5_checkIndexN (l : Launch) (a n : Nat) (h : a < n) (hn : n < 2 ^ 31) : Met l yJ5_checkIndex (ws_ yJ5_checkIndex cJ5_checkIndex 3 (some .int)) ({ frames := 0, cells := 0, slots := 0, locals := 0 } : Room) (va_Pc [.int (nI a), .int (nI n), .null] (fun _ => True)) (vp_Si (fun r => r = nI a)) 0 0 (fun _ => False) := by
  refine Met.ofW (cc := cJ5_checkIndex) (maxL := 3) (ret := (some .int)) (by decide) rfl ?_
  intro p e s m args below meth c s₁ B hml hv
  obtain ⟨rfl, hV⟩ := hv
  have hx := B.exec
  have hb := B.bytes
  have hr := B.returns
  have hts := atoms_spec (ws := ws_ yJ5_checkIndex cJ5_checkIndex 3 (some .int)) B.pre
  have hts : ∀ w ∈ lw_all, w.before _ s = true := fun w h => hts w (List.mem_cons_of_mem _ h)
  have hown : s.vm.findClass RJ5 = some m.cls := findClass_of_methodNamed B.named
  have hlocks := B.notSynchronized
  have hS : va_S (fun _ => False) s.heap s.heap [] := va_S.rf
  have hl := lv_entry ([.int (nI a), .int (nI n), .null]) (n := 3) (Nat.le_of_ble_eq_true rfl)
  rw [lg_entry_eq]
  generalize (lg_sl ([.int (nI a), .int (nI n), .null]) ++ List.replicate (3 - (lg_sl ([.int (nI a), .int (nI n), .null])).length) Slot.unset).toArray = ls at hl ⊢
  have hl : lv_has ls 3 [(0, .int (nI a)), (1, .int (nI n)), (2, .null)] := hl
  refine lv_iload_n hx hb dJ5_checkIndex_0 rfl (lv_at hl 0 rfl) ?_
  refine lv_if_lt (tgt := 9) hx hb dJ5_checkIndex_1 (by decide) (fun c_1 => absurd c_1 (nI_pos (by omega))) (fun _ => ?_)
  refine lv_iload_n hx hb dJ5_checkIndex_4 rfl (lv_at hl 0 rfl) ?_
  refine lv_iload_n hx hb dJ5_checkIndex_5 rfl (lv_at hl 1 rfl) ?_
  refine lv_icmp_lt (tgt := 16) hx hb dJ5_checkIndex_6 (by decide) (fun _ => ?_) (fun c_1 => absurd (nI_lt h hn) c_1)
  refine lv_iload_n hx hb dJ5_checkIndex_16 rfl (lv_at hl 0 rfl) ?_
  exact W.iret (v := nI a) hx hb hr (fun t ht hW => ⟨nI a, rfl, rfl, ht⟩) hS.2.2 dJ5_checkIndex_17
set_option maxHeartbeats 4000000 in
theorem eJ5_checkIndexR (l : Launch) (a n : Nat) (t : Nat) (h : a < n) (hn : n < 2 ^ 31) : Met l yJ5_checkIndex (ws_ yJ5_checkIndex cJ5_checkIndex 3 (some .int)) ({ frames := 0, cells := 0, slots := 0, locals := 0 } : Room) (va_Pc [.int (nI a), .int (nI n), .ref t] (fun _ => True)) (vp_Si (fun r => r = nI a)) 0 0 (fun _ => False) := by
  refine Met.ofW (cc := cJ5_checkIndex) (maxL := 3) (ret := (some .int)) (by decide) rfl ?_
  intro p e s m args below meth c s₁ B hml hv
  obtain ⟨rfl, hV⟩ := hv
  have hx := B.exec
  have hb := B.bytes
  have hr := B.returns
  have hts := atoms_spec (ws := ws_ yJ5_checkIndex cJ5_checkIndex 3 (some .int)) B.pre
  have hts : ∀ w ∈ lw_all, w.before _ s = true := fun w h => hts w (List.mem_cons_of_mem _ h)
  have hown : s.vm.findClass RJ5 = some m.cls := findClass_of_methodNamed B.named
  have hlocks := B.notSynchronized
  have hS : va_S (fun _ => False) s.heap s.heap [] := va_S.rf
  have hl := lv_entry ([.int (nI a), .int (nI n), .ref t]) (n := 3) (Nat.le_of_ble_eq_true rfl)
  rw [lg_entry_eq]
  generalize (lg_sl ([.int (nI a), .int (nI n), .ref t]) ++ List.replicate (3 - (lg_sl ([.int (nI a), .int (nI n), .ref t])).length) Slot.unset).toArray = ls at hl ⊢
  have hl : lv_has ls 3 [(0, .int (nI a)), (1, .int (nI n)), (2, .ref t)] := hl
  refine lv_iload_n hx hb dJ5_checkIndex_0 rfl (lv_at hl 0 rfl) ?_
  refine lv_if_lt (tgt := 9) hx hb dJ5_checkIndex_1 (by decide) (fun c_1 => absurd c_1 (nI_pos (by omega))) (fun _ => ?_)
  refine lv_iload_n hx hb dJ5_checkIndex_4 rfl (lv_at hl 0 rfl) ?_
  refine lv_iload_n hx hb dJ5_checkIndex_5 rfl (lv_at hl 1 rfl) ?_
  refine lv_icmp_lt (tgt := 16) hx hb dJ5_checkIndex_6 (by decide) (fun _ => ?_) (fun c_1 => absurd (nI_lt h hn) c_1)
  refine lv_iload_n hx hb dJ5_checkIndex_16 rfl (lv_at hl 0 rfl) ?_
  exact W.iret (v := nI a) hx hb hr (fun t ht hW => ⟨nI a, rfl, rfl, ht⟩) hS.2.2 dJ5_checkIndex_17
set_option maxHeartbeats 4000000 in
theorem eJ4_checkIndex (l : Launch) (ad : SAD) (z a n : Nat) (h : a < n) (hn : n < 2 ^ 31) : Met l yJ4_checkIndex (ws_ yJ4_checkIndex cJ4_checkIndex 2 none) ({ frames := 1, cells := 0, slots := 0, locals := 22 } : Room) (va_Pc [.int (nI a), .int (nI n)] (fun U => sV ad z U U.heap)) (va_Sv (fun _ => True)) 0 0 (fun _ => False) := by
  refine Met.ofW (cc := cJ4_checkIndex) (maxL := 2) (ret := none) (by decide) rfl ?_
  intro p e s m args below meth c s₁ B hml hv
  obtain ⟨rfl, hV⟩ := hv
  have hx := B.exec
  have hb := B.bytes
  have hr := B.returns
  have hts := atoms_spec (ws := ws_ yJ4_checkIndex cJ4_checkIndex 2 none) B.pre
  have hts : ∀ w ∈ lw_all, w.before _ s = true := fun w h => hts w (List.mem_cons_of_mem _ h)
  have hown : s.vm.findClass RJ4 = some m.cls := findClass_of_methodNamed B.named
  have hlocks := B.notSynchronized
  have hS : va_S (fun _ => False) s.heap s.heap [] := va_S.rf
  have hl := lv_entry ([.int (nI a), .int (nI n)]) (n := 2) (Nat.le_of_ble_eq_true rfl)
  rw [lg_entry_eq]
  generalize (lg_sl ([.int (nI a), .int (nI n)]) ++ List.replicate (2 - (lg_sl ([.int (nI a), .int (nI n)])).length) Slot.unset).toArray = ls at hl ⊢
  have hl : lv_has ls 2 [(0, .int (nI a)), (1, .int (nI n))] := hl
  have hSz : va_S (sA z) s.heap s.heap [] := va_S.rf
  refine lv_iload_n hx hb dJ4_checkIndex_0 rfl (lv_at hl 0 rfl) ?_
  refine lv_iload_n hx hb dJ4_checkIndex_1 rfl (lv_at hl 1 rfl) ?_
  rcases hV.2.2.2.1 with hZ | ⟨t, hZ⟩
  · refine va_gets hx hb hZ hSz hown (hts _ q518) (fun _ h9 => h9) dJ4_checkIndex_2 ?_
    refine vp_callSi (W.runS (As := [.int (nI a), .int (nI n), .null]) (rest := []) ⟨hx, hb, hml, hown, hts⟩ (eJ5_checkIndexN l a n h hn) (va_cwS 3 hts (lw_S q1436 q1437 q130 q1438) rfl rfl rfl ⟨by decide, by decide, by decide +kernel⟩ ⟨Nat.le_of_ble_eq_true rfl, Nat.le_of_ble_eq_true rfl⟩) ⟨e_blindT, fun U hU hW => ⟨rfl, trivial⟩⟩ rfl rfl hl.1 rfl (lv_room (Nat.le_of_ble_eq_true rfl)) dJ4_checkIndex_5 ⟨Nat.zero_le _, Nat.zero_le _⟩) (fun r _ => ?_)
    refine lv_pop hx hb dJ4_checkIndex_8 rfl ?_
    exact W.vret hx hb hr (fun t ht hW => ⟨rfl, trivial, ht⟩) hS.2.2 dJ4_checkIndex_9
  · refine va_gets hx hb hZ hSz hown (hts _ q518) (fun _ h9 => h9) dJ4_checkIndex_2 ?_
    refine vp_callSi (W.runS (As := [.int (nI a), .int (nI n), .ref t]) (rest := []) ⟨hx, hb, hml, hown, hts⟩ (eJ5_checkIndexR l a n t h hn) (va_cwS 3 hts (lw_S q1436 q1437 q130 q1438) rfl rfl rfl ⟨by decide, by decide, by decide +kernel⟩ ⟨Nat.le_of_ble_eq_true rfl, Nat.le_of_ble_eq_true rfl⟩) ⟨e_blindT, fun U hU hW => ⟨rfl, trivial⟩⟩ rfl rfl hl.1 rfl (lv_room (Nat.le_of_ble_eq_true rfl)) dJ4_checkIndex_5 ⟨Nat.zero_le _, Nat.zero_le _⟩) (fun r _ => ?_)
    refine lv_pop hx hb dJ4_checkIndex_8 rfl ?_
    exact W.vret hx hb hr (fun t ht hW => ⟨rfl, trivial, ht⟩) hS.2.2 dJ4_checkIndex_9
set_option maxHeartbeats 4000000 in
theorem eJ7_charAt (l : Launch) (ad : SAD) (z i j : Nat) (hi : i < 22) (hj : j < slen.getD i 0) : Met l yJ7_charAt (ws_ yJ7_charAt cJ7_charAt 2 (some .char)) ({ frames := 2, cells := 0, slots := 0, locals := 43 } : Room) (va_Pc [.ref (ad.2.1 i), .int (nI j)] (fun U => sV ad z U U.heap)) (vp_Si (fun r => r = (sby.getD i []).getD j 0)) 0 0 (fun _ => False) := by
  refine Met.ofW (cc := cJ7_charAt) (maxL := 2) (ret := (some .char)) (by decide) rfl ?_
  intro p e s m args below meth c s₁ B hml hv
  obtain ⟨rfl, hV⟩ := hv
  have hx := B.exec
  have hb := B.bytes
  have hr := B.returns
  have hts := atoms_spec (ws := ws_ yJ7_charAt cJ7_charAt 2 (some .char)) B.pre
  have hts : ∀ w ∈ lw_all, w.before _ s = true := fun w h => hts w (List.mem_cons_of_mem _ h)
  have hown : s.vm.findClass RJ7 = some m.cls := findClass_of_methodNamed B.named
  have hlocks := B.notSynchronized
  have hS : va_S (fun _ => False) s.heap s.heap [] := va_S.rf
  have hl := lv_entry ([.ref (ad.2.1 i), .int (nI j)]) (n := 2) (Nat.le_of_ble_eq_true rfl)
  rw [lg_entry_eq]
  generalize (lg_sl ([.ref (ad.2.1 i), .int (nI j)]) ++ List.replicate (2 - (lg_sl ([.ref (ad.2.1 i), .int (nI j)])).length) Slot.unset).toArray = ls at hl ⊢
  have hl : lv_has ls 2 [(0, .ref (ad.2.1 i)), (1, .int (nI j))] := hl
  have hSz : va_S (sA z) s.heap s.heap [] := va_S.rf
  have hT := (hV.1 i hi).2.2.2
  have h5 := e_len hi
  obtain ⟨v, hv1, hv2, hv3, hv4⟩ := e_fits hi hj
  refine lv_iload_n hx hb dJ7_charAt_0 rfl (lv_at hl 1 rfl) ?_
  refine lv_aload_n hx hb dJ7_charAt_1 rfl (lv_at hl 0 rfl) ?_
  refine va_tlen (v := nI (slen.getD i 0)) hx hb hT hSz rfl dJ7_charAt_2 ?_
  refine va_csv (W.runS (As := [.int (nI j), .int (nI (slen.getD i 0))]) (rest := []) ⟨hx, hb, hml, hown, hts⟩ (eJ4_checkIndex l ad z j (slen.getD i 0) hj (by omega)) (va_cwS 2 hts (lw_S q1433 q1434 q129 q1435) rfl rfl rfl ⟨by decide, by decide, by decide +kernel⟩ ⟨Nat.le_of_ble_eq_true rfl, Nat.le_of_ble_eq_true rfl⟩) ⟨e_blind, fun U hU hW => ⟨rfl, hV.go hW (fun q _ => by rw [hU])⟩⟩ rfl rfl hl.1 rfl (lv_room (Nat.le_of_ble_eq_true rfl)) dJ7_charAt_3 ⟨Nat.zero_le _, Nat.zero_le _⟩) (fun _ => ?_)
  refine lv_aload_n hx hb dJ7_charAt_6 rfl (lv_at hl 0 rfl) ?_
  refine lv_iload_n hx hb dJ7_charAt_7 rfl (lv_at hl 1 rfl) ?_
  refine va_tb (v := .int (nI v)) hx hb hT hSz (vp_in_nI hj (by omega)) (by rw [nI_clamp (by omega), hv2]) dJ7_charAt_8 ?_
  refine lv_sipush (v := 255) hx hb dJ7_charAt_9 (by decide) ?_
  refine lv_iand hx hb dJ7_charAt_12 ?_
  refine lv_i2c (v := nI v) hx hb dJ7_charAt_13 (by rw [hv3, hv4]) ?_
  exact W.zret (v := nI v) hx hb hr (pk_charN (by omega)).1 (fun t ht hW => ⟨nI v, rfl, hv2.symm, ht⟩) hS.2.2 dJ7_charAt_14
set_option maxHeartbeats 4000000 in
theorem eJ4_isLatin1 (l : Launch) (ad : SAD) (z i : Nat) (hi : i < 22) : Met l yJ4_isLatin1 (ws_ yJ4_isLatin1 cJ4_isLatin1 1 (some .boolean)) ({ frames := 0, cells := 0, slots := 0, locals := 0 } : Room) (va_Pc [.ref (ad.1 i)] (fun U => sV ad z U U.heap)) (vp_Si (fun r => r = 1)) 0 0 (fun _ => False) := by
  refine Met.ofW (cc := cJ4_isLatin1) (maxL := 1) (ret := (some .boolean)) (by decide) rfl ?_
  intro p e s m args below meth c s₁ B hml hv
  obtain ⟨rfl, hV⟩ := hv
  have hx := B.exec
  have hb := B.bytes
  have hr := B.returns
  have hts := atoms_spec (ws := ws_ yJ4_isLatin1 cJ4_isLatin1 1 (some .boolean)) B.pre
  have hts : ∀ w ∈ lw_all, w.before _ s = true := fun w h => hts w (List.mem_cons_of_mem _ h)
  have hown : s.vm.findClass RJ4 = some m.cls := findClass_of_methodNamed B.named
  have hlocks := B.notSynchronized
  have hS : va_S (fun _ => False) s.heap s.heap [] := va_S.rf
  have hl := lv_entry ([.ref (ad.1 i)]) (n := 1) (Nat.le_of_ble_eq_true rfl)
  rw [lg_entry_eq]
  generalize (lg_sl ([.ref (ad.1 i)]) ++ List.replicate (1 - (lg_sl ([.ref (ad.1 i)])).length) Slot.unset).toArray = ls at hl ⊢
  have hl : lv_has ls 1 [(0, .ref (ad.1 i))] := hl
  have hSz : va_S (sA z) s.heap s.heap [] := va_S.rf
  refine va_gets hx hb hV.2.2.1 hSz hown (hts _ q528) (fun _ h9 => h9) dJ4_isLatin1_0 ?_
  refine lv_if_eq (tgt := 17) hx hb dJ4_isLatin1_3 (by decide) (fun c_1 => absurd c_1 (by decide)) (fun _ => ?_)
  refine lv_aload_n hx hb dJ4_isLatin1_6 rfl (lv_at hl 0 rfl) ?_
  refine vk_getf hx hb (hV.1 i hi).2.1 hSz hown (hts _ q573) (fun _ h9 => h9) dJ4_isLatin1_7 ?_
  refine lv_if_ne (tgt := 17) hx hb dJ4_isLatin1_10 (by decide) (fun c_1 => absurd rfl c_1) (fun _ => ?_)
  refine lv_iconst (v := 1) hx hb dJ4_isLatin1_13 (by decide) ?_
  refine lv_goto (tgt := 18) hx hb dJ4_isLatin1_14 (by decide) ?_
  exact W.zret (v := 1) hx hb hr rfl (fun t ht hW => ⟨1, rfl, rfl, ht⟩) hS.2.2 dJ4_isLatin1_18
set_option maxHeartbeats 4000000 in
theorem eJ4_coder (l : Launch) (ad : SAD) (z i : Nat) (hi : i < 22) : Met l yJ4_coder (ws_ yJ4_coder cJ4_coder 1 (some .byte)) ({ frames := 0, cells := 0, slots := 0, locals := 0 } : Room) (va_Pc [.ref (ad.1 i)] (fun U => sV ad z U U.heap)) (vp_Si (fun r => r = 0)) 0 0 (fun _ => False) := by
  refine Met.ofW (cc := cJ4_coder) (maxL := 1) (ret := (some .byte)) (by decide) rfl ?_
  intro p e s m args below meth c s₁ B hml hv
  obtain ⟨rfl, hV⟩ := hv
  have hx := B.exec
  have hb := B.bytes
  have hr := B.returns
  have hts := atoms_spec (ws := ws_ yJ4_coder cJ4_coder 1 (some .byte)) B.pre
  have hts : ∀ w ∈ lw_all, w.before _ s = true := fun w h => hts w (List.mem_cons_of_mem _ h)
  have hown : s.vm.findClass RJ4 = some m.cls := findClass_of_methodNamed B.named
  have hlocks := B.notSynchronized
  have hS : va_S (fun _ => False) s.heap s.heap [] := va_S.rf
  have hl := lv_entry ([.ref (ad.1 i)]) (n := 1) (Nat.le_of_ble_eq_true rfl)
  rw [lg_entry_eq]
  generalize (lg_sl ([.ref (ad.1 i)]) ++ List.replicate (1 - (lg_sl ([.ref (ad.1 i)])).length) Slot.unset).toArray = ls at hl ⊢
  have hl : lv_has ls 1 [(0, .ref (ad.1 i))] := hl
  have hSz : va_S (sA z) s.heap s.heap [] := va_S.rf
  refine va_gets hx hb hV.2.2.1 hSz hown (hts _ q528) (fun _ h9 => h9) dJ4_coder_0 ?_
  refine lv_if_eq (tgt := 13) hx hb dJ4_coder_3 (by decide) (fun c_1 => absurd c_1 (by decide)) (fun _ => ?_)
  refine lv_aload_n hx hb dJ4_coder_6 rfl (lv_at hl 0 rfl) ?_
  refine vk_getf hx hb (hV.1 i hi).2.1 hSz hown (hts _ q573) (fun _ h9 => h9) dJ4_coder_7 ?_
  refine lv_goto (tgt := 14) hx hb dJ4_coder_10 (by decide) ?_
  exact W.zret (v := 0) hx hb hr rfl (fun t ht hW => ⟨0, rfl, rfl, ht⟩) hS.2.2 dJ4_coder_14
set_option maxHeartbeats 4000000 in
theorem eJ4_length (l : Launch) (ad : SAD) (z i : Nat) (hi : i < 22) : Met l yJ4_length (ws_ yJ4_length cJ4_length 1 (some .int)) ({ frames := 1, cells := 0, slots := 0, locals := 20 } : Room) (va_Pc [.ref (ad.1 i)] (fun U => sV ad z U U.heap)) (vp_Si (fun r => r = nI (slen.getD i 0))) 0 0 (fun _ => False) := by
  refine Met.ofW (cc := cJ4_length) (maxL := 1) (ret := (some .int)) (by decide) rfl ?_
  intro p e s m args below meth c s₁ B hml hv
  obtain ⟨rfl, hV⟩ := hv
  have hx := B.exec
  have hb := B.bytes
  have hr := B.returns
  have hts := atoms_spec (ws := ws_ yJ4_length cJ4_length 1 (some .int)) B.pre
  have hts : ∀ w ∈ lw_all, w.before _ s = true := fun w h => hts w (List.mem_cons_of_mem _ h)
  have hown : s.vm.findClass RJ4 = some m.cls := findClass_of_methodNamed B.named
  have hlocks := B.notSynchronized
  have hS : va_S (fun _ => False) s.heap s.heap [] := va_S.rf
  have hl := lv_entry ([.ref (ad.1 i)]) (n := 1) (Nat.le_of_ble_eq_true rfl)
  rw [lg_entry_eq]
  generalize (lg_sl ([.ref (ad.1 i)]) ++ List.replicate (1 - (lg_sl ([.ref (ad.1 i)])).length) Slot.unset).toArray = ls at hl ⊢
  have hl : lv_has ls 1 [(0, .ref (ad.1 i))] := hl
  have hSz : va_S (sA z) s.heap s.heap [] := va_S.rf
  have hT := (hV.1 i hi).2.2.2
  refine lv_aload_n hx hb dJ4_length_0 rfl (lv_at hl 0 rfl) ?_
  refine vk_getf hx hb (hV.1 i hi).2.2.1 hSz hown (hts _ q572) (fun _ h9 => h9) dJ4_length_1 ?_
  refine va_tlen (v := nI (slen.getD i 0)) hx hb hT hSz rfl dJ4_length_4 ?_
  refine lv_aload_n hx hb dJ4_length_5 rfl (lv_at hl 0 rfl) ?_
  obtain ⟨cellB, hc1, hc2, hc3, hc4⟩ := (hV.1 i hi).1
  refine vp_callSi (W.runV (As := []) (rest := [.int (nI (slen.getD i 0))]) ⟨hx, hb, hml, hown, hts⟩ (eJ4_coder l ad z i hi) (cwV 0 hts (lw_V q1422 q1423 q1424 q129 q1425) rfl rfl rfl ⟨rfl, by decide, by decide, by decide +kernel⟩ ⟨Nat.le_of_ble_eq_true rfl, Nat.le_of_ble_eq_true rfl⟩) ⟨e_blind, ⟨cellB, hc1, hc2, hc3⟩, fun U hU hW => ⟨rfl, hV.go hW (fun q _ => by rw [hU])⟩⟩ rfl rfl hl.1 rfl (lv_room (Nat.le_of_ble_eq_true rfl)) dJ4_length_6 ⟨Nat.zero_le _, Nat.zero_le _⟩) (fun r hr0 => ?_)
  subst hr0
  refine lv_ishr hx hb dJ4_length_9 ?_
  exact W.iret hx hb hr (fun t ht hW => ⟨_, rfl, sb_shr0 _, ht⟩) hS.2.2 dJ4_length_10
set_option maxHeartbeats 4000000 in
theorem eJ4_charAt (l : Launch) (ad : SAD) (z i j : Nat) (hi : i < 22) (hj : j < slen.getD i 0) : Met l yJ4_charAt (ws_ yJ4_charAt cJ4_charAt 2 (some .char)) ({ frames := 3, cells := 0, slots := 0, locals := 64 } : Room) (va_Pc [.ref (ad.1 i), .int (nI j)] (fun U => sV ad z U U.heap)) (vp_Si (fun r => r = (sby.getD i []).getD j 0)) 0 0 (fun _ => False) := by
  refine Met.ofW (cc := cJ4_charAt) (maxL := 2) (ret := (some .char)) (by decide) rfl ?_
  intro p e s m args below meth c s₁ B hml hv
  obtain ⟨rfl, hV⟩ := hv
  have hx := B.exec
  have hb := B.bytes
  have hr := B.returns
  have hts := atoms_spec (ws := ws_ yJ4_charAt cJ4_charAt 2 (some .char)) B.pre
  have hts : ∀ w ∈ lw_all, w.before _ s = true := fun w h => hts w (List.mem_cons_of_mem _ h)
  have hown : s.vm.findClass RJ4 = some m.cls := findClass_of_methodNamed B.named
  have hlocks := B.notSynchronized
  have hS : va_S (fun _ => False) s.heap s.heap [] := va_S.rf
  have hl := lv_entry ([.ref (ad.1 i), .int (nI j)]) (n := 2) (Nat.le_of_ble_eq_true rfl)
  rw [lg_entry_eq]
  generalize (lg_sl ([.ref (ad.1 i), .int (nI j)]) ++ List.replicate (2 - (lg_sl ([.ref (ad.1 i), .int (nI j)])).length) Slot.unset).toArray = ls at hl ⊢
  have hl : lv_has ls 2 [(0, .ref (ad.1 i)), (1, .int (nI j))] := hl
  have hSz : va_S (sA z) s.heap s.heap [] := va_S.rf
  obtain ⟨v, hv1, hv2, hv3, hv4⟩ := e_fits hi hj
  refine lv_aload_n hx hb dJ4_charAt_0 rfl (lv_at hl 0 rfl) ?_
  obtain ⟨cellB, hc1, hc2, hc3, hc4⟩ := (hV.1 i hi).1
  refine vp_callSi (W.runV (As := []) (rest := []) ⟨hx, hb, hml, hown, hts⟩ (eJ4_isLatin1 l ad z i hi) (cwV 0 hts (lw_V q610 q611 q612 q129 q613) rfl rfl rfl ⟨rfl, by decide, by decide, by decide +kernel⟩ ⟨Nat.le_of_ble_eq_true rfl, Nat.le_of_ble_eq_true rfl⟩) ⟨e_blind, ⟨cellB, hc1, hc2, hc3⟩, fun U hU hW => ⟨rfl, hV.go hW (fun q _ => by rw [hU])⟩⟩ rfl rfl hl.1 rfl (lv_room (Nat.le_of_ble_eq_true rfl)) dJ4_charAt_1 ⟨Nat.zero_le _, Nat.zero_le _⟩) (fun r hr0 => ?_)
  subst hr0
  refine lv_if_eq (tgt := 16) hx hb dJ4_charAt_4 (by decide) (fun c_1 => absurd c_1 (by decide)) (fun _ => ?_)
  refine lv_aload_n hx hb dJ4_charAt_7 rfl (lv_at hl 0 rfl) ?_
  refine vk_getf hx hb (hV.1 i hi).2.2.1 hSz hown (hts _ q572) (fun _ h9 => h9) dJ4_charAt_8 ?_
  refine lv_iload_n hx hb dJ4_charAt_11 rfl (lv_at hl 1 rfl) ?_
  refine vp_callSi (W.runS (As := [.ref (ad.2.1 i), .int (nI j)]) (rest := []) ⟨hx, hb, hml, hown, hts⟩ (eJ7_charAt l ad z i j hi hj) (va_cwS 2 hts (lw_S q1430 q1431 q132 q1432) rfl rfl rfl ⟨by decide, by decide, by decide +kernel⟩ ⟨Nat.le_of_ble_eq_true rfl, Nat.le_of_ble_eq_true rfl⟩) ⟨e_blind, fun U hU hW => ⟨rfl, hV.go hW (fun q _ => by rw [hU])⟩⟩ rfl rfl hl.1 rfl (lv_room (Nat.le_of_ble_eq_true rfl)) dJ4_charAt_12 ⟨Nat.zero_le _, Nat.zero_le _⟩) (fun r hr0 => ?_)
  rw [hv2] at hr0
  subst hr0
  exact W.zret (v := nI v) hx hb hr (pk_charN (by omega)).1 (fun t ht hW => ⟨nI v, rfl, hv2.symm, ht⟩) hS.2.2 dJ4_charAt_15
theorem sV.at {ad : SAD} {z b : Nat} {s : State} {A : Nat → Prop} {H : Heap} {locs : List Loc} (hV : sV ad z s s.heap) (hz : z ≤ b) (hb0 : b ≤ s.heap.size) (hS : va_S A s.heap H locs) (hA : ∀ q, A q → b ≤ q) {U : State} (hU : U.heap = H) (hW : s.WarmedH U.vm) : sV ad z U U.heap := hV.go hW (fun q hq => by rw [hU]; exact hS.2.1 q (by omega) (fun h9 => by have := hA q h9; omega))
theorem mA_ge {b q : Nat} (h : mA b q) : b ≤ q := h.1
theorem sV.into {ad : SAD} {z b : Nat} {s : State} {H : Heap} {locs : List Loc} (hV : sV ad z s s.heap) (hz : z ≤ b) (hb0 : b ≤ s.heap.size) (hS : va_S (mA b) s.heap H locs) {U : State} (hU : U.heap = H) (hW : s.WarmedH U.vm) : sV ad z U U.heap := hV.at hz hb0 hS (fun _ h => mA_ge h) hU hW
theorem sV.recv {ad : SAD} {z b i : Nat} {s : State} {H : Heap} {locs : List Loc} (hV : sV ad z s s.heap) (hz : z ≤ b) (hb0 : b ≤ s.heap.size) (hS : va_S (mA b) s.heap H locs) (hi : i < 22) : ∃ cellB : Cell, H[ad.1 i]? = some cellB ∧ cellB.vm.isStatics = false ∧ s.vm.findClass "java/lang/String" = some cellB.cls := by
  obtain ⟨cell, h1, h2, h3, h4⟩ := (hV.1 i hi).1
  have h5 : ad.1 i < z := Nat.not_le.mp h4
  exact ⟨cell, by rw [hS.2.1 _ (by omega) (fun h9 => by have := h9.1; omega)]; exact h1, h2, h3⟩
abbrev mPcS (D : va_G) (cI cB : ClassId) (b : Nat) (ad : SAD) (z : Nat) (av : List Value) (S : St) : Array Value → State → Prop := va_Pc av (fun U => mB D cI cB b S U ∧ sV ad z U U.heap)
section MS
variable {p : Program} {l : Launch} {e : Env} {R : Room} {s : State} {m : MethodId} {args : Array Value} {below : List Frame} {meth : Method} {c : Code} {H : Heap} {locs : List Loc} {cells slots : Nat} {Q : State → Prop}
variable {cc : ByteArray} {pc : Nat} {ls : Array Slot} {rest : List Value} {D : va_G} {cI cB : ClassId} {b : Nat} {S : St} {ad : SAD} {z : Nat}
theorem m_blindS {av : List Value} : FrameBlind (mPcS D cI cB b ad z av S) := fun a U g mk q => by obtain ⟨q0, ⟨q1, q2⟩, q3⟩ := q; exact ⟨q0, ⟨q1, va_K.moved (u := U) (U := U.calling g mk a) (Vm.Alike.refl U.vm) q2⟩, q3.same rfl⟩
variable {y : MethodName} {bytes : ByteArray} {maxL nL index n : Nat} {ret : Option FieldType} {rm : Room} {own : String} {As st0 : List Value}
theorem m_cViS {post : Int32 → St → Prop} (F : CallFix p m c cc nL s args lw_all own) (hM : Met l y (ws_ y bytes maxL ret) rm (mPcS D cI cB b ad z (.ref b :: As) S) (mQi D cI cB b post) 0 0 (mA b)) (cw : CallW R s args own RX7 index y bytes maxL ret (ws_ y bytes maxL ret) rm 0 0 n)
    (hV : sV ad z s s.heap) (hz : z ≤ b) (hb0 : b ≤ s.heap.size) (hK : va_K D mcl (mKt cI cB) s) (hP : mW D cI cB b S H) (hS : va_S (mA b) s.heap H locs) (hn : As.length = n) (hsize : ls.size = nL) (hstack : st0 = As.reverse ++ .ref b :: rest) (hW : (rest.map fun v => v.category).sum ≤ 8) (hdg : decode cc pc = .ok (.invokevirtual index, 3)) (hf : cells ≤ R.cells ∧ slots ≤ R.slots)
    (kk : ∀ (r : Int32) (S1 : St) (H1 : Heap) (locs1 : List Loc), post r S1 → mW D cI cB b S1 H1 → va_S (mA b) s.heap H1 locs1 → W p l e R s m args below meth c H1 locs1 cells slots Q (F0 m (pc + 3) ls (.int r :: rest))) : W p l e R s m args below meth c H locs cells slots Q (F0 m pc ls st0) :=
  va_calli (va_runV (As := As) (rest := rest) F hM cw ⟨m_blindS, va_recv hK hP.P0 (ci := 0) (q0 := 0) rfl rfl, fun U hU hW => ⟨rfl, ⟨by rw [hU]; exact hP, va_K.moved hW.alike hK⟩, hV.into hz hb0 hS hU hW⟩⟩ rfl hn hsize hstack (lv_room hW) hdg hf) hS (fun q _ h => h) (fun q h => h) (fun r S1 t H1 locs1 ht hvm hp hB hz hk hS1 => kk r S1 H1 locs1 hp (by rw [← ht]; exact hB.1) hS1)
theorem m_cVvS {post : St → Prop} (F : CallFix p m c cc nL s args lw_all own) (hM : Met l y (ws_ y bytes maxL ret) rm (mPcS D cI cB b ad z (.ref b :: As) S) (mQv D cI cB b post) 0 0 (mA b)) (cw : CallW R s args own RX7 index y bytes maxL ret (ws_ y bytes maxL ret) rm 0 0 n)
    (hV : sV ad z s s.heap) (hz : z ≤ b) (hb0 : b ≤ s.heap.size) (hK : va_K D mcl (mKt cI cB) s) (hP : mW D cI cB b S H) (hS : va_S (mA b) s.heap H locs) (hn : As.length = n) (hsize : ls.size = nL) (hstack : st0 = As.reverse ++ .ref b :: rest) (hW : (rest.map fun v => v.category).sum ≤ 8) (hdg : decode cc pc = .ok (.invokevirtual index, 3)) (hf : cells ≤ R.cells ∧ slots ≤ R.slots)
    (kk : ∀ (S1 : St) (H1 : Heap) (locs1 : List Loc), post S1 → mW D cI cB b S1 H1 → va_S (mA b) s.heap H1 locs1 → W p l e R s m args below meth c H1 locs1 cells slots Q (F0 m (pc + 3) ls rest)) : W p l e R s m args below meth c H locs cells slots Q (F0 m pc ls st0) :=
  va_callv (va_runV (As := As) (rest := rest) F hM cw ⟨m_blindS, va_recv hK hP.P0 (ci := 0) (q0 := 0) rfl rfl, fun U hU hW => ⟨rfl, ⟨by rw [hU]; exact hP, va_K.moved hW.alike hK⟩, hV.into hz hb0 hS hU hW⟩⟩ rfl hn hsize hstack (lv_room hW) hdg hf) hS (fun q _ h => h) (fun q h => h) (fun S1 t H1 locs1 ht hvm hp hB hz hk hS1 => kk S1 H1 locs1 hp (by rw [← ht]; exact hB.1) hS1)
theorem m_cVpS {post : Int32 → Prop} (F : CallFix p m c cc nL s args lw_all own) (hM : Met l y (ws_ y bytes maxL ret) rm (mPcS D cI cB b ad z (.ref b :: As) S) (mQp D cI cB b S post) 0 0 (mA b)) (cw : CallW R s args own RX7 index y bytes maxL ret (ws_ y bytes maxL ret) rm 0 0 n)
    (hV : sV ad z s s.heap) (hz : z ≤ b) (hb0 : b ≤ s.heap.size) (hK : va_K D mcl (mKt cI cB) s) (hP : mW D cI cB b S H) (hS : va_S (mA b) s.heap H locs) (hn : As.length = n) (hsize : ls.size = nL) (hstack : st0 = As.reverse ++ .ref b :: rest) (hW : (rest.map fun v => v.category).sum ≤ 8) (hdg : decode cc pc = .ok (.invokevirtual index, 3)) (hf : cells ≤ R.cells ∧ slots ≤ R.slots)
    (kk : ∀ (r : Int32) (H1 : Heap) (locs1 : List Loc), post r → mW D cI cB b S H1 → va_S (mA b) s.heap H1 locs1 → W p l e R s m args below meth c H1 locs1 cells slots Q (F0 m (pc + 3) ls (.int r :: rest))) : W p l e R s m args below meth c H locs cells slots Q (F0 m pc ls st0) :=
  va_calli (va_runV (As := As) (rest := rest) F hM cw ⟨m_blindS, va_recv hK hP.P0 (ci := 0) (q0 := 0) rfl rfl, fun U hU hW => ⟨rfl, ⟨by rw [hU]; exact hP, va_K.moved hW.alike hK⟩, hV.into hz hb0 hS hU hW⟩⟩ rfl hn hsize hstack (lv_room hW) hdg hf) hS (fun q _ h => h) (fun q h => h) (fun r _ t H1 locs1 ht hvm hp hB hz hk hS1 => kk r H1 locs1 hp (by rw [← ht]; exact hB.1) hS1)
end MS
