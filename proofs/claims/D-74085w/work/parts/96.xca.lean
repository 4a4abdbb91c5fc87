set_option maxRecDepth 100000
theorem xs_becomes {h a b : Nat} {K : XK} {T : XT} {Z Y : Nat} {post : XT → XK → Prop} (v : vo h a b) (hz : kz K ≠ 0) (hZ : kc K + 1 ≤ Z) (hY : ks K + 3 ≤ Y) (hp : ∀ K' T', xf (fun k => k = 0 ∨ k = kz K) T T' → kx K K' → kz K' = kz K + 1 → kc K' = Z → ks K' = Y → orn K' T' (kz K) h a b → xi T' 0 1 = nI h → xi T' 0 2 = nI a → xi T' 0 3 = nI b → (∀ j, j ≠ 1 → j ≠ 2 → j ≠ 3 → xi T' 0 j = xi T 0 j) → xr T' 0 4 = some (kz K) → (∀ j, j ≠ 4 → xr T' 0 j = xr T 0 j) → post T' K') : wx1_becomes (nI h) (nI a) (nI b) K T Z Y post := by
  unfold wx1_becomes
  intro T1 e1 T2 e2 T3 e3
  have i1 : xi T3 0 1 = nI h := by rw [e3, xi_wi, if_neg (by omega), e2, xi_wi, if_neg (by omega), e1, xi_wi, if_pos ⟨rfl, rfl⟩]
  have i2 : xi T3 0 2 = nI a := by rw [e3, xi_wi, if_neg (by omega), e2, xi_wi, if_pos ⟨rfl, rfl⟩]
  have i3 : xi T3 0 3 = nI b := by rw [e3, xi_wi, if_pos ⟨rfl, rfl⟩]
  have io : ∀ j, j ≠ 1 → j ≠ 2 → j ≠ 3 → xi T3 0 j = xi T 0 j := fun j a1 a2 a3 => by rw [e3, xi_wi, if_neg (by omega), e2, xi_wi, if_neg (by omega), e1, xi_wi, if_neg (by omega)]
  have f3 : xf (fun k => k = 0) T T3 := by rw [e3, e2, e1]; exact xf_tr (xf_tr (xf_wi rfl) (xf_wi rfl)) (xf_wi rfl)
  have r3 : xr T3 = xr T := by rw [e3, e2, e1]; rfl
  refine ⟨kc K + 1, ks K + 3, by omega, hZ, by omega, hY, ?_⟩
  rw [i1, i2, i3]
  refine xs_orderOf v (Nat.le_refl _) (Nat.le_refl _) (fun K1 T4 f4 x4 z4 c4 s4 o4 T5 e5 => ?_)
  have k0 := f4 0 (fun z => hz z.symm)
  have i5 : xi T5 = xi T4 := by rw [e5]; rfl
  refine hp (kset K1 Z Y) T5 ?_ (kx_tr x4 (kx_set _ _ _)) (by rw [kz_set]; exact z4) rfl rfl ?_ (by rw [i5, k0.1]; exact i1) (by rw [i5, k0.1]; exact i2) (by rw [i5, k0.1]; exact i3) (fun j a1 a2 a3 => by rw [i5, k0.1]; exact io j a1 a2 a3) (by rw [e5, xr_wr, if_pos ⟨rfl, rfl⟩]) (fun j hj => ?_)
  · rw [e5]
    exact xf_tr (xf_tr (xf_mono f3 (fun k hk => Or.inl hk)) (xf_mono f4 (fun k hk => Or.inr hk))) (xf_wr (Or.inl rfl))
  · unfold orn at o4 ⊢
    rw [kl_set, i5]; exact o4
  · rw [e5, xr_wr, if_neg (fun z => hj z.2), k0.2, r3]
theorem xs_undo21 {A : AB} {K : XK} {T : XT} {Z Y : Nat} {post : Int32 → XT → XK → Prop} (h : rx A K T) (hw : wf A) (ht : aN A 0 = 1) (h0 : 0 < aN A 5) (hZ : kc K + 1 ≤ Z) (hY : ks K + 3 ≤ Y) (fin : pst (aU A) 1 Z Y post) : wx1_undo_j21 Z Y post K T := by
  have hW := hw.2.2.2.2 ht
  have h8 := hW.2.2.2.1
  obtain ⟨vd, _⟩ := hW.2.2.2.2 (aN A 5 - 1) (by omega)
  obtain ⟨v1, v2, v3, v4⟩ := id vd
  have hx := h
  obtain ⟨q1, q2, q3, q4, q5, q6, q7, q8, q9, g, ga, q10, q11, q12⟩ := hx
  have hz := q1.2.1
  obtain ⟨w1, w2, w3, w4, _, w6⟩ := q9 ht
  obtain ⟨p1, p2, p3, p4, p5⟩ := q12.1 (aN A 5 - 1) (by omega)
  unfold wx1_undo_j21
  intro T1 e1
  rw [q7, li_1, pk_sub (by omega)] at e1
  have i1 : xi T1 0 22 = nI (aN A 5 - 1) := by rw [e1, xi_wi, if_pos ⟨rfl, rfl⟩]
  have r1 : xr T1 = xr T := by rw [e1]; rfl
  refine ⟨aN A 5 - 1, by omega, i1, ga (aN A 5 - 1), by rw [r1]; exact p1, fun T4 e4 => ?_⟩
  have i4 : xi T4 = xi T1 := by rw [e4]; rfl
  have i4' : xi T4 0 22 = nI (aN A 5 - 1) := by rw [i4]; exact i1
  have f4 : xf (fun k => k = 0) T T4 := by rw [e4, e1]; exact xf_tr (xf_wi rfl) (xf_wr rfl)
  refine ⟨aN A 5 - 1, by omega, i4', aN A 5 - 1, by omega, i4', aN A 5 - 1, by omega, i4', kc K + 1, ks K + 3, by omega, hZ, by omega, hY, ?_⟩
  rw [(f4 89 (by omega)).1, p5, li_16, n_div (by omega) (by omega) (by omega), li_4, n_div (by omega) (by omega) (by omega), n_rem (by omega) (by omega) (by omega), n_rem (by omega) (by omega) (by omega)]
  rw [show (16 * aO A (aN A 5 - 1) 0 + 4 * aO A (aN A 5 - 1) 1 + aO A (aN A 5 - 1) 2) / 16 = aO A (aN A 5 - 1) 0 by omega, show (16 * aO A (aN A 5 - 1) 0 + 4 * aO A (aN A 5 - 1) 1 + aO A (aN A 5 - 1) 2) / 4 % 4 = aO A (aN A 5 - 1) 1 by omega, show (16 * aO A (aN A 5 - 1) 0 + 4 * aO A (aN A 5 - 1) 1 + aO A (aN A 5 - 1) 2) % 4 = aO A (aN A 5 - 1) 2 by omega]
  refine xs_becomes vd (by omega) (Nat.le_refl _) (Nat.le_refl _) (fun K5 T5 f5 x5 z5 c5 s5 o5 j1 j2 j3 jo j4 jr => ?_)
  refine pst_u fin ?_
  have f6 : xf (fun k => k = 0 ∨ k = kz K) T T5 := xf_tr (xf_mono f4 (fun k hk => Or.inl hk)) f5
  have io : ∀ j, j ≠ 1 → j ≠ 2 → j ≠ 3 → j ≠ 22 → xi T5 0 j = xi T 0 j := fun j a1 a2 a3 a4 => by rw [jo j a1 a2 a3, i4, e1, xi_wi, if_neg (fun z => a4 z.2)]
  have ro : ∀ j, j ≠ 4 → j ≠ 18 → xr T5 0 j = xr T 0 j := fun j a1 a2 => by rw [jr j a1, e4, xr_wr, if_neg (fun z => a2 z.2), r1]
  have nP : ∀ k, 90 ≤ k → k < kz K → ¬ (k = 0 ∨ k = kz K) := fun k a b => by omega
  refine ⟨?_, ?_, ?_, fun z => ?_, ?_, ?_, ?_, fun j hj => ?_, fun _ => ?_, ga (aN A 5 - 1), ga, ?_, rgs_keep p4 f6 x5 nP (by omega), fun j hj => ?_, fun i j hij hj => ?_⟩
  · obtain ⟨y1, y2, y3, y4, y5, y6, y7⟩ := q1
    refine ⟨fun k hk => by rw [x5.2 k (by omega)]; exact y1 k hk, Nat.le_trans y2 x5.1, by rw [ro 9 (by omega) (by omega), ro 10 (by omega) (by omega)]; exact y3, fun i hi => by rw [(f6 41 (by omega)).2, (f6 58 (by omega)).2]; exact y4 i hi, by rw [(f6 6 (by omega)).2]; exact y5, fun d hd => by rw [(f6 7 (by omega)).2]; exact y6 d hd, by rw [(f6 78 (by omega)).1]; exact y7⟩
  · rw [io 23 (by omega) (by omega) (by omega) (by omega)]; exact q2
  · rw [io 24 (by omega) (by omega) (by omega) (by omega)]; exact q3
  · rw [io 25 (by omega) (by omega) (by omega) (by omega)]; exact q4 z
  · rw [io 21 (by omega) (by omega) (by omega) (by omega)]; exact q5
  · rw [io 16 (by omega) (by omega) (by omega) (by omega)]; exact q6
  · rw [jo 22 (by omega) (by omega) (by omega)]; exact i4'
  · rw [(f6 79 (by omega)).1]; exact q8 j hj
  · exact ⟨by rw [io 0 (by omega) (by omega) (by omega) (by omega)]; exact w1, j1, j2, j3, ⟨kz K, j4, o5, hz, by omega⟩, fun a ha1 ha2 => by rw [(f6 1 (by omega)).1]; exact w6 a ha1 ha2⟩
  · rw [jr 18 (by omega), e4, xr_wr, if_pos ⟨rfl, rfl⟩]
  · have hj : j < aN A 5 - 1 := hj
    obtain ⟨y1, y2, y3, y4, y5⟩ := q12.1 j (by omega)
    exact ⟨by rw [(f6 88 (by omega)).2]; exact y1, y2, q12.2 j (aN A 5 - 1) hj (by omega), rgs_keep y4 f6 x5 nP (by omega), by rw [(f6 89 (by omega)).1]; exact y5⟩
  · have hj : j < aN A 5 - 1 := hj
    exact q12.2 i j hij (by omega)
theorem xc_undo {A : AB} {K : XK} {T : XT} {Z Y : Nat} {post : Int32 → XT → XK → Prop} (h : rx A K T) (hw : wf A) (hZ : kc K + 1 ≤ Z) (hY : ks K + 3 ≤ Y) (h0 : ¬ (aN A 0 = 1 ∧ 0 < aN A 5) → pst (aS A 1 (-1)) 0 Z Y post) (h1 : aN A 0 = 1 → 0 < aN A 5 → pst (aS (aU A) 0 (-1)) 1 Z Y post) : wx1_undo K T Z Y post := by
  have q7 := h.2.2.2.2.2.2.1
  have h01 := hw.1
  have h5 : aN A 5 ≤ 8 := by
    by_cases ht : aN A 0 = 1
    · exact (hw.2.2.2.2 ht).2.2.2.1
    · have := (hw.2.2.2.1 (by omega)).1
      omega
  unfold wx1_undo
  rw [q7, li_0, nI_leI (by omega) (by omega), ← li_0]
  refine ⟨fun c => xs_isRefused h (by decide) (fun z => absurd z (by decide)) (fun _ T' _ r' => b11 rfl (pst_u (h0 (by omega)) r')), fun c => xs_isRefused h (by decide) (fun _ T' f' r' => b01 rfl ?_) (fun z => absurd rfl z)⟩
  have ht : aN A 0 = 1 := Classical.byContradiction fun w => by
    have := (hw.2.2.2.1 (by omega)).1
    omega
  exact xs_undo21 (A := aS A 0 (-1)) r' (wf_S hw) ht (by show 0 < aN A 5; omega) hZ hY (h1 ht (by omega))
