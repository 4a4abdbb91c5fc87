set_option maxRecDepth 100000
theorem xs_is' {K : XK} {T : XT} {v n : Nat} {a : Nat → Int32} {post : Int32 → Prop} (hl : kl K v = n) (hn : n < 8) (ha : ∀ j, j < n → xi T v j = a j) (h : ∀ rr : Int32, (rr ≠ 0 ↔ ∀ j, j < n → inr (a j) 7) → post rr) : wx1_is v K T post := xs_is hl hn ha (fun q => h 0 ⟨fun w => absurd rfl w, fun w => absurd w q⟩) (fun q => h 1 ⟨fun _ => q, fun _ => by decide⟩)
theorem xs_exs' {K : XK} {T : XT} {v n : Nat} {a : Nat → Int32} {post : Int32 → Prop} (hl : kl K v = n) (hn : n < 8) (ha : ∀ j, j < n → xi T v j = a j) (h : ∀ rr : Int32, (rr ≠ 0 ↔ ∀ j, j < n → inr (a j) 15) → post rr) : wx1_areExponents v K T post := xs_areExponents hl hn ha (fun q => h 0 ⟨fun w => absurd rfl w, fun w => absurd w q⟩) (fun q => h 1 ⟨fun _ => q, fun _ => by decide⟩)
theorem xs_vals' {A : AB} {K : XK} {T : XT} {v n : Nat} {a : Nat → Int32} {post : Int32 → Prop} (hx : rx A K T) (hw : wf A) (hl : kl K v = n) (hn : n < 8) (ha : ∀ j, j < n → xi T v j = a j) (h : ∀ rr : Int32, (aN A 0 = 1 → (rr ≠ 0 ↔ ∀ j, j < n → inr (a j) (aN A 1 - 1))) → post rr) : wx1_areValues v K T post := by
  by_cases ht : aN A 0 = 1
  · have hp := (hw.2.2.2.2 ht).1
    have h1 := hp.1
    have h2 := hp.2.1
    exact xs_areValues hl hn (by omega) (by omega) (rx_p hx ht) ha (fun q => h 0 (fun _ => ⟨fun w => absurd rfl w, fun w => absurd w q⟩)) (fun q => h 1 (fun _ => ⟨fun _ => q, fun _ => by decide⟩))
  · exact xs_areValues_any hl hn (h 0 fun w => absurd w ht) (h 1 fun w => absurd w ht)
theorem xs_scale70 {A : AB} {K : XK} {T : XT} {r k c i j l Z Y : Nat} {post : Int32 → XT → XK → Prop} (h : rx (aS A 0 (-1)) K T) (hw : wf A) (ht : aN A 0 = 1) (hr : r < 8) (hk : k < 8) (hc : c < aN A 1) (hi : i < 16) (hj : j < 16) (hl : l < 16) (hZ : kc K + 7 ≤ Z) (hY : ks K + 414 ≤ Y) (fin : lydx A k (sm (aN A 1) (fun _ => 0) (aR A r) c (i + 16 * j + 256 * l)) (¬ ovf (aR A r) c (i + 16 * j + 256 * l)) Z Y post) : wx1_scale_j70 (nI r) (nI c) (nI i) (nI j) (nI l) (nI k) Z Y post K T := by
  have hp := (hw.2.2.2.2 ht).1
  have hp1 := hp.1
  have hp2 := hp.2.1
  have hz0 : cn (fun _ => 0) 4096 = 0 := cn_z fun _ _ => rfl
  have c60 := reg60 hw ht hr
  unfold wx1_scale_j70
  refine ⟨fun q => ?_, fun q => ?_⟩
  · have hc0 : c ≠ 0 := fun e => q (by rw [e]; rfl)
    refine xs_newpoly h (by omega) (by omega) (by omega) (Q := fun u T_4 K_5 => ∃ v_8 : Nat, xr T_4 0 18 = some v_8 ∧ ∃ j_9 : Nat, j_9 < kl K_5 v_8 ∧ nI r = nI j_9 ∧ ∃ v_10 : Nat, xr T_4 v_8 j_9 = some v_10 ∧ wx1_packed (nI i) (nI j) (nI l) K_5 T_4 (fun r_11 => ∃ Z_17 Y_18 : Nat, kc K_5 ≤ Z_17 ∧ Z_17 ≤ Z ∧ ks K_5 ≤ Y_18 ∧ Y_18 ≤ Y ∧ wx1_sum_2 u v_10 (nI c) r_11 K_5 T_4 Z_17 Y_18 (fun r_14 T_15 K_16 => ∃ Z_22 Y_23 : Nat, kc K_16 ≤ Z_22 ∧ Z_22 ≤ Z ∧ ks K_16 ≤ Y_23 ∧ Y_23 ≤ Y ∧ wx1_lays r_14 (nI k) K_16 T_15 Z_22 Y_23 (fun r_19 T_20 K_21 => post r_19 T_20 (kset K_21 Z Y))))) (fun T1 K1 f1 x1 z1 c1 s1 r1 p1 => ?_)
    obtain ⟨gg, q1, q2, q3⟩ := rx_reg2 r1
    obtain ⟨v, v1, v2⟩ := q3 r hr
    refine ⟨gg, q1, r, by omega, rfl, v, v1, xs_packed hi hj hl ⟨kc K1 + 3, ks K1 + 403, by omega, by omega, by omega, by omega, ?_⟩⟩
    refine xs_sum2' r1 hw ht p1 v2 hc (by omega) (by omega) (Nat.le_refl _) (Nat.le_refl _) (fun T3 K3 ov f3 x3 z3 c3 s3 r3 o3 => ⟨kc K3 + 1, ks K3 + 8, by omega, by omega, by omega, by omega, ?_⟩)
    refine xs_lays r3 hw ht hk ?_ (Nat.le_refl _) (Nat.le_refl _) (lydx_k fin)
    rcases o3 with ⟨o1, o2⟩ | ⟨w', o1, o2, o3⟩
    · exact Or.inl ⟨o1, fun w => w ⟨by omega, o2.2⟩⟩
    · exact Or.inr ⟨w', o1, fun w => o2 ⟨by omega, w.2⟩, o3⟩
  · have hc0 : c = 0 := by
      rw [li_0, nI_eq (by omega) (by omega)] at q
      exact q
    refine xs_newpoly h (by omega) (by omega) (by omega) (Q := fun u T_27 K_28 => ∃ Z_34 Y_35 : Nat, kc K_28 ≤ Z_34 ∧ Z_34 ≤ Z ∧ ks K_28 ≤ Y_35 ∧ Y_35 ≤ Y ∧ wx1_lays (some u) (nI k) K_28 T_27 Z_34 Y_35 (fun r_31 T_32 K_33 => post r_31 T_32 (kset K_33 Z Y))) (fun T1 K1 f1 x1 z1 c1 s1 r1 p1 => ⟨kc K1 + 1, ks K1 + 8, by omega, by omega, by omega, by omega, ?_⟩)
    refine xs_lays r1 hw ht hk (Or.inr ⟨_, rfl, fun w => ?_, ply_cg p1 (fun k _ => ?_)⟩) (Nat.le_refl _) (Nat.le_refl _) (lydx_k fin)
    · have := w.1
      omega
    · unfold sm
      rw [hc0, Nat.zero_mul, Nat.zero_add, Nat.zero_mod]
theorem xc_scale {A : AB} {K : XK} {T : XT} {x c0 a b d z : Int32} {Z Y : Nat} {post : Int32 → XT → XK → Prop} (h : rx A K T) (hw : wf A) (hZ : kc K + 10 ≤ Z) (hY : ks K + 1000 ≤ Y) (h0 : ¬ (aN A 0 = 1 ∧ inr x 7 ∧ inr z 7) → pst (aS A 1 (-1)) (-1) Z Y post) (h2 : aN A 0 = 1 → inr x 7 → inr z 7 → ¬ (inr c0 (aN A 1 - 1) ∧ inr a 15 ∧ inr b 15 ∧ inr d 15) → pst (aS A 2 (-1)) (-1) Z Y post)
    (h1 : aN A 0 = 1 → ∀ r k c i j l, r < 8 → k < 8 → c < aN A 1 → i < 16 → j < 16 → l < 16 → x = nI r → z = nI k → c0 = nI c → a = nI i → b = nI j → d = nI l → lydx A k (sm (aN A 1) (fun _ => 0) (aR A r) c (i + 16 * j + 256 * l)) (¬ ovf (aR A r) c (i + 16 * j + 256 * l)) Z Y post) : wx1_scale x c0 a b d z K T Z Y post := by
  unfold wx1_scale
  refine xv2 (by omega) (by omega) (fun K1 T1 f1 k1 l1 a1 c1 s1 z1 => ?_)
  have g1 := rx_keep h f1 k1
  refine xs_is' l1 (by omega) a1 (fun rr hrr => ?_)
  rw [all2] at hrr
  refine xv1 (by omega) (by omega) (fun K2 T2 f2 k2 l2 a2 c2 s2 z2 => ?_)
  have g2 := rx_keep g1 f2 k2
  refine xs_vals' g2 hw l2 (by omega) a2 (fun rv hrv => ?_)
  rw [all1] at hrv
  refine ⟨fun e => xh2 g2 hw (fun q T3 r3 => b11 rfl (pst_u (h0 fun w => q ⟨w.1, hrr.2 w.2⟩) r3)) (fun ht q _ T3 r3 => b11 rfl (pst_u (h2 ht (hrr.1 q).1 (hrr.1 q).2 fun w => (hrv ht).2 w.1 e) r3)) (fun _ _ w => absurd rfl w), fun e => ?_⟩
  refine xv3 (by omega) (by omega) (fun K3 T3 f3 k3 l3 a3 c3 s3 z3 => ?_)
  have g3 := rx_keep g2 f3 k3
  refine xs_exs' l3 (by omega) a3 (fun re hre => ?_)
  rw [all3] at hre
  refine ⟨fun e3 => xh2 g3 hw (fun q T3 r3 => b11 rfl (pst_u (h0 fun w => q ⟨w.1, hrr.2 w.2⟩) r3)) (fun ht q _ T3 r3 => b11 rfl (pst_u (h2 ht (hrr.1 q).1 (hrr.1 q).2 fun w => hre.2 w.2 e3) r3)) (fun _ _ w => absurd rfl w), fun e3 => xh2 g3 hw (fun q T3 r3 => b11 rfl (pst_u (h0 fun w => q ⟨w.1, hrr.2 w.2⟩) r3)) (fun _ _ w => absurd w (by decide)) (fun ht q _ T4 f4 r4 => b01 rfl ?_)⟩
  obtain ⟨⟨r, hr, er⟩, k, hk, ek⟩ := hrr.1 q
  obtain ⟨c, hc, ec⟩ := (hrv ht).1 e
  obtain ⟨⟨i, hi, ei⟩, ⟨j, hj, ej⟩, ⟨l, hl, el⟩⟩ := hre.1 e3
  have hp1 := (hw.2.2.2.2 ht).1.1
  have fin := h1 ht r k c i j l (by omega) (by omega) (by omega) (by omega) (by omega) (by omega) er ek ec ei ej el
  subst er ek ec ei ej el
  exact xs_scale70 r4 hw ht (by omega) (by omega) (by omega) (by omega) (by omega) (by omega) (by omega) (by omega) fin
