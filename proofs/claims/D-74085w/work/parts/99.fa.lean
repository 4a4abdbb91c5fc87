set_option maxRecDepth 100000
theorem xc_desk {A : AB} {K : XK} {T : XT} {x : Int32} {Z Y : Nat} {post : Int32 → XT → XK → Prop} (h : rx A K T) (hw : wf A) (hZ : kc K + 1600 ≤ Z) (hY : ks K + 7300 ≤ Y) (h2 : ¬ inr x (aN A 6) → pst (aS A 2 (-1)) (-1) Z Y post)
    (h4 : ∀ n e p, n ≤ aN A 6 → x = nI n → (pTx (tcd A n) n).1 = .inl (e, p) → pst (aE A e p) (-1) Z Y post)
    (h1 : ∀ n t, n ≤ aN A 6 → x = nI n → (pTx (tcd A n) n).1 = .inr t → ¬ (pTx (tcd A n) n).2.1 = 0 → pst (aD A (pTx (tcd A n) n).2) (nI (pTx (tcd A n) n).2.2.2.2.2.1) Z Y post) : wx1_desk x K T Z Y post := by
  have h700 := hw.2.1
  unfold wx1_desk wx1_anew
  intro T1 e1 T2 e2
  have r2 : rx (aS A 0 (-1)) K T2 := by
    refine rx_S h (by rw [e2, e1]; exact xf_tr (xf_wi rfl) (xf_wi rfl)) (by rw [e2, e1]; rfl) (fun j q1 q2 => ?_) ?_ (fun z => absurd z (by decide))
    · rw [e2, xi_wi, if_neg (by omega), e1, xi_wi, if_neg (by omega)]
    · rw [e2, xi_wi, if_neg (by omega), e1, xi_wi, if_pos ⟨rfl, rfl⟩]
  have t16 : xi T2 0 16 = nI (aN A 6) := r2.2.2.2.2.2.1
  rw [t16]
  refine xs_inr rfl (by omega) (fun q => b02 rfl ?_) (fun n hn ex => b12 rfl ?_)
  · exact xs_no r2 (by decide) (fun T' r' => pst_u (h2 q) (by rw [aS_aS] at r'; exact r'))
  subst ex
  intro T3 e3 T4 e4
  have r4 : rx (aB A) K T4 := by
    refine rx_W r2 (by rw [e4, e3]; exact xf_tr (xf_wi rfl) (xf_wi rfl)) (by rw [e4, e3]; rfl) (fun j a b c d => ?_) (fun i hi => if_neg hi) rfl rfl rfl rfl ?_ ?_ ?_ (fun z => absurd z (by show ¬ (0 : Int32) = 4; decide))
    · rw [e4, xi_wi, if_neg (by omega), e3, xi_wi, if_neg (by omega)]
    · rw [e4, xi_wi, if_neg (by omega), e3, xi_wi, if_pos ⟨rfl, rfl⟩]; rfl
    · rw [e4, xi_wi, if_neg (by omega), e3, xi_wi, if_neg (by omega)]; exact r2.2.1
    · rw [e4, xi_wi, if_pos ⟨rfl, rfl⟩]; rfl
  have hz := r4.1.2.1
  have k82 : kl K 82 = 5 := r4.1.1 82 (by omega)
  have k2 : kl K 2 = 4096 := r4.1.1 2 (by omega)
  have tp : ∀ j, j < n → (xi T4 79 j) &&& 255 = nI (tcd A n j) := fun j hj => by
    rw [r4.2.2.2.2.2.2.2.1 j (by omega)]
    exact (tcd_k hj).2
  refine ⟨kc K + 1568, ks K + 7056, by omega, by omega, by omega, by omega, ?_⟩
  have h4 := h4 n
  have h1 := h1 n
  have hok := fun t => @pTx_ok (tcd A n) n t
  refine xs_read (tcd_c (by omega)) tp k82 hz (Nat.le_refl _) (Nat.le_refl _) (fun e p he T5 K5 f5 k5 c5 s5 w0 w1 T6 e6 T7 e7 => ?_) (fun t et hpz T5 K5 b5 c5 s5 p5 => ?_)
  · have r5 := rx_keep r4 (xf_mono f5 (fun k hk => by unfold xsc; omega)) k5
    unfold wx1_no
    intro T8 e8
    refine pst_u (h4 e p hn rfl he) ?_
    have i81 : ∀ j, xi T6 81 j = xi T5 81 j := fun j => by rw [e6, xi_wi, if_neg (by omega)]
    refine rx_W r5 (by rw [e8, e7, e6]; exact xf_tr (xf_tr (xf_wi rfl) (xf_wi rfl)) (xf_wi rfl)) (by rw [e8, e7, e6]; rfl) (fun j a b c d => ?_) (fun i hi => ?_) rfl rfl rfl rfl ?_ ?_ ?_ (fun _ => ?_)
    · rw [e8, xi_wi, if_neg (by omega), e7, xi_wi, if_neg (by omega), e6, xi_wi, if_neg (by omega)]
    · show (if i = 6 then 0 else aN A i) = (if i = 6 then 0 else aN A i)
      rfl
    · rw [e8, xi_wi, if_neg (by omega), e7, xi_wi, if_neg (by omega), e6, xi_wi, if_neg (by omega)]
      exact r5.2.2.2.2.2.1
    · rw [e8, xi_wi, if_pos ⟨rfl, rfl⟩]; rfl
    · rw [e8, xi_wi, if_neg (by omega), e7, xi_wi, if_neg (by omega), e6, xi_wi, if_pos ⟨rfl, rfl⟩]; exact w0
    · rw [e8, xi_wi, if_neg (by omega), e7, xi_wi, if_pos ⟨rfl, rfl⟩, i81]; exact w1
  · have hok := hok t et
    have fin := h1 t hn rfl et hpz
    generalize pTx (tcd A n) n = G at et hpz p5 hok fin
    have f5 := b5.2.2.2.2.1
    have k5 := b5.2.2.2.2.2
    have r5 := rx_keep r4 (xf_mono f5 (fun k hk => by unfold xsc; omega)) k5
    obtain ⟨g15, g11, g13, gen, g0⟩ := p5
    obtain ⟨a11, a12, a860, a861⟩ := g11 (by omega)
    obtain ⟨o1, o2, o3, o4, o5, o6⟩ := hok
    obtain ⟨hpr, hvo⟩ := o1 (by omega)
    have hp2 := hpr.1
    have hp97 := hpr.2.1
    intro T6 e6
    rw [a11] at e6
    have z5 := r5.1.2.1
    refine xs_layInverses (p := G.2.1) hpr (by rw [e6, xi_wi, if_pos ⟨rfl, rfl⟩]) (fun T7 f7 x7 iv7 => ?_)
    have t7 : ∀ k, k ≠ 1 → k ≠ 0 → xi T7 k = xi T5 k := fun k hk1 hk0 => by
      rw [(f7 k hk1).1, e6]
      funext j
      rw [xi_wi, if_neg (fun z => hk0 z.1)]
    have t70 : ∀ j, j ≠ 0 → xi T7 0 j = xi T5 0 j := fun j hj => by rw [(f7 0 (by omega)).1, e6, xi_wi, if_neg (fun z => hj z.2)]
    have t700 : xi T7 0 0 = nI G.2.1 := by rw [(f7 0 (by omega)).1, e6, xi_wi, if_pos ⟨rfl, rfl⟩]
    have x7' : ∀ k, xr T7 k = xr T5 k := fun k => by
      by_cases w : k = 1
      · rw [w, x7, e6, xr_wi]
      · rw [(f7 k w).2, e6, xr_wi]
    refine ⟨0, by omega, rfl, 1, by omega, rfl, kc K5 + 1, ks K5 + 3, by omega, by omega, by omega, by omega, ?_⟩
    rw [t7 80 (by omega) (by omega), t7 86 (by omega) (by omega), a12, a860, a861]
    refine xs_becomes hvo (by omega) (Nat.le_refl _) (Nat.le_refl _) (fun K8 T8 f8 k8 z8 c8 s8 or8 v1 v2 v3 v0 q4 qr => ?_)
    obtain ⟨g, ga, gg1, gg2, gg3⟩ := r5.2.2.2.2.2.2.2.2.2
    obtain ⟨gl, g9, gz, _⟩ := gg2
    have z58 := k8.1
    have g18 : xr T8 0 18 = some g := by rw [qr 18 (by omega), x7']; exact gg1
    have t8 : ∀ k, k ≠ 0 → k ≠ kz K5 → xi T8 k = xi T7 k := fun k a b => (f8 k (by omega)).1
    have o80 : xi T8 80 13 = nI G.2.2.2.2.2.1 := by rw [t8 80 (by omega) (by omega), t7 80 (by omega) (by omega)]; exact g13
    have t800 : xi T8 0 0 = nI G.2.1 := by rw [v0 0 (by omega) (by omega) (by omega)]; exact t700
    unfold wx1_desk_l112
    refine wl_up 8 (fun r (v : Int32 × XT × XK) => v.1 = nI r ∧ xf (fun k => k = 2 ∨ k = g ∨ kz K8 ≤ k) T8 v.2.1 ∧ kx K8 v.2.2 ∧ kc v.2.2 + 3 * (8 - r) ≤ Z ∧ ks v.2.2 + 27 * (8 - r) ≤ Y ∧ ∀ i, i < r → ∃ w, xr v.2.1 g i = some w ∧ ply (ok G.2.2.1 G.2.2.2.1 G.2.2.2.2.1) G.2.1 v.2.2 v.2.1 w (aR (aD A G.2) i)) 0 (by omega) ⟨rfl, xf_rfl _ _, kx_rfl _, by show kc K8 + 3 * (8 - 0) ≤ Z; omega, by show ks K8 + 27 * (8 - 0) ≤ Y; omega, fun i hi => absurd hi (by omega)⟩ ?_
    rintro r ⟨x2, T9, K9⟩ hr8 ⟨ex2, f9, k9, c9, s9, hpl⟩ R hR
    dsimp only at ex2 f9 k9 c9 s9 hpl ⊢
    subst ex2
    have z89 := k9.1
    have g0' : g ≠ 0 ∧ g ≠ 1 ∧ g ≠ 2 ∧ g ≠ 6 ∧ g ≠ 7 ∧ g ≠ 41 ∧ g ≠ 58 ∧ g ≠ 78 ∧ g ≠ 79 ∧ g ≠ 80 ∧ g ≠ 83 ∧ g ≠ 84 ∧ g ≠ 85 := by omega
    have t9 : ∀ k, k ≠ 2 → k ≠ g → k < kz K8 → xi T9 k = xi T8 k ∧ xr T9 k = xr T8 k := fun k a b d => f9 k (by omega)
    have g18' : xr T9 0 18 = some g := by rw [(t9 0 (by omega) (by omega) (by omega)).2]; exact g18
    have gl9 : kl K9 g = 8 := by rw [k9.2 g (by omega), k8.2 g gz]; exact gl
    unfold wx1_desk_b112 wx1_desk_j153
    rw [li_8, nI_leI (by omega) (by omega)]
    refine ⟨fun q T10 e10 T11 e11 => ?_, fun q => ⟨g, g18', ?_⟩⟩
    · have er : r = 8 := by omega
      subst er
      have t11 : ∀ k, k ≠ 0 → xi T11 k = xi T9 k := fun k hk => by
        funext j
        rw [e11, xi_wi, if_neg (fun z => hk z.1), e10, xi_wi, if_neg (fun z => hk z.1)]
      have x11 : xr T11 = xr T9 := by rw [e11, xr_wi, e10, xr_wi]
      have t110 : ∀ j, j ≠ 21 → j ≠ 22 → xi T11 0 j = xi T8 0 j := fun j a b => by rw [e11, xi_wi, if_neg (by omega), e10, xi_wi, if_neg (by omega), (t9 0 (by omega) (by omega) (by omega)).1]
      have e13 : xi T11 80 13 = nI G.2.2.2.2.2.1 := by rw [t11 80 (by omega), (t9 80 (by omega) (by omega) (by omega)).1]; exact o80
      rw [e13]
      have base : ∀ k, k ≠ 0 → k ≠ 1 → k ≠ 2 → k ≠ g → k < kz K5 → xi T11 k = xi T5 k ∧ xr T11 k = xr T5 k := fun k a b c d e => by
        obtain ⟨u1, u2⟩ := t9 k c d (by omega)
        obtain ⟨u3, u4⟩ := f8 k (by omega)
        exact ⟨by rw [t11 k a, u1, u3, t7 k b a], by rw [x11, u2, u4, x7']⟩
      have r0 : ∀ j, j ≠ 4 → xr T11 0 j = xr T5 0 j := fun j hj => by rw [x11, (t9 0 (by omega) (by omega) (by omega)).2, qr j hj, x7']
      have i0 : ∀ j, 4 ≤ j → j ≠ 21 → j ≠ 22 → xi T11 0 j = xi T5 0 j := fun j a b c => by rw [t110 j b c, v0 j (by omega) (by omega) (by omega), t70 j (by omega)]
      refine pst_u fin ?_
      obtain ⟨q1, q2, q3, q4', q5, q6, q7, q8, q9, _⟩ := r5
      obtain ⟨w1, w2, w3, w4, w5, w6, w7⟩ := q1
      refine ⟨⟨fun k hk => ?_, by omega, ?_, fun i hi => ?_, ?_, fun d hd => ?_, ?_⟩, ?_, ?_, fun z => absurd z (by show ¬ (0 : Int32) = 4; decide), ?_, ?_, ?_, fun j hj => ?_, fun _ => ⟨?_, ?_, ?_, ?_, ⟨kz K5, ?_, ?_, z5, by omega⟩, fun a ha1 ha2 => ?_⟩, g, fun _ => 0, ?_, ⟨gl9, g9, by omega, fun i hi => ?_⟩, fun j hj => absurd hj (by show ¬ j < 0; omega), fun i j _ hj => absurd hj (by show ¬ j < 0; omega)⟩
      · rw [k9.2 k (by omega), k8.2 k (by omega)]; exact w1 k hk
      · rw [r0 9 (by omega), r0 10 (by omega)]; exact w3
      · rw [(base 41 (by omega) (by omega) (by omega) (by omega) (by omega)).2, (base 58 (by omega) (by omega) (by omega) (by omega) (by omega)).2]; exact w4 i hi
      · rw [(base 6 (by omega) (by omega) (by omega) (by omega) (by omega)).2]; exact w5
      · rw [(base 7 (by omega) (by omega) (by omega) (by omega) (by omega)).2]; exact w6 d hd
      · rw [(base 78 (by omega) (by omega) (by omega) (by omega) (by omega)).1]; exact w7
      · rw [i0 23 (by omega) (by omega) (by omega)]; exact q2
      · rw [i0 24 (by omega) (by omega) (by omega)]; exact q3
      · rw [e11, xi_wi, if_neg (by omega), e10, xi_wi, if_pos ⟨rfl, rfl⟩]; rfl
      · rw [i0 16 (by omega) (by omega) (by omega)]; exact q6
      · rw [e11, xi_wi, if_pos ⟨rfl, rfl⟩]; rfl
      · rw [(base 79 (by omega) (by omega) (by omega) (by omega) (by omega)).1]; exact q8 j hj
      · rw [t110 0 (by omega) (by omega)]; exact t800
      · rw [t110 1 (by omega) (by omega)]; exact v1
      · rw [t110 2 (by omega) (by omega)]; exact v2
      · rw [t110 3 (by omega) (by omega)]; exact v3
      · rw [x11, (t9 0 (by omega) (by omega) (by omega)).2]; exact q4
      · show orn (kset K9 Z Y) T11 (kz K5) G.2.2.1 G.2.2.2.1 G.2.2.2.2.1
        unfold orn at or8 ⊢
        rw [show kl (kset K9 Z Y) (kz K5) = kl K9 (kz K5) from rfl, k9.2 _ (by omega), t11 _ (by omega), (t9 (kz K5) (by omega) (by omega) (by omega)).1]
        exact or8
      · rw [t11 1 (by omega), (t9 1 (by omega) (by omega) (by omega)).1, t8 1 (by omega) (by omega)]; exact iv7 a ha1 ha2
      · rw [x11]; exact g18'
      · obtain ⟨w, u1, u2⟩ := hpl i hi
        refine ⟨w, by rw [x11]; exact u1, ?_⟩
        have := ply_keep (P := fun k => k = 0) (T' := T11) (K' := kset K9 Z Y) u2 (fun k hk => ⟨t11 k hk, by rw [x11]⟩) (kx_set _ _ _) (fun k a b => by omega)
        exact this
    · have lay : ∀ w T10 K10, xf (fun k => k = 2 ∨ kz K9 ≤ k) T9 T10 → kx K9 K10 → kc K10 + 3 * (8 - (r + 1)) ≤ Z → ks K10 + 27 * (8 - (r + 1)) ≤ Y → ply (ok G.2.2.1 G.2.2.2.1 G.2.2.2.2.1) G.2.1 K10 T10 w (aR (aD A G.2) r) → ∃ j_12 : Nat, j_12 < kl K10 g ∧ nI r = nI j_12 ∧ ∀ T_13 : XT, T_13 = xwr T10 g j_12 (some w) → ∀ x2_1 : Int32, x2_1 = nI r + 1 → R (x2_1, T_13, K10) := fun w T10 K10 f10 k10 c10 s10 p10 => by
        have gl10 : kl K10 g = 8 := by rw [k10.2 g (by omega)]; exact gl9
        refine ⟨r, by omega, rfl, fun T11 e11 x2 ex2 => ?_⟩
        rw [li_1, nI_add] at ex2
        have hxi : xi T11 = xi T10 := by rw [e11, xi_wr]
        have hxr : ∀ k, k ≠ g → xr T11 k = xr T10 k := fun k hk => by
          rw [e11]
          funext j
          rw [xr_wr, if_neg (fun z => hk z.1)]
        refine hR (by omega) _ ⟨ex2, ?_, kx_tr k9 k10, c10, s10, fun i hi => ?_⟩
        · intro k hk
          have hk2 : k ≠ 2 ∧ k ≠ g ∧ k < kz K8 := by omega
          obtain ⟨u1, u2⟩ := f10 k (by omega)
          obtain ⟨u3, u4⟩ := f9 k hk
          exact ⟨by show xi T11 k = _; rw [hxi, u1, u3], by show xr T11 k = _; rw [hxr k hk2.2.1, u2, u4]⟩
        · show ∃ w, xr T11 g i = some w ∧ ply (ok G.2.2.1 G.2.2.2.1 G.2.2.2.2.1) G.2.1 K10 T11 w (aR (aD A G.2) i)
          by_cases wi : i = r
          · subst wi
            exact ⟨w, by rw [e11, xr_wr, if_pos ⟨rfl, rfl⟩], ply_wr p10 (ply_ne p10 gl10) hxi hxr⟩
          · obtain ⟨w', u1, u2⟩ := hpl i (by omega)
            have u3 := ply_keep u2 f10 k10 (fun k a b => by omega)
            refine ⟨w', ?_, ply_wr u3 (ply_ne u3 gl10) hxi hxr⟩
            rw [e11, xr_wr, if_neg (fun z => wi z.2), (f10 g (by omega)).2]
            exact u1
      have h13 : xi T9 80 13 = nI G.2.2.2.2.2.1 := by rw [(t9 80 (by omega) (by omega) (by omega)).1]; exact o80
      rw [h13, nI_leI (by omega) (by omega)]
      refine ⟨fun w => ⟨by omega, by omega, fun K10 eK T10 eT => ?_⟩, fun w => ?_⟩
      · have zz : kz K10 = kz K9 + 1 := by rw [eK]; rfl
        have cc : kc K10 = kc K9 + 1 := by rw [eK]; rfl
        have ss : ks K10 = ks K9 + 3 := by rw [eK]; rfl
        refine ⟨kc K9 + 3, ks K9 + 3, by omega, by omega, by omega, by omega, ?_⟩
        refine xs_init0 (o := ok G.2.2.1 G.2.2.2.1 G.2.2.2.2.1) (p := G.2.1) (by omega) (by omega) (by omega) (by rw [eK, kl_new, if_pos rfl]) (by omega) (by omega) (fun T11 K11 f11 k11 z11 c11 s11 p11 => ?_)
        refine lay (kz K9) T11 K11 (xf_tr (by rw [eT]; exact xf_nil (Or.inr (Nat.le_refl _))) (xf_mono f11 (fun k hk => by omega))) (kx_tr (by rw [eK]; exact kx_new _ _ _ _) k11) (by omega) (by omega) (ply_cg p11 (fun k hk => ?_))
        show 0 = (if r < 6 then G.2.2.2.2.2.2 r k else 0)
        by_cases w6 : r < 6
        · rw [if_pos w6]
          by_cases w7 : r = G.2.2.2.2.2.1
          · rw [w7]; exact (cn_0 (Nat.le_antisymm o5 (Nat.zero_le _)) k hk).symm
          · exact (o6 r (by omega) k).symm
        · rw [if_neg w6]
      · refine ⟨kc K9 + 3, ks K9 + 27, by omega, by omega, by omega, by omega, ?_⟩
        obtain ⟨m, hen⟩ := gen r (by omega)
        have e83 : ∀ k, 80 ≤ k → k ≤ 86 → xi T9 k = xi T5 k := fun k a b => by rw [(t9 k (by omega) (by omega) (by omega)).1, t8 k (by omega) (by omega), t7 k (by omega) (by omega)]
        have h0 := t9 0 (by omega) (by omega) (by omega)
        refine xs_tpoly (q := kz K5) hpr (by rw [h0.1]; exact t800) (xen_g hen (e83 83 (by omega) (by omega)) (e83 84 (by omega) (by omega)) (e83 85 (by omega) (by omega))) (by omega) (o4 r (by omega)) hvo (by rw [h0.2]; exact q4) ?_ z5 (by omega) (by omega) (by rw [k9.2 2 (by omega), k8.2 2 (by omega), k5.2 2 (by omega)]; exact k2) (Nat.le_refl _) (Nat.le_refl _) (fun T10 K10 f10 k10 z10 c10 s10 p10 => ?_)
        · unfold orn at or8 ⊢
          rw [k9.2 _ (by omega), (t9 (kz K5) (by omega) (by omega) (by omega)).1]
          exact or8
        · refine lay (kz K9 + 2) T10 K10 f10 k10 (by omega) (by omega) (ply_cg p10 (fun k hk => ?_))
          show G.2.2.2.2.2.2 r k = (if r < 6 then G.2.2.2.2.2.2 r k else 0)
          rw [if_pos (by omega)]
