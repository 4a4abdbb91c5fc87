set_option maxRecDepth 100000
theorem xs_times {A : AB} {K : XK} {T : XT} {u v Z Y : Nat} {f g : Nat → Nat} {post : Option Nat → XT → XK → Prop} (h : rx A K T) (hw : wf A) (htd : aN A 0 = 1) (hu : ply (aOk A) (aN A 1) K T u f) (hv : ply (aOk A) (aN A 1) K T v g) (hn : cn f 4096 ≤ 60) (hm : cn g 4096 ≤ 60) (hZ : kc K + 7 ≤ Z) (hY : ks K + 7500 ≤ Y) (h0 : tov f g 4096 → post none T (kset K Z Y)) (h1 : ¬ tov f g 4096 → ∀ T' K' w, xf (xsc K) T T' → kx K K' → kc K' = Z → ks K' = Y → ply (aOk A) (aN A 1) K' T' w (tm (aN A 1) f g 4096) → post (some w) T' K') : wx1_times_2 u v K T Z Y post := by
  have hW := hw.2.2.2.2 htd
  have hp := hW.1
  have hp1 := hp.1
  have hzz := h.1.2.1
  have B : ∀ (g : Nat → Nat) u, -2 ≤ mx (fun k => ex k u) g 4096 ∧ mx (fun k => ex k u) g 4096 ≤ 15 := fun g u => mx_b (B := 15) (fun k => Nat.le_of_lt_succ (ex_lt k u)) 4096
  unfold wx1_times_2 wx1_times_2_l2
  refine wl_up 3 (fun w x => x = nI w ∧ ∀ k j, k < 4096 → j < 4096 → f k ≠ 0 → g j ≠ 0 → ∀ u', u' < w → ex k u' + ex j u' < 16) 0 (by omega) ⟨rfl, fun _ _ _ _ _ _ u' hu => absurd hu (by omega)⟩ ?_
  rintro w x hw3 ⟨rfl, hs⟩ R hR
  have next : w < 3 → (∀ k j, k < 4096 → j < 4096 → f k ≠ 0 → g j ≠ 0 → ex k w + ex j w < 16) → ∀ x, x = nI w + 1 → R x := fun hu3 q x e => by
    subst e
    refine hR hu3 _ ⟨by rw [li_1, nI_add], fun k j hk hj hf hg u' hu' => ?_⟩
    by_cases z : u' = w
    · rw [z]; exact q k j hk hj hf hg
    · exact hs k j hk hj hf hg u' (by omega)
  unfold wx1_times_2_b2 wx1_times_2_j39
  rw [li_3, nI_leI (by omega) (by omega)]
  refine ⟨fun c3 => ?_, fun c3 => xs_isZero hu (fun z => b02 rfl (xs_isZero hv (fun z2 => b02 rfl (xs_most hu (by omega) (xs_most hv (by omega) ?_))) (fun z2 => b12 rfl (next (by omega) fun k j hk hj hf hg => absurd (cn_0 z2 j hj) hg)))) (fun z => b12 rfl (next (by omega) fun k j hk hj hf hg => absurd (cn_0 z k hk) hf))⟩
  · have nt : ¬ tov f g 4096 := fun ⟨j, hj, hg, k, hk, hf, hgs⟩ => hgs fun u' hu' => hs k j hk hj hf hg u' (by omega)
    obtain ⟨va, vb, n, a, u1, u2, u3, u4, u5, u6, u7, u8, u9, u10, u11⟩ := id hu
    obtain ⟨wa, wb, m, b, v1, v2, v3, v4, v5, v6, v7, v8, v9, v10, v11⟩ := id hv
    rw [← isr_cn u6] at hn
    rw [← isr_cn v6] at hm
    obtain ⟨k1, k2, k3, k4, ⟨oq, o1, o2, o3, o4⟩, _⟩ := h.2.2.2.2.2.2.2.2.1 htd
    have hgs : ∀ i j, i < n → j < m → gs (a i) (b j) := fun i j hi hj u' hu' => hs _ _ (u6.1 i hi).1 (v6.1 j hj).1 (u6.1 i hi).2 (v6.1 j hj).2 u' (by omega)
    unfold wx2_begins
    intro T1 t1
    refine ⟨by omega, by omega, fun K2 e2 T2 t2 => ?_⟩
    have z2 : kz K2 = kz K + 1 := by rw [e2]; rfl
    have c2 : kc K2 = kc K + 1 := by rw [e2]; rfl
    have s2 : ks K2 = ks K + 3 := by rw [e2]; rfl
    refine ⟨kc K2 + 2, ks K2 + 122, by omega, by omega, by omega, by omega, ?_⟩
    unfold wx8_init wx8_init_2
    refine ⟨kc K2 + 2, ks K2 + 122, by omega, by omega, by omega, by omega, fun T3 t3 => ⟨61, by omega, by rw [li_60, li_1, nI_add], by omega, by omega, fun K4 e4 T4 t4 T5 t5 => ⟨61, by omega, by rw [li_60, li_1, nI_add], by rw [e4, kc_new]; omega, by rw [e4, ks_new]; omega, fun K6 e6 T6 t6 T7 t7 => ?_⟩⟩⟩
    have z4 : kz K4 = kz K + 2 := by rw [e4, kz_new, z2]
    dsimp only
    generalize hK8 : kset (kset K6 (kc K2 + 2) (ks K2 + 122)) (kc K2 + 2) (ks K2 + 122) = K8
    have z8 : kz K8 = kz K + 3 := by rw [← hK8, kz_set, kz_set, e6, kz_new, z4]
    have c8 : kc K8 = kc K + 3 := by rw [← hK8, kc_set, c2]
    have s8 : ks K8 = ks K + 125 := by rw [← hK8, ks_set, s2]
    have x8 : kx K K8 := by
      rw [← hK8, e6, e4, e2]
      exact kx_tr (kx_tr (kx_tr (kx_tr (kx_new _ _ _ _) (kx_new _ _ _ _)) (kx_new _ _ _ _)) (kx_set _ _ _)) (kx_set _ _ _)
    have l81 : kl K8 (kz K + 1) = 61 := by rw [← hK8, kl_set, kl_set, e6, kl_new, if_neg (by omega), e4, kl_new, if_pos z2.symm]
    have l82 : kl K8 (kz K + 2) = 61 := by rw [← hK8, kl_set, kl_set, e6, kl_new, if_pos z4.symm]
    have f7 : xf (tx (kz K)) T T7 := by
      rw [t7, t6, t5, t4, t3, t2, t1]
      refine xf_tr (xf_tr (xf_tr (xf_tr (xf_tr (xf_tr (xf_wi ?_) (xf_nil ?_)) (xf_wi ?_)) (xf_nil ?_)) (xf_wr ?_)) (xf_nil ?_)) (xf_wr ?_) <;> (unfold tx; omega)
    refine ⟨n, by omega, by rw [(f7 u (by unfold tx; omega)).1]; exact u3, by omega, by omega, fun K9 e9 T9 t9 => ?_⟩
    rw [z8] at t9 ⊢
    have f9 : xf (tx (kz K)) T T9 := by
      rw [t9]
      exact xf_tr f7 (xf_nil (by unfold tx; omega))
    have z9 : kz K9 = kz K + 4 := by rw [e9, kz_new, z8]
    have c9 : kc K9 = kc K + 4 := by rw [e9, kc_new, c8]
    have s9 : ks K9 = ks K + 125 + n := by rw [e9, ks_new, s8]
    have x9 : kx K K9 := by rw [e9]; exact kx_tr x8 (kx_new _ _ _ _)
    have l91 : kl K9 (kz K + 1) = 61 := by rw [e9, kl_new, if_neg (by omega)]; exact l81
    have l92 : kl K9 (kz K + 2) = 61 := by rw [e9, kl_new, if_neg (by omega)]; exact l82
    have l93 : kl K9 (kz K + 3) = n := by rw [e9, kl_new, if_pos z8.symm]
    have l94 : kl K9 4 = 4096 := by rw [x9.2 4 (by omega)]; exact h.1.1 4 (by omega)
    have l95 : kl K9 5 = 4096 := by rw [x9.2 5 (by omega)]; exact h.1.1 5 (by omega)
    have r0 : xr T9 (kz K) 0 = some (kz K + 1) := by rw [t9, xr_nil, if_neg (by omega), t7, xr_wr, if_neg (by omega), t6, xr_nil, if_neg (by omega), t5, xr_wr, if_pos ⟨rfl, rfl⟩, z2]
    have r1 : xr T9 (kz K) 1 = some (kz K + 2) := by rw [t9, xr_nil, if_neg (by omega), t7, xr_wr, if_pos ⟨rfl, rfl⟩, z4]
    have i2 : xi T9 (kz K) 2 = nI 0 := by rw [t9, xi_nil, if_neg (by omega), t7, xi_wr, t6, xi_nil, if_neg (by omega), t5, xi_wr, t4, xi_nil, if_neg (by omega), t3, xi_wi, if_pos ⟨rfl, rfl⟩]; exact li_0
    have i3 : ∀ y, xi T9 (kz K + 3) y = nI 0 := fun y => by rw [t9, xi_nil, if_pos rfl]; exact li_0
    have i5 : xi T9 3 2 = nI 0 := by rw [t9, xi_nil, if_neg (by omega), t7, xi_wr, t6, xi_nil, if_neg (by omega), t5, xi_wr, t4, xi_nil, if_neg (by omega), t3, xi_wi, if_neg (by omega), t2, xi_nil, if_neg (by omega), t1, xi_wi, if_pos ⟨rfl, rfl⟩]; exact li_0
    have F : ∀ {T1 : XT}, xf (tx (kz K)) T T1 → ∀ k, (k = 0 ∨ 90 ≤ k) → k < kz K → xi T1 k = xi T k ∧ xr T1 k = xr T k := fun hf k _ _ => hf k (by unfold tx; omega)
    unfold wx1_times_2_l72
    refine wl_up n (fun i w => w.1 = nI i ∧ xf (tx (kz K)) T w.2 ∧ (∀ y, y < n → xi w.2 (kz K + 3) y = nI 0) ∧ xi w.2 3 2 = nI 0 ∧ (i = 0 ∨ 0 < m) ∧ hpe w.2 (kz K) (kz K + 1) (kz K + 2) i (fun y => y < i) (fun y => aOk A (a y + b 0))) 0 (by omega) ⟨li_0, f9, fun y _ => i3 y, i5, Or.inl rfl, ⟨fun _ => 0, r0, r1, i2, fun j q1 q2 => absurd q2 (by omega), fun j q1 q2 => absurd q2 (by omega), fun i j q1 q2 q3 => absurd q3 (by omega), fun y => ⟨fun z => absurd z (by omega), fun ⟨j, q1, q2, _⟩ => absurd q2 (by omega)⟩⟩⟩ ?_
    rintro i ⟨x5, T10⟩ hi ⟨hx5, f10, n10, r10, m10, p10⟩ R' hR'
    dsimp only at hx5 f10 n10 r10 p10
    subst hx5
    have go : (i = n ∨ m = 0) → wx1_times_2_l123 u v Z Y post (kz K) (kz K + 3) K9 T10 := fun hor => by
      refine xs_times123 hp hW.2.1 hzz k1 o1 o2 ⟨o3, o4⟩ u1 u2 u3 u4 u5 u6 u7 u8 ⟨u9.1, u9.2.1⟩ u10 u11 v1 v2 v3 v4 v5 v6 v7 v8 ⟨v9.1, v9.2.1⟩ v10 v11 hn hm hgs x9 z9 l91 l92 l93 l94 l95 (by omega) (by omega) (fun _ => 0) i f10 (fun _ _ => rfl) ⟨fun y hy => ⟨Nat.zero_le _, n10 y hy⟩, hpe_cg p10 (fun y => ?_) (fun y _ => rfl), hi⟩ r10 (fun T' K' w' f' x' c' s' p' => h1 nt T' K' w' (xf_mono f' (fun k hk => ?_)) (kx_tr x9 x') c' s' p')
      · dsimp only
        constructor
        · intro z; omega
        · intro z; omega
      · rcases hk with hk | hk
        · unfold tx at hk; unfold xsc; omega
        · unfold xsc; omega
    have Eu := F f10 u (Or.inr u9.1) u9.2.1
    have Ev := F f10 v (Or.inr v9.1) v9.2.1
    have Eva := F f10 va (Or.inr u10.1) u10.2
    have Ewa := F f10 wa (Or.inr v10.1) v10.2
    have E0 := F f10 0 (Or.inl rfl) (by omega)
    have Eq := F f10 oq (Or.inr o3) o4
    unfold wx1_times_2_b72
    dsimp only
    rw [Eu.1, u3, nI_leI (by omega) (by omega)]
    refine ⟨fun c => go (Or.inl (by omega)), fun c => xs_isZero (ply_keep hv f10 x9 (fun k q1 q2 => by unfold tx; omega)) (fun z => b02 rfl ?_) (fun z => b12 rfl (go (Or.inr (by rw [isr_cn v6]; exact z))))⟩
    have hm0 : 0 < m := by rw [isr_cn v6]; omega
    have hin : i < n := by omega
    have ho9 : orn K9 T10 oq (aN A 2) (aN A 3) (aN A 4) := by
      unfold orn at o2 ⊢
      rw [Eq.1, x9.2 oq o4]
      exact o2
    have lva := x9.2 va u10.2
    have lwa := x9.2 wa v10.2
    refine ⟨oq, by rw [E0.2]; exact o1, va, by rw [Eu.2]; exact u1, i, by omega, rfl, wa, by rw [Ev.2]; exact v1, 0, by omega, li_0, ?_⟩
    have hk4 := (gs_ex (u6.1 i hin).1 (v6.1 0 hm0).1 (hgs i 0 hin hm0)).1
    rw [Eva.1, Ewa.1, (u7 i hin).1, (v7 0 hm0).1, nI_add]
    refine xs_key hW.2.1 ho9 (by omega) ?_
    refine xs_hadd (x := i) p10 (by omega) (by omega) (by omega) l91 l92 (by omega) (fun z => absurd z (by omega)) (fun y => ok_lt hW.2.1 _) (fun T11 f11 p11 x5 e5 => ?_)
    subst e5
    refine hR' hin _ ⟨by dsimp only; rw [li_1, nI_add], xf_tr f10 (xf_mono f11 (fun k hk => by unfold h3 at hk; unfold tx; omega)), fun y hy => ?_, ?_, Or.inr hm0, hpe_cg p11 (fun y => ?_) (fun y _ => rfl)⟩
    · dsimp only
      rw [(f11 (kz K + 3) (by unfold h3; omega)).1]
      exact n10 y hy
    · dsimp only
      rw [(f11 3 (by unfold h3; omega)).1]
      exact r10
    · constructor
      · intro z; omega
      · intro z; omega
  · have b1 := B f w
    have b2 := B g w
    rw [z_add, show (15 : Int32) = zI 15 from rfl, z_le (by omega) (by omega)]
    refine ⟨fun q => next (by omega) fun k j hk hj hf hg => ?_, fun q => h0 ?_⟩
    · have q1 := mx_le (g := fun k => ex k w) hk hf
      have q2 := mx_le (g := fun k => ex k w) hj hg
      have q1 : (ex k w : Int) ≤ mx (fun k => ex k w) f 4096 := q1
      have q2 : (ex j w : Int) ≤ mx (fun k => ex k w) g 4096 := q2
      omega
    · rcases mx_ex (g := fun k => ex k w) (f := f) (n := 4096) with z2 | ⟨k, q1, q2, q3⟩
      · rw [z2] at q; omega
      · rcases mx_ex (g := fun k => ex k w) (f := g) (n := 4096) with z2 | ⟨j, q4, q5, q6⟩
        · rw [z2] at q; omega
        · refine ⟨j, q4, q5, k, q1, q2, fun z => ?_⟩
          have := z w (by omega)
          have q3 : mx (fun k => ex k w) f 4096 = (ex k w : Int) := q3
          have q6 : mx (fun k => ex k w) g 4096 = (ex j w : Int) := q6
          omega
theorem xc_times {A : AB} {K : XK} {T : XT} {x y z : Int32} {Z Y : Nat} {post : Int32 → XT → XK → Prop} (h : rx A K T) (hw : wf A) (hZ : kc K + 10 ≤ Z) (hY : ks K + 9000 ≤ Y) (h0 : ¬ (aN A 0 = 1 ∧ inr x 7 ∧ inr y 7 ∧ inr z 7) → pst (aS A 1 (-1)) (-1) Z Y post) (h1 : aN A 0 = 1 → ∀ r q k, r < 8 → q < 8 → k < 8 → x = nI r → y = nI q → z = nI k → lydx A k (tm (aN A 1) (aR A r) (aR A q) 4096) (¬ tov (aR A r) (aR A q) 4096) Z Y post) : wx1_times x y z K T Z Y post := by
  unfold wx1_times
  refine xv3 (by omega) (by omega) (fun K1 T1 f1 k1 l1 a1 c1 s1 z1 => ?_)
  have g := rx_keep h f1 k1
  refine xh_is g hw l1 (by omega) a1 (fun q T2 r2 => b11 rfl (pst_u (h0 fun w => q ⟨w.1, all3.2 w.2⟩) r2)) (fun ht q T2 f2 r2 => b01 rfl ?_)
  obtain ⟨⟨r, hr, er⟩, ⟨s, hs, es⟩, ⟨k, hk, ek⟩⟩ := all3.1 q
  obtain ⟨gg, q1, q2, q3⟩ := rx_reg2 r2
  obtain ⟨v, v1, v2⟩ := q3 r (by omega)
  obtain ⟨w, w1, w2⟩ := q3 s (by omega)
  have fin := h1 ht r s k (by omega) (by omega) (by omega) er es ek
  have c60 := reg60 hw ht (show r < 8 by omega)
  have d60 := reg60 hw ht (show s < 8 by omega)
  refine ⟨gg, q1, r, by omega, er, v, v1, gg, q1, s, by omega, es, w, w1, kc K1 + 7, ks K1 + 7500, by omega, by omega, by omega, by omega, ?_⟩
  subst ek
  refine xs_times (A := aS A 0 (-1)) r2 (wf_S hw) ht v2 w2 c60 d60 (Nat.le_refl _) (Nat.le_refl _) (fun q => ⟨kc K1 + 8, ks K1 + 7508, by rw [kc_set]; omega, by omega, by rw [ks_set]; omega, by omega, ?_⟩) (fun q T3 K3 w' f3 x3 c3 s3 p3 => ⟨kc K3 + 1, ks K3 + 8, by omega, by omega, by omega, by omega, ?_⟩)
  · exact xs_lays (rx_keep r2 (xf_rfl _ _) (kx_set _ _ _)) hw ht (by omega) (P := ¬ tov (aR A r) (aR A s) 4096) (Or.inl ⟨rfl, fun z => z q⟩) (by rw [kc_set]; omega) (by rw [ks_set]; omega) (lydx_k fin)
  · exact xs_lays (rx_keep r2 f3 x3) hw ht (by omega) (P := ¬ tov (aR A r) (aR A s) 4096) (Or.inr ⟨w', rfl, q, p3⟩) (Nat.le_refl _) (Nat.le_refl _) (lydx_k fin)
