set_option maxRecDepth 100000
/-! sums of polynomials -/
theorem xs_goes {o : Nat → Nat} {p : Nat} {K : XK} {T : XT} {v t : Nat} {g : Nat → Nat} {post : Int32 → Prop} (h : ply o p K T v g) (ht : t < 4096) (h1 : ¬ ovf g 1 t → post 1) (h0 : ovf g 1 t → post 0) : wx1_goes v (nI t) K T post := by
  have B : ∀ u, -2 ≤ mx (fun k => ex k u) g 4096 ∧ mx (fun k => ex k u) g 4096 ≤ 15 := fun u => mx_b (B := 15) (fun k => Nat.le_of_lt_succ (ex_lt k u)) 4096
  unfold wx1_goes wx1_goes_l2
  refine wl_up 3 (fun u w => w = nI u ∧ ∀ k, k < 4096 → g k ≠ 0 → ∀ u', u' < u → ex k u' + ex t u' < 16) 0 (by omega) ⟨rfl, fun k _ _ u' hu => absurd hu (by omega)⟩ ?_
  rintro u w hu ⟨rfl, hs⟩ R hR
  unfold wx1_goes_b2 wx1_goes_j32
  rw [li_3, nI_leI (by omega) (by omega)]
  have next : u < 3 → (∀ k, k < 4096 → g k ≠ 0 → ex k u + ex t u < 16) → ∀ x, x = nI u + 1 → R x := fun hu3 q x e => by
    subst e
    refine hR hu3 _ ⟨by rw [li_1, nI_add], fun k hk hz u' hu' => ?_⟩
    by_cases w : u' = u
    · rw [w]; exact q k hk hz
    · exact hs k hk hz u' (by omega)
  refine ⟨fun c => h1 fun ⟨_, k, k1, k2, k3⟩ => k3 fun u' hu' => hs k k1 k2 u' (by omega), fun c => ?_⟩
  refine xs_isZero h (fun z => b02 rfl ?_) (fun z => b12 rfl (next (by omega) fun k hk hz => absurd (cn_0 z k hk) hz))
  have hl := ex_lt t u
  have b := B u
  refine xs_most h (by omega) (xs_exponent (by omega) (by omega) ?_)
  rw [z_nI, z_add, show (15 : Int32) = zI 15 from rfl, z_le (by omega) (by omega)]
  refine ⟨fun q => next (by omega) fun k hk hz => ?_, fun q => h0 ?_⟩
  · have := mx_le (g := fun k => ex k u) hk hz
    have this : (ex k u : Int) ≤ mx (fun k => ex k u) g 4096 := this
    omega
  · rcases mx_ex (g := fun k => ex k u) (f := g) (n := 4096) with z2 | ⟨k, k1, k2, k3⟩
    · rw [z2] at q; omega
    · refine ⟨by omega, k, k1, k2, fun w => ?_⟩
      have := w u (by omega)
      have k3 : mx (fun k => ex k u) g 4096 = (ex k u : Int) := k3
      omega
theorem xs_copyOf {K : XK} {T : XT} {v n Z Y : Nat} {post : Nat → XT → XK → Prop} (hv : v < kz K) (hn : n ≤ kl K v) (hb : kl K v < 2 ^ 27) (hZ : kc K + 1 ≤ Z) (hY : ks K + n ≤ Y) (hp : ∀ T' K', xf (fun k => k = kz K) T T' → kx K K' → kz K' = kz K + 1 → kc K' = Z → ks K' = Y → kl K' (kz K) = n → (∀ i, i < n → xi T' (kz K) i = xi T v i) → post (kz K) T' K') : wxJ3_copyOf v (nI n) K T Z Y post := by
  unfold wxJ3_copyOf
  rw [nI_eq (by omega) (by omega)]
  have kl2 : ∀ n, kl (kset (knew K 1 n n) Z Y) (kz K) = n := fun n => if_pos rfl
  have kx2 : ∀ n, kx K (kset (knew K 1 n n) Z Y) := fun n => kx_tr (kx_new _ _ _ _) (kx_set _ _ _)
  refine ⟨fun q => ⟨n, by omega, rfl, hZ, hY, fun K1 e1 T1 et => ?_⟩, fun q => ⟨hZ, by omega, fun K1 e1 T1 et => ?_⟩⟩
  · subst e1 et
    have e0 : kl (knew K 1 n n) v = kl K v := by rw [kl_new, if_neg (by omega)]
    have e2 : kl (knew K 1 n n) (kz K) = n := if_pos rfl
    refine ⟨0, 0, n, rfl, rfl, ?_, by rw [e0]; omega, by rw [e2]; omega, fun T2 e2' => ?_⟩
    · rw [e0]
      unfold jmin
      by_cases w : nI n < nI (kl K v)
      · rw [if_pos w]
      · rw [if_neg w]
        rw [nI_ltI (by omega) (by omega)] at w
        rw [show kl K v = n by omega]
    · subst e2'
      refine hp _ _ (xf_tr (xf_nil rfl) (xf_cpy rfl)) (kx2 n) rfl rfl rfl (kl2 n) (fun i hi => ?_)
      rw [xi_cpy, if_pos ⟨rfl, by omega, by omega⟩, xi_nil, if_neg (by omega)]
      congr 1
      omega
  · subst e1 et
    refine hp _ _ (xf_tr (xf_nil rfl) (xf_dup rfl)) (kx2 _) rfl rfl rfl ((kl2 _).trans q.symm) (fun i hi => ?_)
    rw [xi_dup, if_pos rfl, xi_nil, if_neg (by omega)]
theorem xs_poly {o : Nat → Nat} {p to N Z Y : Nat} {K : XK} {T : XT} {e h : Nat → Nat} {post : Nat → XT → XK → Prop} (hz : 90 ≤ kz K) (hto : to + 2 < kz K) (hi : isr o h N e) (hr : rwd T to N e h) (hhp : ∀ k, k < 4096 → h k < p) (hl1 : N ≤ kl K (to + 1)) (hl2 : N ≤ kl K (to + 2)) (hb1 : kl K (to + 1) < 2 ^ 27) (hb2 : kl K (to + 2) < 2 ^ 27) (hZ : kc K + 3 ≤ Z) (hY : ks K + 3 + 2 * N ≤ Y) (hp : ∀ T' K', xf (fun k => kz K ≤ k) T T' → kx K K' → kz K' = kz K + 3 → kc K' = Z → ks K' = Y → ply o p K' T' (kz K) h → post (kz K) T' K') : wx2_poly to K T Z Y post := by
  obtain ⟨r1, r2⟩ := hr
  unfold wx2_poly wx6_init_2
  refine ⟨by omega, by omega, fun K1 e1 T1 et => ⟨kc K1 + 1, ks K1 + N, by omega, ?_, by omega, ?_, ?_⟩⟩
  · rw [e1, kc_new]; omega
  · rw [e1, ks_new]; omega
  have z1 : kz K1 = kz K + 1 := by rw [e1]; rfl
  have c1 : kc K1 = kc K + 1 := by rw [e1]; rfl
  have s1 : ks K1 = ks K + 3 := by rw [e1]; rfl
  have x1 : kx K K1 := by rw [e1]; exact kx_new _ _ _ _
  have f1 : xf (fun k => kz K ≤ k) T T1 := by rw [et]; exact xf_nil (Nat.le_refl _)
  have t1 : ∀ k, k < kz K → xi T1 k = xi T k := fun k hk => (f1 k (by omega)).1
  rw [t1 to (by omega), r1]
  refine xs_copyOf (by omega) (by rw [x1.2 _ (by omega)]; exact hl1) (by rw [x1.2 _ (by omega)]; exact hb1) (Nat.le_refl _) (Nat.le_refl _) (fun T2 K2 f2 x2 z2 c2 s2 l2 g2 => ⟨kc K2 + 1, ks K2 + N, by omega, by omega, by omega, by omega, ?_⟩)
  have f2' : xf (fun k => kz K ≤ k) T T2 := xf_tr f1 (xf_mono f2 (fun k hk => by omega))
  have x2' := kx_tr x1 x2
  rw [(f2' to (by omega)).1, r1]
  refine xs_copyOf (by omega) (by rw [x2'.2 _ (by omega)]; exact hl2) (by rw [x2'.2 _ (by omega)]; exact hb2) (Nat.le_refl _) (Nat.le_refl _) (fun T3 K3 f3 x3 z3 c3 s3 l3 g3 T4 e4 T5 e5 T6 e6 => ?_)
  have f3' : xf (fun k => kz K ≤ k) T T3 := xf_tr f2' (xf_mono f3 (fun k hk => by omega))
  have f6 : xf (fun k => kz K ≤ k) T T6 := by
    rw [e6, e5, e4]
    exact xf_tr (xf_tr (xf_tr f3' (xf_wi (Nat.le_refl _))) (xf_wr (Nat.le_refl _))) (xf_wr (Nat.le_refl _))
  have x3' := kx_tr x2' x3
  have i6 : ∀ k j, k ≠ kz K → xi T6 k j = xi T3 k j := fun k j hk => by rw [e6, xi_wr, e5, xi_wr, e4, xi_wi, if_neg (fun z => hk z.1)]
  refine hp T6 (kset K3 Z Y) f6 (kx_tr x3' (kx_set _ _ _)) (by rw [kz_set]; omega) rfl rfl ⟨kz K1, kz K2, N, e, ?_, ?_, ?_, ?_, ?_, hi, fun i hi' => ?_, hhp, ?_, ?_, ?_⟩
  · rw [e6, xr_wr, if_neg (by omega), e5, xr_wr, if_pos ⟨rfl, rfl⟩]
  · rw [e6, xr_wr, if_pos ⟨rfl, rfl⟩]
  · rw [e6, xi_wr, e5, xi_wr, e4, xi_wi, if_pos ⟨rfl, rfl⟩]
  · rw [kl_set, x3.2 _ (by omega), l2]; exact Nat.le_refl _
  · rw [kl_set, l3]; exact Nat.le_refl _
  · rw [i6 _ _ (by omega), i6 _ _ (by omega), (f3 (kz K1) (by omega)).1, g2 i hi', g3 i hi', t1 _ (by omega), (f2' (to + 2) (by omega)).1]
    exact r2 i hi'
  · refine ⟨hz, by rw [kz_set]; omega, ?_⟩
    rw [kl_set, x3.2 _ (by omega), x2.2 _ (by omega), e1, kl_new, if_pos rfl]
  · rw [kz_set]; omega
  · rw [kz_set]; omega
theorem xs_init0 {o : Nat → Nat} {p v Z Y : Nat} {K : XK} {T : XT} {post : XT → XK → Prop} (hp0 : 0 < p) (hv : v < kz K) (hv9 : 90 ≤ v) (hkv : kl K v = 0) (hZ : kc K + 2 ≤ Z) (hY : ks K ≤ Y) (hp : ∀ T' K', xf (fun k => k = v ∨ kz K ≤ k) T T' → kx K K' → kz K' = kz K + 2 → kc K' = Z → ks K' = Y → ply o p K' T' v (fun _ => 0) → post T' K') : wx6_init v K T Z Y post := by
  unfold wx6_init wx6_init_2
  refine ⟨by omega, by omega, fun K1 e1 T1 t1 => ⟨by rw [e1, kc_new]; omega, by rw [e1, ks_new]; omega, fun K2 e2 T2 t2 T3 t3 T4 t4 T5 t5 => ?_⟩⟩
  have z1 : kz K1 = kz K + 1 := by rw [e1]; rfl
  have f5 : xf (fun k => k = v ∨ kz K ≤ k) T T5 := by
    rw [t5, t4, t3, t2, t1]
    exact xf_tr (xf_tr (xf_tr (xf_tr (xf_nil (Or.inr (Nat.le_refl _))) (xf_nil (Or.inr (by omega)))) (xf_wi (Or.inl rfl))) (xf_wr (Or.inl rfl))) (xf_wr (Or.inl rfl))
  refine hp T5 (kset K2 Z Y) f5 (by rw [e2, e1]; exact kx_tr (kx_tr (kx_new _ _ _ _) (kx_new _ _ _ _)) (kx_set _ _ _)) (by rw [kz_set, e2, kz_new, z1]) rfl rfl ⟨kz K, kz K1, 0, fun i => i, ?_, ?_, ?_, by omega, by omega, ⟨fun i hi => absurd hi (by omega), fun i j _ hj => absurd hj (by omega), fun k _ hz => absurd rfl hz⟩, fun i hi => absurd hi (by omega), fun _ _ => hp0, ?_, ?_, ?_⟩
  · rw [t5, xr_wr, if_neg (by omega), t4, xr_wr, if_pos ⟨rfl, rfl⟩]
  · rw [t5, xr_wr, if_pos ⟨rfl, rfl⟩]
  · rw [t5, xi_wr, t4, xi_wr, t3, xi_wi, if_pos ⟨rfl, rfl⟩]; rfl
  · refine ⟨hv9, by rw [kz_set, e2, kz_new]; omega, ?_⟩
    rw [kl_set, e2, kl_new, if_neg (by omega), e1, kl_new, if_neg (by omega)]; exact hkv
  · rw [kz_set, e2, kz_new]; omega
  · rw [kz_set, e2, kz_new]; omega
/-- a sum: p + q times a number and a term; 'none' if an exponent is too great -/
theorem xs_sum2 {A : AB} {K : XK} {T : XT} {u v c t Z Y : Nat} {f g : Nat → Nat} {post : Option Nat → XT → XK → Prop} (h : rx A K T) (hw : wf A) (htd : aN A 0 = 1) (hu : ply (aOk A) (aN A 1) K T u f) (hv : ply (aOk A) (aN A 1) K T v g) (hc : c < aN A 1) (ht : t < 4096) (hnm : cn f 4096 + cn g 4096 ≤ 200) (hZ : kc K + 3 ≤ Z) (hY : ks K + 403 ≤ Y) (h0 : ovf g 1 t → post none T (kset K Z Y)) (h1 : ¬ ovf g 1 t → ∀ T' K', xf (xsc K) T T' → kx K K' → kz K' = kz K + 3 → kc K' = Z → ks K' = Y → ply (aOk A) (aN A 1) K' T' (kz K) (sm (aN A 1) f g c t) → post (some (kz K)) T' K') : wx1_sum_2 u v (nI c) (nI t) K T Z Y post := by
  have hW := hw.2.2.2.2 htd
  have hp := hW.1
  have hp1 := hp.1
  have hzz := h.1.2.1
  unfold wx1_sum_2
  refine xs_goes hv ht (fun q => b11 rfl ?_) (fun q => b01 rfl (h0 q))
  obtain ⟨va, vb, n, a, u1, u2, u3, u4, u5, u6, u7, u8, u9, u10, u11⟩ := hu
  obtain ⟨wa, wb, m, b, v1, v2, v3, v4, v5, v6, v7, v8, v9, v10, v11⟩ := hv
  rw [← isr_cn u6, ← isr_cn v6] at hnm
  refine ⟨va, u1, vb, u2, ?_⟩
  rw [u3]
  obtain ⟨k1, k2, k3, k4, ⟨oq, o1, o2, o3, o4⟩, _⟩ := h.2.2.2.2.2.2.2.2.1 htd
  have l4 : kl K (3 + 1) = 4096 := h.1.1 4 (by omega)
  have l5 : kl K (3 + 2) = 4096 := h.1.1 5 (by omega)
  have d : ∀ k, 90 ≤ k → ¬ r3 3 k := fun k hk => by unfold r3; omega
  refine xs_merges hp hW.2.1 k1 o1 o2 u6 u7 u8 u4 u5 v1 v2 v3 v6 v7 v8 v4 v5 hc ht (fun j hj => Classical.byContradiction fun w => q ⟨by omega, b j, (v6.1 j hj).1, (v6.1 j hj).2, w⟩) (by rw [l4]; omega) (by rw [l5]; omega) (by unfold r3; omega) (d oq o3) (d va u10.1) (d vb u11.1) (d v v9.1) (d wa v10.1) (d wb v11.1) (fun T2 N e f2 hi2 rw2 hN => ?_)
  refine ⟨kc K + 3, ks K + 403, by omega, by omega, by omega, by omega, xs_poly hzz (by omega) hi2 rw2 (fun k _ => Nat.mod_lt _ (by omega)) (by rw [l4]; omega) (by rw [l5]; omega) (by rw [l4]; omega) (by rw [l5]; omega) (Nat.le_refl _) (by omega) (fun T3 K3 f3 x3 z3 c3 s3 p3 => ?_)⟩
  have f4 : xf (xsc K) T T3 := xf_tr (xf_mono f2 (fun k hk => by unfold r3 at hk; unfold xsc; omega)) (xf_mono f3 (fun k hk => by unfold xsc; omega))
  exact h1 q T3 (kset K3 Z Y) f4 (kx_tr x3 (kx_set _ _ _)) (by rw [kz_set]; exact z3) rfl rfl (ply_keep p3 (xf_rfl (fun _ => False) _) (kx_set _ _ _) (fun _ _ _ w => w))
