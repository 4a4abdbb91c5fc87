set_option maxRecDepth 100000
theorem pst_k {A : AB} {v : Int32} {Z Y Z' Y' : Nat} {post : Int32 → XT → XK → Prop} (h : pst A v Z Y post) : pst A v Z' Y' (fun r T K => post r T (kset K Z Y)) := fun T' K' hr _ _ => pst_u h hr
/-- what an act that lays a table comes to -/
def lydx (A : AB) (k : Nat) (w : Nat → Nat) (P : Prop) (Z Y : Nat) (post : Int32 → XT → XK → Prop) : Prop := ((¬ P ∨ 60 < cn (tr w) 4096) → pst (aS A 3 (-1)) (-1) Z Y post) ∧ (P → cn (tr w) 4096 ≤ 60 → pst (aL A k (tr w)) (nI (cn (tr w) 4096)) Z Y post)
theorem lydx_k {A : AB} {k : Nat} {w : Nat → Nat} {P : Prop} {Z Y Z' Y' : Nat} {post : Int32 → XT → XK → Prop} (h : lydx A k w P Z Y post) : lydx A k w P Z' Y' (fun r T K => post r T (kset K Z Y)) := ⟨fun q => pst_k (h.1 q), fun q1 q2 => pst_k (h.2 q1 q2)⟩
theorem ply_cg {o : Nat → Nat} {p : Nat} {K : XK} {T : XT} {v : Nat} {f g : Nat → Nat} (h : ply o p K T v f) (he : ∀ k, k < 4096 → f k = g k) : ply o p K T v g := by
  obtain ⟨va, vb, n, a, h1, h2, h3, h4, h5, h6, h7, h8, h9, h10, h11⟩ := h
  exact ⟨va, vb, n, a, h1, h2, h3, h4, h5, isr_ext h6 (fun k hk => by rw [he k hk]), fun i hi => by rw [← he _ (h6.1 i hi).1]; exact h7 i hi, fun k hk => by rw [← he k hk]; exact h8 k hk, h9, h10, h11⟩
theorem xs_lays {A : AB} {K : XK} {T : XT} {k Z Y : Nat} {ov : Option Nat} {w : Nat → Nat} {P : Prop} {post : Int32 → XT → XK → Prop} (h : rx (aS A 0 (-1)) K T) (hw : wf A) (ht : aN A 0 = 1) (hk : k < 8) (hov : (ov = none ∧ ¬ P) ∨ ∃ v, ov = some v ∧ P ∧ ply (aOk A) (aN A 1) K T v w) (hZ : kc K + 1 ≤ Z) (hY : ks K + 8 ≤ Y) (hl : lydx A k w P Z Y post) : wx1_lays ov (nI k) K T Z Y post := by
  have bad : (¬ P ∨ 60 < cn (tr w) 4096) → wx1_lays_j13 ov (nI k) Z Y post K T := fun q => by
    unfold wx1_lays_j13
    exact xs_no h (by decide) (fun T' r' => pst_u (hl.1 q) (by rw [aS_aS] at r'; exact r'))
  unfold wx1_lays
  refine ⟨fun e => bad ?_, fun v e => ?_⟩
  · rcases hov with ⟨_, q⟩ | ⟨v, q, _⟩
    · exact Or.inl q
    · rw [e] at q; cases q
  · rcases hov with ⟨q, _⟩ | ⟨v', q, hP, hpl⟩
    · rw [e] at q; cases q
    · have ev : v' = v := by
        rw [e] at q
        injection q with q
        exact q.symm
      subst ev
      have hcn := cn_le w 4096
      have e2 : xi T v' 2 = nI (cn (tr w) 4096) := by rw [ply_n hpl, cn_tr]
      rw [cn_tr] at e2
      rw [e2, li_60, nI_leI (by omega) (by omega)]
      refine ⟨fun c => ?_, fun c => bad (Or.inr (by rw [cn_tr]; omega))⟩
      have hw0 : wf (aS A 0 (-1)) := wf_S hw
      refine ⟨kc K + 1, ks K + 8, by omega, by omega, by omega, by omega, xs_keeps h hw0 ht (Nat.le_refl _) (Nat.le_refl _) (fun T2 K2 g r2 f2 x2 c2 s2 g2 g0 => ?_)⟩
      obtain ⟨gg, y1, y2, y3⟩ := rx_reg r2
      have egg : gg = g := by
        rw [g2] at y1
        injection y1 with y1
        exact y1.symm
      subst egg
      have hzz := h.1.2.1
      have hpl2 : ply (aOk A) (aN A 1) K2 T2 v' w := ply_keep hpl f2 x2 (fun k a b => by omega)
      refine ⟨gg, g2, k, by omega, rfl, fun T3 e3 => ?_⟩
      have r3 : rx (aG (aK (aS A 0 (-1))) k (tr w)) K2 T3 := by
        rw [e3]
        exact rx_G r2 g2 hk (ply_cg hpl2 (fun k hk => (tr_lt hk).symm))
      have e4 : xi T3 v' 2 = nI (cn (tr w) 4096) := by
        rw [e3, xi_wr, ply_n hpl2, cn_tr]
      rw [e4]
      exact pst_u (hl.2 hP (by rw [cn_tr]; exact c)) r3
theorem rx_reg2 {A : AB} {K : XK} {T : XT} {t w : Int32} (h : rx (aS A t w) K T) : ∃ g, xr T 0 18 = some g ∧ kl K g = 8 ∧ ∀ r, r < 8 → ∃ v, xr T g r = some v ∧ ply (aOk A) (aN A 1) K T v (aR A r) := rx_reg (A := aS A t w) h
theorem reg60 {A : AB} (hw : wf A) (ht : aN A 0 = 1) {r : Nat} (hr : r < 8) : cn (aR A r) 4096 ≤ 60 := ((hw.2.2.2.2 ht).2.2.1 r hr).2
theorem xs_sum2' {A : AB} {K : XK} {T : XT} {u v c t Z Y : Nat} {f g : Nat → Nat} {post : Option Nat → XT → XK → Prop} (h : rx (aS A 0 (-1)) K T) (hw : wf A) (htd : aN A 0 = 1) (hu : ply (aOk A) (aN A 1) K T u f) (hv : ply (aOk A) (aN A 1) K T v g) (hc : c < aN A 1) (ht : t < 4096) (hnm : cn f 4096 + cn g 4096 ≤ 200) (hZ : kc K + 3 ≤ Z) (hY : ks K + 403 ≤ Y) (h1 : ∀ T' K' ov, xf (xsc K) T T' → kx K K' → kz K' ≤ kz K + 3 → kc K' = Z → ks K' = Y → rx (aS A 0 (-1)) K' T' → ((ov = none ∧ ovf g 1 t) ∨ ∃ w, ov = some w ∧ ¬ ovf g 1 t ∧ ply (aOk A) (aN A 1) K' T' w (sm (aN A 1) f g c t)) → post ov T' K') : wx1_sum_2 u v (nI c) (nI t) K T Z Y post := by
  refine xs_sum2 (A := aS A 0 (-1)) h (wf_S hw) htd hu hv hc ht hnm hZ hY (fun q => ?_) (fun q T' K' f' x' z' c' s' p' => ?_)
  · exact h1 T (kset K Z Y) none (xf_rfl _ _) (kx_set _ _ _) (by rw [kz_set]; omega) rfl rfl (rx_keep h (xf_rfl _ _) (kx_set _ _ _)) (Or.inl ⟨rfl, q⟩)
  · exact h1 T' K' _ f' x' (by omega) c' s' (rx_keep h f' x') (Or.inr ⟨_, rfl, q, p'⟩)
theorem xc_add {A : AB} {K : XK} {T : XT} {x y z : Int32} {Z Y : Nat} {post : Int32 → XT → XK → Prop} (h : rx A K T) (hw : wf A) (hZ : kc K + 10 ≤ Z) (hY : ks K + 1000 ≤ Y) (h0 : ¬ (aN A 0 = 1 ∧ inr x 7 ∧ inr y 7 ∧ inr z 7) → pst (aS A 1 (-1)) (-1) Z Y post) (h1 : aN A 0 = 1 → ∀ r q k, r < 8 → q < 8 → k < 8 → x = nI r → y = nI q → z = nI k → lydx A k (sm (aN A 1) (aR A r) (aR A q) 1 0) True Z Y post) : wx1_add x y z K T Z Y post := by
  unfold wx1_add
  refine xv3 (by omega) (by omega) (fun K1 T1 f1 k1 l1 a1 c1 s1 z1 => ?_)
  have g := rx_keep h f1 k1
  refine xh_is g hw l1 (by omega) a1 (fun q T2 r2 => b11 rfl (pst_u (h0 fun w => q ⟨w.1, all3.2 w.2⟩) r2)) (fun ht q T2 f2 r2 => b01 rfl ?_)
  obtain ⟨⟨r, hr, er⟩, ⟨s, hs, es⟩, ⟨k, hk, ek⟩⟩ := all3.1 q
  obtain ⟨gg, q1, q2, q3⟩ := rx_reg2 r2
  obtain ⟨v, v1, v2⟩ := q3 r (by omega)
  obtain ⟨w, w1, w2⟩ := q3 s (by omega)
  have fin := h1 ht r s k (by omega) (by omega) (by omega) er es ek
  have c60 := reg60 hw ht (show r < 8 by omega)
  have d60 := reg60 hw ht (show s < 8 by omega)
  have hp := (hw.2.2.2.2 ht).1.1
  refine ⟨gg, q1, r, by omega, er, v, v1, gg, q1, s, by omega, es, w, w1, kc K1 + 3, ks K1 + 403, by omega, by omega, by omega, by omega, ?_⟩
  rw [li_1, li_0]
  refine xs_sum2' r2 hw ht v2 w2 (by omega) (by omega) (by omega) (Nat.le_refl _) (Nat.le_refl _) (fun T3 K3 ov f3 x3 z3 c3 s3 r3 o3 => ⟨kc K3 + 1, ks K3 + 8, by omega, by omega, by omega, by omega, ?_⟩)
  subst ek
  refine xs_lays r3 hw ht (by omega) (P := True) ?_ (Nat.le_refl _) (Nat.le_refl _) (lydx_k fin)
  rcases o3 with ⟨_, o⟩ | ⟨w', o1, _, o2⟩
  · exact absurd o no_ovf
  · exact Or.inr ⟨w', o1, trivial, o2⟩
theorem xc_less {A : AB} {K : XK} {T : XT} {x y z : Int32} {Z Y : Nat} {post : Int32 → XT → XK → Prop} (h : rx A K T) (hw : wf A) (hZ : kc K + 10 ≤ Z) (hY : ks K + 1000 ≤ Y) (h0 : ¬ (aN A 0 = 1 ∧ inr x 7 ∧ inr y 7 ∧ inr z 7) → pst (aS A 1 (-1)) (-1) Z Y post) (h1 : aN A 0 = 1 → ∀ r q k, r < 8 → q < 8 → k < 8 → x = nI r → y = nI q → z = nI k → lydx A k (sm (aN A 1) (aR A r) (aR A q) (aN A 1 - 1) 0) True Z Y post) : wx1_less x y z K T Z Y post := by
  unfold wx1_less
  refine xv3 (by omega) (by omega) (fun K1 T1 f1 k1 l1 a1 c1 s1 z1 => ?_)
  have g := rx_keep h f1 k1
  refine xh_is g hw l1 (by omega) a1 (fun q T2 r2 => b11 rfl (pst_u (h0 fun w => q ⟨w.1, all3.2 w.2⟩) r2)) (fun ht q T2 f2 r2 => b01 rfl ?_)
  obtain ⟨⟨r, hr, er⟩, ⟨s, hs, es⟩, ⟨k, hk, ek⟩⟩ := all3.1 q
  obtain ⟨gg, q1, q2, q3⟩ := rx_reg2 r2
  obtain ⟨v, v1, v2⟩ := q3 r (by omega)
  obtain ⟨w, w1, w2⟩ := q3 s (by omega)
  have fin := h1 ht r s k (by omega) (by omega) (by omega) er es ek
  have c60 := reg60 hw ht (show r < 8 by omega)
  have d60 := reg60 hw ht (show s < 8 by omega)
  have hp := (hw.2.2.2.2 ht).1.1
  have hp0 : xi T2 0 0 = nI (aN A 1) := rx_p (A := aS A 0 (-1)) r2 ht
  refine ⟨gg, q1, r, by omega, er, v, v1, gg, q1, s, by omega, es, w, w1, kc K1 + 3, ks K1 + 403, by omega, by omega, by omega, by omega, ?_⟩
  rw [hp0, li_1, li_0, pk_sub (by omega)]
  refine xs_sum2' r2 hw ht v2 w2 (by omega) (by omega) (by omega) (Nat.le_refl _) (Nat.le_refl _) (fun T3 K3 ov f3 x3 z3 c3 s3 r3 o3 => ⟨kc K3 + 1, ks K3 + 8, by omega, by omega, by omega, by omega, ?_⟩)
  subst ek
  refine xs_lays r3 hw ht (by omega) (P := True) ?_ (Nat.le_refl _) (Nat.le_refl _) (lydx_k fin)
  rcases o3 with ⟨_, o⟩ | ⟨w', o1, _, o2⟩
  · exact absurd o no_ovf
  · exact Or.inr ⟨w', o1, trivial, o2⟩
/-- a new polynomial that is nothing -/
theorem xs_newpoly {A : AB} {K : XK} {T : XT} {Z Y : Nat} {Q : Nat → XT → XK → Prop} (h : rx (aS A 0 (-1)) K T) (hp0 : 0 < aN A 1) (hZ : kc K + 3 ≤ Z) (hY : ks K + 3 ≤ Y) (hq : ∀ T' K', xf (xsc K) T T' → kx K K' → kz K' = kz K + 3 → kc K' = kc K + 3 → ks K' = ks K + 3 → rx (aS A 0 (-1)) K' T' → ply (aOk A) (aN A 1) K' T' (kz K) (fun _ => 0) → Q (kz K) T' K') : kc K + 1 ≤ Z ∧ ks K + 3 ≤ Y ∧ ∀ K_1 : XK, K_1 = knew K 2 0 3 → ∀ T_2 : XT, T_2 = xnil T (kz K) → ∃ Z_6 Y_7 : Nat, kc K_1 ≤ Z_6 ∧ Z_6 ≤ Z ∧ ks K_1 ≤ Y_7 ∧ Y_7 ≤ Y ∧ wx6_init (kz K) K_1 T_2 Z_6 Y_7 (fun T_4 K_5 => Q (kz K) T_4 K_5) := by
  have hzz := h.1.2.1
  refine ⟨by omega, hY, fun K1 e1 T1 t1 => ⟨kc K1 + 2, ks K1, by omega, by rw [e1, kc_new]; omega, by omega, by rw [e1, ks_new]; omega, ?_⟩⟩
  have z1 : kz K1 = kz K + 1 := by rw [e1]; rfl
  have c1 : kc K1 = kc K + 1 := by rw [e1]; rfl
  have s1 : ks K1 = ks K + 3 := by rw [e1]; rfl
  refine xs_init0 (o := aOk A) hp0 (by omega) (by omega) (by rw [e1, kl_new, if_pos rfl]) (Nat.le_refl _) (Nat.le_refl _) (fun T2 K2 f2 x2 z2 c2 s2 p2 => ?_)
  have f3 : xf (xsc K) T T2 := xf_tr (by rw [t1]; exact xf_nil (by unfold xsc; omega)) (xf_mono f2 (fun k hk => by unfold xsc; omega))
  have x3 : kx K K2 := kx_tr (by rw [e1]; exact kx_new _ _ _ _) x2
  exact hq T2 K2 f3 x3 (by omega) (by omega) (by omega) (rx_keep h f3 x3) p2
theorem xs_scaled {A : AB} {K : XK} {T : XT} {v c Z Y : Nat} {f : Nat → Nat} {post : Nat → XT → XK → Prop} (h : rx (aS A 0 (-1)) K T) (hw : wf A) (ht : aN A 0 = 1) (hv : ply (aOk A) (aN A 1) K T v f) (hc : c < aN A 1) (hn : cn f 4096 ≤ 200) (hZ : kc K + 6 ≤ Z) (hY : ks K + 406 ≤ Y) (hp : ∀ T' K' w, xf (xsc K) T T' → kx K K' → kc K' = Z → ks K' = Y → rx (aS A 0 (-1)) K' T' → ply (aOk A) (aN A 1) K' T' w (sm (aN A 1) (fun _ => 0) f c 0) → post w T' K') : wx1_scaled v (nI c) K T Z Y post := by
  have hp2 := (hw.2.2.2.2 ht).1.1
  have hz0 : cn (fun _ => 0) 4096 = 0 := cn_z fun _ _ => rfl
  have hzz := h.1.2.1
  unfold wx1_scaled
  refine xs_newpoly h (by omega) (by omega) (by omega) (Q := fun u T_4 K_5 => ∃ Z_11 Y_12 : Nat, kc K_5 ≤ Z_11 ∧ Z_11 ≤ Z ∧ ks K_5 ≤ Y_12 ∧ Y_12 ≤ Y ∧ wx1_sum_2 u v (nI c) 0 K_5 T_4 Z_11 Y_12 (fun r_8 T_9 K_10 => ∃ v_13 : Nat, r_8 = some v_13 ∧ post v_13 T_9 (kset K_10 Z Y))) (fun T1 K1 f1 x1 z1 c1 s1 r1 p1 => ⟨kc K1 + 3, ks K1 + 403, by omega, by omega, by omega, by omega, ?_⟩)
  rw [li_0]
  have hv1 := ply_keep hv f1 x1 (fun k a b => by unfold xsc; omega)
  refine xs_sum2' r1 hw ht p1 hv1 hc (by omega) (by omega) (Nat.le_refl _) (Nat.le_refl _) (fun T3 K3 ov f3 x3 z3 c3 s3 r3 o3 => ?_)
  rcases o3 with ⟨_, o⟩ | ⟨w', o1, _, o2⟩
  · exact absurd o no_ovf
  · refine ⟨w', o1, hp T3 (kset K3 Z Y) w' (xf_tr f1 (xf_mono f3 (fun k hk => by unfold xsc at hk ⊢; omega))) (kx_tr (kx_tr x1 x3) (kx_set _ _ _)) rfl rfl (rx_keep r3 (xf_rfl _ _) (kx_set _ _ _)) (ply_keep o2 (xf_rfl (fun _ => False) _) (kx_set _ _ _) (fun _ _ _ w => w))⟩
/-- a polynomial made monic -/
noncomputable def mnc (A : AB) (f : Nat → Nat) : Nat → Nat := @ite _ (cn f 4096 = 0) _ f (sm (aN A 1) (fun _ => 0) f (iv (aN A 1) (f (ldk (aOk A) f))) 0)
theorem xs_monic {A : AB} {K : XK} {T : XT} {v Z Y : Nat} {f : Nat → Nat} {post : Nat → XT → XK → Prop} (h : rx (aS A 0 (-1)) K T) (hw : wf A) (ht : aN A 0 = 1) (hv : ply (aOk A) (aN A 1) K T v f) (hn : cn f 4096 ≤ 200) (hZ : kc K + 6 ≤ Z) (hY : ks K + 406 ≤ Y) (hp : ∀ T' K' w, xf (xsc K) T T' → kx K K' → kc K' = Z → ks K' = Y → rx (aS A 0 (-1)) K' T' → ply (aOk A) (aN A 1) K' T' w (mnc A f) → post w T' K') : wx1_monic v K T Z Y post := by
  have hpr := (hw.2.2.2.2 ht).1
  have hp2 := hpr.1
  have hp97 := hpr.2.1
  unfold wx1_monic
  refine xs_isZero hv (fun z => b01 rfl ?_) (fun z => b11 rfl ?_)
  · have em : mnc A f = sm (aN A 1) (fun _ => 0) f (iv (aN A 1) (f (ldk (aOk A) f))) 0 := if_neg z
    rw [em] at hp
    have hv' := hv
    obtain ⟨va, vb, n, a, h1, h2, h3, h4, h5, h6, h7, h8, h9, h10, h11⟩ := hv'
    have hn0 : 0 < n := by rw [isr_cn h6]; omega
    have hld := led_row h6 hn0
    have el : ldk (aOk A) f = a 0 := ldk_of hld
    rw [el] at hp
    have hfp := h8 _ hld.1
    have hf0 : 0 < f (a 0) := Nat.pos_of_ne_zero hld.2.1
    obtain ⟨_, _, _, _, _, hinv⟩ := h.2.2.2.2.2.2.2.2.1 ht
    refine ⟨vb, h2, 0, by omega, rfl, f (a 0), by omega, (h7 0 hn0).2, kc K + 6, ks K + 406, by omega, by omega, by omega, by omega, ?_⟩
    have hi : xi T 1 (f (a 0)) = nI (iv (aN A 1) (f (a 0))) := hinv _ hf0 hfp
    rw [hi]
    exact xs_scaled h hw ht hv (iv_ok hpr hf0 hfp).2.1 hn (Nat.le_refl _) (Nat.le_refl _) (fun T' K' w f' x' c' s' r' p' => hp T' (kset K' Z Y) w f' (kx_tr x' (kx_set _ _ _)) rfl rfl (rx_keep r' (xf_rfl _ _) (kx_set _ _ _)) (ply_keep p' (xf_rfl (fun _ => False) _) (kx_set _ _ _) (fun _ _ _ w => w)))
  · have em : mnc A f = f := if_pos z
    rw [em] at hp
    exact hp T (kset K Z Y) v (xf_rfl _ _) (kx_set _ _ _) rfl rfl (rx_keep h (xf_rfl _ _) (kx_set _ _ _)) (ply_keep hv (xf_rfl (fun _ => False) _) (kx_set _ _ _) (fun _ _ _ w => w))
theorem xc_monic {A : AB} {K : XK} {T : XT} {x z : Int32} {Z Y : Nat} {post : Int32 → XT → XK → Prop} (h : rx A K T) (hw : wf A) (hZ : kc K + 10 ≤ Z) (hY : ks K + 1000 ≤ Y) (h0 : ¬ (aN A 0 = 1 ∧ inr x 7 ∧ inr z 7) → pst (aS A 1 (-1)) (-1) Z Y post) (h1 : aN A 0 = 1 → ∀ r k, r < 8 → k < 8 → x = nI r → z = nI k → lydx A k (mnc A (aR A r)) True Z Y post) : wx1_monic_2 x z K T Z Y post := by
  unfold wx1_monic_2
  refine xv2 (by omega) (by omega) (fun K1 T1 f1 k1 l1 a1 c1 s1 z1 => ?_)
  have g := rx_keep h f1 k1
  refine xh_is g hw l1 (by omega) a1 (fun q T2 r2 => b11 rfl (pst_u (h0 fun w => q ⟨w.1, all2.2 w.2⟩) r2)) (fun ht q T2 f2 r2 => b01 rfl ?_)
  obtain ⟨⟨r, hr, er⟩, ⟨k, hk, ek⟩⟩ := all2.1 q
  obtain ⟨gg, q1, q2, q3⟩ := rx_reg2 r2
  obtain ⟨v, v1, v2⟩ := q3 r (by omega)
  have fin := h1 ht r k (by omega) (by omega) er ek
  have c60 := reg60 hw ht (show r < 8 by omega)
  refine ⟨gg, q1, r, by omega, er, v, v1, kc K1 + 6, ks K1 + 406, by omega, by omega, by omega, by omega, xs_monic r2 hw ht v2 (by omega) (Nat.le_refl _) (Nat.le_refl _) (fun T3 K3 w f3 x3 c3 s3 r3 p3 => ⟨kc K3 + 1, ks K3 + 8, by omega, by omega, by omega, by omega, ?_⟩)⟩
  subst ek
  exact xs_lays r3 hw ht (by omega) (P := True) (Or.inr ⟨w, rfl, trivial, p3⟩) (Nat.le_refl _) (Nat.le_refl _) (lydx_k fin)
