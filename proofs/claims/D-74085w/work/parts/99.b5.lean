set_option maxRecDepth 100000
/-! pairs -/
theorem j_mx0 {a b : Nat} (ha : a < 1000) (hb : b < 1000) : jmax 0 (nI b - nI a) = nI (b - a) := by
  unfold jmax
  rw [z_nI b, z_nI a, z_sub, z_0, z_nI (b - a)]
  by_cases q : zI 0 < zI ((b : Int) - (a : Int))
  · rw [if_pos q]
    rw [z_lt (by omega) (by omega)] at q
    congr 1; omega
  · rw [if_neg q]
    rw [z_lt (by omega) (by omega)] at q
    congr 1; omega
theorem md_can {p A B C s t : Nat} (h1 : A + C = p * s) (h2 : B + C = p * t) : A % p = B % p := by
  have e : A + p * t = B + p * s := by omega
  rw [← Nat.add_mul_mod_self_left A p t, e, Nat.add_mul_mod_self_left]
theorem sh_sm {p c a m : Nat} {f : Nat → Nat} : sh (sm p (fun _ => 0) f c 0) a m = c * sh f a m % p := by
  by_cases w : gi a m
  · rw [sh_yes w, sh_yes w]
    show (0 + c * sh f 0 (m - a)) % p = _
    rw [sh_0, Nat.zero_add]
  · rw [sh_no w, sh_no w, Nat.mul_zero, Nat.zero_mod]
theorem prt_eq {p c1 c2 a b m : Nat} {f g : Nat → Nat} (hp : 0 < p) (h2 : c2 ≤ p) : sm p (sm p (fun _ => 0) (sm p (fun _ => 0) f c1 0) 1 a) (sm p (fun _ => 0) g c2 0) (p - 1) b m = ((0 + c1 * sh f a m) % p + (p - c2) * sh g b m) % p := by
  show ((0 + 1 * sh (sm p (fun _ => 0) f c1 0) a m) % p + (p - 1) * sh (sm p (fun _ => 0) g c2 0) b m) % p = _
  rw [sh_sm, sh_sm, Nat.one_mul, Nat.zero_add, Nat.zero_add, Nat.mod_mod, Nat.add_mod, Nat.mul_mod_mod, Nat.add_mod (c1 * sh f a m % p) ((p - c2) * sh g b m)]
  congr 2
  refine md_can (C := c2 * sh g b m) (s := c2 * sh g b m) (t := sh g b m) ?_ ?_
  · obtain ⟨q, rfl⟩ : ∃ q, p = q + 1 := ⟨p - 1, by omega⟩
    rw [Nat.add_sub_cancel, Nat.add_mul, Nat.one_mul]
  · rw [← Nat.add_mul, Nat.sub_add_cancel h2]
theorem isr_sh {h a' b' p n t : Nat} {f a : Nat → Nat} (vd : vo h a' b') (hfp : ∀ k, k < 4096 → f k < p) (hi : isr (ok h a' b') f n a) (ht : t < 4096) (hno : ¬ ovf f 1 t) : isr (ok h a' b') (sm p (fun _ => 0) f 1 t) n (fun i => a i + t) := by
  have hg : ∀ i, i < n → gs (a i) t := fun i hi' => Classical.byContradiction fun w => hno ⟨by omega, a i, (hi.1 i hi').1, (hi.1 i hi').2, w⟩
  refine ⟨fun i hi' => ⟨(gs_ex (hi.1 i hi').1 ht (hg i hi')).1, ?_⟩, fun i j hij hj => ok_add vd (hi.1 j hj).1 (hi.1 i (by omega)).1 ht (hg j hj) (hg i (by omega)) (hi.2.1 i j hij hj), fun k hk hz => ?_⟩
  · show (0 + 1 * sh f t (a i + t)) % p ≠ 0
    rw [sh_at (hi.1 i hi').1 ht (hg i hi'), Nat.one_mul, Nat.zero_add, Nat.mod_eq_of_lt (hfp _ (hi.1 i hi').1)]
    exact (hi.1 i hi').2
  · have hz : (0 + 1 * sh f t k) % p ≠ 0 := hz
    by_cases w : gi t k
    · obtain ⟨z1, z2, _⟩ := gi_sub ht hk w
      rw [sh_yes w] at hz
      have hf : f (k - t) ≠ 0 := fun q => hz (by rw [q]; exact Nat.zero_mod _)
      obtain ⟨i, q1, q2⟩ := hi.2.2 (k - t) (by omega) hf
      exact ⟨i, q1, by show a i + t = k; omega⟩
    · rw [sh_no w] at hz
      exact absurd (Nat.zero_mod _) hz
theorem mnc_z {A : AB} {f : Nat → Nat} (hp : pr (aN A 1)) (hfp : ∀ k, k < 4096 → f k < aN A 1) (hf0 : cn f 4096 ≠ 0) (hl : led (aOk A) f (ldk (aOk A) f)) {k : Nat} (hk : k < 4096) : mnc A f k = 0 ↔ f k = 0 := by
  have em : mnc A f = sm (aN A 1) (fun _ => 0) f (iv (aN A 1) (f (ldk (aOk A) f))) 0 := if_neg hf0
  rw [em]
  show (0 + iv (aN A 1) (f (ldk (aOk A) f)) * sh f 0 k) % aN A 1 = 0 ↔ _
  rw [sh_0, Nat.zero_add]
  constructor
  · intro q
    refine Classical.byContradiction fun w => ?_
    have := (dC_pos hp (Nat.pos_of_ne_zero w) (hfp k hk) (Nat.pos_of_ne_zero hl.2.1) (hfp _ hl.1)).1
    rw [Nat.mul_comm] at this
    omega
  · intro q
    rw [q, Nat.mul_zero, Nat.zero_mod]
theorem ovf_z {f g : Nat → Nat} {t : Nat} (h : ∀ k, k < 4096 → (f k = 0 ↔ g k = 0)) : ovf f 1 t ↔ ovf g 1 t := ⟨fun ⟨a, k, k1, k2, k3⟩ => ⟨a, k, k1, fun z => k2 ((h k k1).2 z), k3⟩, fun ⟨a, k, k1, k2, k3⟩ => ⟨a, k, k1, fun z => k2 ((h k k1).1 z), k3⟩⟩
theorem xs_pair {A : AB} {K : XK} {T : XT} {u v Z Y : Nat} {f g : Nat → Nat} {post : Option Nat → XT → XK → Prop} (h : rx (aS A 0 (-1)) K T) (hw : wf A) (ht : aN A 0 = 1) (hu : ply (aOk A) (aN A 1) K T u f) (hv : ply (aOk A) (aN A 1) K T v g) (hf0 : cn f 4096 ≠ 0) (hg0 : cn g 4096 ≠ 0) (hn : cn f 4096 ≤ 60) (hm : cn g 4096 ≤ 60) (hZ : kc K + 21 ≤ Z) (hY : ks K + 1621 ≤ Y)
    (hp : ∀ T' K' ov, xf (xsc K) T T' → kx K K' → kc K' = Z → ks K' = Y → rx (aS A 0 (-1)) K' T' → ((ov = none ∧ ¬ prr f g (ldk (aOk A) f) (ldk (aOk A) g)) ∨ ∃ w, ov = some w ∧ prr f g (ldk (aOk A) f) (ldk (aOk A) g) ∧ ply (aOk A) (aN A 1) K' T' w (prt (aN A 1) f g (ldk (aOk A) f) (ldk (aOk A) g))) → post ov T' K') : wx1_pair u v K T Z Y post := by
  have hW := hw.2.2.2.2 ht
  have hpr := hW.1
  have hp2 := hpr.1
  have hp97 := hpr.2.1
  have hzz := h.1.2.1
  obtain ⟨va, vb, u1, u2, u3, u4, u5, u6, hl, u7, u8⟩ := ply_ld hu hf0
  obtain ⟨wa, wb, v1, v2, v3, v4, v5, v6, hm', v7, v8⟩ := ply_ld hv hg0
  have hfp : ∀ k, k < 4096 → f k < aN A 1 := by
    obtain ⟨_, _, _, _, _, _, _, _, _, _, _, y, _⟩ := hu
    exact y
  have hgp : ∀ k, k < 4096 → g k < aN A 1 := by
    obtain ⟨_, _, _, _, _, _, _, _, _, _, _, y, _⟩ := hv
    exact y
  have mf := fun {k} => @mnc_z A f hpr hfp hf0 hl k
  have mg := fun {k} => @mnc_z A g hpr hgp hg0 hm' k
  have emf : mnc A f = sm (aN A 1) (fun _ => 0) f (iv (aN A 1) (f (ldk (aOk A) f))) 0 := if_neg hf0
  have emg : mnc A g = sm (aN A 1) (fun _ => 0) g (iv (aN A 1) (g (ldk (aOk A) g))) 0 := if_neg hg0
  generalize hel : ldk (aOk A) f = l at *
  generalize hem : ldk (aOk A) g = m at *
  obtain ⟨x1, x2⟩ := mxk_ex l m
  obtain ⟨g1, g2⟩ := mxk_gi l m
  have hl4 := hl.1
  have hm4 := hm'.1
  obtain ⟨y1, _, ya⟩ := gi_sub hl4 x1 g1
  obtain ⟨y2, _, yb⟩ := gi_sub hm4 x1 g2
  unfold wx1_pair wx1_pair_l8
  refine wl_up 3 (fun i w => w = (nI ((mxk l m - l) % 16 ^ i), nI ((mxk l m - m) % 16 ^ i), nI i)) 0 (by omega) (by rw [Nat.pow_zero, Nat.mod_one, Nat.mod_one]; rfl) ?_
  rintro i w hi rfl R hR
  unfold wx1_pair_b8
  dsimp only
  rw [li_3, nI_leI (by omega) (by omega)]
  refine ⟨fun c => ?_, fun c => ⟨va, u1, 0, u3, li_0, ?_⟩⟩
  · have ea : (mxk l m - l) % 16 ^ i = mxk l m - l := by
      rw [show i = 3 by omega]
      exact Nat.mod_eq_of_lt (by omega)
    have eb : (mxk l m - m) % 16 ^ i = mxk l m - m := by
      rw [show i = 3 by omega]
      exact Nat.mod_eq_of_lt (by omega)
    rw [ea, eb]
    have cmf : cn (mnc A f) 4096 = cn f 4096 := cn_ext fun k hk => mf hk
    have cmg : cn (mnc A g) 4096 = cn g 4096 := cn_ext fun k hk => mg hk
    have hz0 : cn (fun _ => 0) 4096 = 0 := cn_z fun _ _ => rfl
    refine xs_newpoly h (by omega) (by omega) (by omega) (Q := fun u0 T_4 K_5 => ∃ Z_11 Y_12 : Nat, kc K_5 ≤ Z_11 ∧ Z_11 ≤ Z ∧ ks K_5 ≤ Y_12 ∧ Y_12 ≤ Y ∧ wx1_monic u K_5 T_4 Z_11 Y_12 (fun r_8 T_9 K_10 =>
        ∃ Z_16 Y_17 : Nat, kc K_10 ≤ Z_16 ∧ Z_16 ≤ Z ∧ ks K_10 ≤ Y_17 ∧ Y_17 ≤ Y ∧ wx1_sum_2 u0 r_8 1 (nI (mxk l m - l)) K_10 T_9 Z_16 Y_17 (fun r_13 T_14 K_15 =>
        ((r_13 = none →
          post none T_14 (kset K_15 Z Y)) ∧
         (∀ v_18 : Nat, r_13 = some v_18 →
          ∃ Z_22 Y_23 : Nat, kc K_15 ≤ Z_22 ∧ Z_22 ≤ Z ∧ ks K_15 ≤ Y_23 ∧ Y_23 ≤ Y ∧ wx1_monic v K_15 T_14 Z_22 Y_23 (fun r_19 T_20 K_21 =>
          ∃ Z_27 Y_28 : Nat, kc K_21 ≤ Z_27 ∧ Z_27 ≤ Z ∧ ks K_21 ≤ Y_28 ∧ Y_28 ≤ Y ∧ wx1_sum_2 v_18 r_19 ((xi T_20 0 0) - 1) (nI (mxk l m - m)) K_21 T_20 Z_27 Y_28 (fun r_24 T_25 K_26 =>
          post r_24 T_25 (kset K_26 Z Y)))))))) (fun T1 K1 f1 x1' z1 c1 s1 r1 p1 => ⟨kc K1 + 6, ks K1 + 406, by omega, by omega, by omega, by omega, ?_⟩)
    have hu1 := ply_keep hu f1 x1' (fun k a b => by unfold xsc; omega)
    have hv1 := ply_keep hv f1 x1' (fun k a b => by unfold xsc; omega)
    refine xs_monic r1 hw ht hu1 (by omega) (Nat.le_refl _) (Nat.le_refl _) (fun T2 K2 w2 f2 x2' c2 s2 r2 p2 => ⟨kc K2 + 3, ks K2 + 403, by omega, by omega, by omega, by omega, ?_⟩)
    have p1' := ply_keep p1 f2 x2' (fun k a b => by unfold xsc; omega)
    have hv2 := ply_keep hv1 f2 x2' (fun k a b => by unfold xsc; omega)
    rw [li_1]
    refine xs_sum2' r2 hw ht p1' p2 (by omega) (by omega) (by omega) (Nat.le_refl _) (Nat.le_refl _) (fun T3 K3 ov f3 x3 z3 c3 s3 r3 o3 => ?_)
    have f13 : xf (xsc K) T T3 := xf_tr f1 (xf_tr (xf_mono f2 (fun k hk => by have := x1'.1; unfold xsc at hk ⊢; omega)) (xf_mono f3 (fun k hk => by have := x1'.1; have := x2'.1; unfold xsc at hk ⊢; omega)))
    have x13 := kx_tr x1' (kx_tr x2' x3)
    rcases o3 with ⟨o1, o2⟩ | ⟨w', o1, o2, o3⟩
    · refine ⟨fun _ => ?_, fun v' e => by rw [o1] at e; cases e⟩
      refine hp T3 (kset K3 Z Y) none f13 (kx_tr x13 (kx_set _ _ _)) rfl rfl (rx_keep r3 (xf_rfl _ _) (kx_set _ _ _)) (Or.inl ⟨rfl, fun q => q.1 ?_⟩)
      exact (ovf_z (fun k hk => mf hk)).1 o2
    · refine ⟨fun e => (by rw [o1] at e; cases e), fun v' e => ?_⟩
      have ev : w' = v' := by
        rw [o1] at e
        injection e
      subst ev
      have hv3 := ply_keep hv2 f3 x3 (fun k a b => by unfold xsc; omega)
      refine ⟨kc K3 + 6, ks K3 + 406, by omega, by omega, by omega, by omega, xs_monic r3 hw ht hv3 (by omega) (Nat.le_refl _) (Nat.le_refl _) (fun T4 K4 w4 f4 x4 c4 s4 r4 p4 => ⟨kc K4 + 3, ks K4 + 403, by omega, by omega, by omega, by omega, ?_⟩)⟩
      have o4 := ply_keep o3 f4 x4 (fun k a b => by unfold xsc; omega)
      have cup : cn (sm (aN A 1) (fun _ => 0) (mnc A f) 1 (mxk l m - l)) 4096 ≤ 60 := by
        obtain ⟨_, _, n', a', _, _, _, _, _, i6, _, i8, _⟩ := p2
        have := isr_cn (isr_sh hW.2.1 i8 i6 (show mxk l m - l < 4096 by omega) o2)
        rw [← this, isr_cn i6]
        omega
      have hp0 : xi T4 0 0 = nI (aN A 1) := rx_p (A := aS A 0 (-1)) r4 ht
      rw [hp0, pk_sub (by omega)]
      refine xs_sum2' r4 hw ht o4 p4 (by omega) (by omega) (by omega) (Nat.le_refl _) (Nat.le_refl _) (fun T5 K5 ov5 f5 x5 z5 c5 s5 r5 o5 => ?_)
      have f15 : xf (xsc K) T T5 := xf_tr f13 (xf_tr (xf_mono f4 (fun k hk => by have := x13.1; unfold xsc at hk ⊢; omega)) (xf_mono f5 (fun k hk => by have := x13.1; have := x4.1; unfold xsc at hk ⊢; omega)))
      have x15 := kx_tr x13 (kx_tr x4 x5)
      have nof : ¬ ovf f 1 (mxk l m - l) := fun q => o2 ((ovf_z (fun k hk => mf hk)).2 q)
      rcases o5 with ⟨q1, q2⟩ | ⟨w5, q1, q2, q3⟩
      · rw [q1]
        exact hp T5 (kset K5 Z Y) none f15 (kx_tr x15 (kx_set _ _ _)) rfl rfl (rx_keep r5 (xf_rfl _ _) (kx_set _ _ _)) (Or.inl ⟨rfl, fun q => q.2 ((ovf_z (fun k hk => mg hk)).1 q2)⟩)
      · refine hp T5 (kset K5 Z Y) ov5 f15 (kx_tr x15 (kx_set _ _ _)) rfl rfl (rx_keep r5 (xf_rfl _ _) (kx_set _ _ _)) (Or.inr ⟨w5, q1, ⟨nof, fun q => q2 ((ovf_z (fun k hk => mg hk)).2 q)⟩, ply_cg (ply_keep q3 (xf_rfl (fun _ => False) _) (kx_set _ _ _) (fun _ _ _ w => w)) (fun k hk => ?_)⟩)
        rw [emf, emg]
        exact prt_eq (by omega) (Nat.le_of_lt (iv_ok hpr (Nat.pos_of_ne_zero hm'.2.1) (hgp _ hm4)).2.1)
  · have a1 := ex_lt l i
    have a2 := ex_lt m i
    have hp16 : 0 < 16 ^ i := Nat.pow_pos (by omega)
    rw [u5]
    refine xs_exponent (by omega) (by omega) ⟨wa, v1, 0, v3, li_0, ?_⟩
    rw [v5]
    refine xs_exponent (by omega) (by omega) (fun x3 e3 x4 e4 x5 e5 => ?_)
    rw [j_mx0 (by omega) (by omega), n_shl16 (by omega) (by omega), n_or, ← pow16 i, n_or_add (by rw [pow16]; exact Nat.mod_lt _ hp16), pow16] at e3 e4
    rw [li_1, nI_add] at e5
    subst e3 e4 e5
    refine hR (by omega) _ ?_
    rw [mod_s, mod_s, ya i (by omega), yb i (by omega), x2 i (by omega)]
    rw [show ex m i - ex l i = max (ex l i) (ex m i) - ex l i by omega, show ex l i - ex m i = max (ex l i) (ex m i) - ex m i by omega]
