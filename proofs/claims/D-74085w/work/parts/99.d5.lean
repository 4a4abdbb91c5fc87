set_option maxRecDepth 100000
/-! TermDesk: great sums; the ends of a common divisor -/
theorem xs_sum2w {A : AB} {K : XK} {T : XT} {u v c t Z Y : Nat} {f g : Nat → Nat} {post : Option Nat → XT → XK → Prop} (h : rx (aS A 0 (-1)) K T) (hw : wf A) (htd : aN A 0 = 1) (hu : ply (aOk A) (aN A 1) K T u f) (hv : ply (aOk A) (aN A 1) K T v g) (hc : c < aN A 1) (ht : t < 4096) (hnm : cn f 4096 + cn g 4096 ≤ 4096) (hZ : kc K + 3 ≤ Z) (hY : ks K + 8195 ≤ Y) (h1 : ∀ T' K' ov, xf (xsc K) T T' → kx K K' → kc K' = Z → ks K' = Y → rx (aS A 0 (-1)) K' T' → ((ov = none ∧ ovf g 1 t) ∨ ∃ w, ov = some w ∧ ¬ ovf g 1 t ∧ ply (aOk A) (aN A 1) K' T' w (sm (aN A 1) f g c t)) → post ov T' K') : wx1_sum_2 u v (nI c) (nI t) K T Z Y post := by
  have hW := hw.2.2.2.2 htd
  have hp := hW.1
  have hp1 := hp.1
  have hzz := h.1.2.1
  unfold wx1_sum_2
  refine xs_goes hv ht (fun q => b11 rfl ?_) (fun q => b01 rfl (h1 T (kset K Z Y) none (xf_rfl _ _) (kx_set _ _ _) rfl rfl (rx_keep h (xf_rfl _ _) (kx_set _ _ _)) (Or.inl ⟨rfl, q⟩)))
  obtain ⟨va, vb, n, a, u1, u2, u3, u4, u5, u6, u7, u8, u9, u10, u11⟩ := hu
  obtain ⟨wa, wb, m, b, v1, v2, v3, v4, v5, v6, v7, v8, v9, v10, v11⟩ := hv
  rw [← isr_cn u6, ← isr_cn v6] at hnm
  refine ⟨va, u1, vb, u2, ?_⟩
  rw [u3]
  obtain ⟨k1, k2, k3, k4, ⟨oq, o1, o2, o3, o4⟩, _⟩ := h.2.2.2.2.2.2.2.2.1 htd
  have l4 : kl K (3 + 1) = 4096 := h.1.1 4 (by omega)
  have l5 : kl K (3 + 2) = 4096 := h.1.1 5 (by omega)
  have d : ∀ k, 90 ≤ k → ¬ r3 3 k := fun k hk => by unfold r3; omega
  refine xs_merges hp hW.2.1 k1 o1 o2 u6 u7 u8 u4 u5 v1 v2 v3 v6 v7 v8 v4 v5 hc ht (fun j hj => Classical.byContradiction fun w => q ⟨by omega, b j, (v6.1 j hj).1, (v6.1 j hj).2, w⟩) (by rw [l4]; omega) (by rw [l5]; omega) (by unfold r3; omega) (d oq o3) (d va u10.1) (d vb u11.1) (d v v9.1) (d wa v10.1) (d wb v11.1) (fun T2 N e f2 hi2 rw2 hN => ?_)
  refine ⟨kc K + 3, ks K + 8195, by omega, by omega, by omega, by omega, xs_poly hzz (by omega) hi2 rw2 (fun k _ => Nat.mod_lt _ (by omega)) (by rw [l4]; omega) (by rw [l5]; omega) (by rw [l4]; omega) (by rw [l5]; omega) (Nat.le_refl _) (by omega) (fun T3 K3 f3 x3 z3 c3 s3 p3 => ?_)⟩
  have f4 : xf (xsc K) T T3 := xf_tr (xf_mono f2 (fun k hk => by unfold r3 at hk; unfold xsc; omega)) (xf_mono f3 (fun k hk => by unfold xsc; omega))
  have x4 := kx_tr x3 (kx_set K3 Z Y)
  exact h1 T3 (kset K3 Z Y) (some (kz K)) f4 x4 rfl rfl (rx_keep h f4 x4) (Or.inr ⟨_, rfl, q, ply_keep p3 (xf_rfl (fun _ => False) _) (kx_set _ _ _) (fun _ _ _ w => w)⟩)
theorem xs_scaledw {A : AB} {K : XK} {T : XT} {v c Z Y : Nat} {f : Nat → Nat} {post : Nat → XT → XK → Prop} (h : rx (aS A 0 (-1)) K T) (hw : wf A) (ht : aN A 0 = 1) (hv : ply (aOk A) (aN A 1) K T v f) (hc : c < aN A 1) (hZ : kc K + 6 ≤ Z) (hY : ks K + 8198 ≤ Y) (hp : ∀ T' K' w, xf (xsc K) T T' → kx K K' → kc K' = Z → ks K' = Y → rx (aS A 0 (-1)) K' T' → ply (aOk A) (aN A 1) K' T' w (sm (aN A 1) (fun _ => 0) f c 0) → post w T' K') : wx1_scaled v (nI c) K T Z Y post := by
  have hp2 := (hw.2.2.2.2 ht).1.1
  have hz0 : cn (fun _ => 0) 4096 = 0 := cn_z fun _ _ => rfl
  have hcl := cn_le f 4096
  have hzz := h.1.2.1
  unfold wx1_scaled
  refine xs_newpoly h (by omega) (by omega) (by omega) (Q := fun u T_4 K_5 => ∃ Z_11 Y_12 : Nat, kc K_5 ≤ Z_11 ∧ Z_11 ≤ Z ∧ ks K_5 ≤ Y_12 ∧ Y_12 ≤ Y ∧ wx1_sum_2 u v (nI c) 0 K_5 T_4 Z_11 Y_12 (fun r_8 T_9 K_10 => ∃ v_13 : Nat, r_8 = some v_13 ∧ post v_13 T_9 (kset K_10 Z Y))) (fun T1 K1 f1 x1 z1 c1 s1 r1 p1 => ⟨kc K1 + 3, ks K1 + 8195, by omega, by omega, by omega, by omega, ?_⟩)
  rw [li_0]
  have hv1 := ply_keep hv f1 x1 (fun k a b => by unfold xsc; omega)
  refine xs_sum2w r1 hw ht p1 hv1 hc (by omega) (by omega) (Nat.le_refl _) (Nat.le_refl _) (fun T3 K3 ov f3 x3 c3 s3 r3 o3 => ?_)
  rcases o3 with ⟨_, o⟩ | ⟨w', o1, _, o2⟩
  · exact absurd o no_ovf
  · refine ⟨w', o1, hp T3 (kset K3 Z Y) w' (xf_tr f1 (xf_mono f3 (fun k hk => by unfold xsc at hk ⊢; omega))) (kx_tr (kx_tr x1 x3) (kx_set _ _ _)) rfl rfl (rx_keep r3 (xf_rfl _ _) (kx_set _ _ _)) (ply_keep o2 (xf_rfl (fun _ => False) _) (kx_set _ _ _) (fun _ _ _ w => w))⟩
theorem xs_monicw {A : AB} {K : XK} {T : XT} {v Z Y : Nat} {f : Nat → Nat} {post : Nat → XT → XK → Prop} (h : rx (aS A 0 (-1)) K T) (hw : wf A) (ht : aN A 0 = 1) (hv : ply (aOk A) (aN A 1) K T v f) (hZ : kc K + 6 ≤ Z) (hY : ks K + 8198 ≤ Y) (hp : ∀ T' K' w, xf (xsc K) T T' → kx K K' → kc K' = Z → ks K' = Y → rx (aS A 0 (-1)) K' T' → ply (aOk A) (aN A 1) K' T' w (mnc A f) → post w T' K') : wx1_monic v K T Z Y post := by
  have hpr := (hw.2.2.2.2 ht).1
  have hp2 := hpr.1
  have hp97 := hpr.2.1
  unfold wx1_monic
  refine xs_isZero hv (fun z => b01 rfl ?_) (fun z => b11 rfl ?_)
  · have em : mnc A f = sm (aN A 1) (fun _ => 0) f (iv (aN A 1) (f (ldk (aOk A) f))) 0 := if_neg z
    rw [em] at hp
    have hv' := hv
    obtain ⟨va, vb, n, a, h1, h2, h3, h4, h5, h6, h7, h8, h9, h10, h11⟩ := hv'
    have hn0 : 0 < n := by rw [isr_cn h6]; omega
    have hld := led_row h6 hn0
    have el : ldk (aOk A) f = a 0 := ldk_of hld
    rw [el] at hp
    have hfp := h8 _ hld.1
    have hf0 : 0 < f (a 0) := Nat.pos_of_ne_zero hld.2.1
    obtain ⟨_, _, _, _, _, hinv⟩ := h.2.2.2.2.2.2.2.2.1 ht
    refine ⟨vb, h2, 0, by omega, rfl, f (a 0), by omega, (h7 0 hn0).2, kc K + 6, ks K + 8198, by omega, by omega, by omega, by omega, ?_⟩
    have hi : xi T 1 (f (a 0)) = nI (iv (aN A 1) (f (a 0))) := hinv _ hf0 hfp
    rw [hi]
    exact xs_scaledw h hw ht hv (iv_ok hpr hf0 hfp).2.1 (Nat.le_refl _) (Nat.le_refl _) (fun T' K' w f' x' c' s' r' p' => hp T' (kset K' Z Y) w f' (kx_tr x' (kx_set _ _ _)) rfl rfl (rx_keep r' (xf_rfl _ _) (kx_set _ _ _)) (ply_keep p' (xf_rfl (fun _ => False) _) (kx_set _ _ _) (fun _ _ _ w => w)))
  · have em : mnc A f = f := if_pos z
    rw [em] at hp
    exact hp T (kset K Z Y) v (xf_rfl _ _) (kx_set _ _ _) rfl rfl (rx_keep h (xf_rfl _ _) (kx_set _ _ _)) (ply_keep hv (xf_rfl (fun _ => False) _) (kx_set _ _ _) (fun _ _ _ w => w))
theorem mnc_mnw (A : AB) (f : Nat → Nat) : mnc A f = mnw (aN A 1) (aOk A) f := by
  unfold mnc mnw
  by_cases z : cn f 4096 = 0
  · rw [if_pos z, if_pos z]
  · rw [if_neg z, if_neg z]
    funext k
    show (0 + iv (aN A 1) (f (ldk (aOk A) f)) * sh f 0 k) % aN A 1 = _
    rw [sh_0, Nat.zero_add, Nat.mul_comm]
theorem lds_ok {h a b : Nat} (v : vo h a b) : lds (ok h a b) := fun w hw => by
  obtain ⟨k0, h0, h1⟩ := cn_ne hw
  obtain ⟨n, ⟨k, k1, k2, k3⟩, hmax⟩ := nat_max (P := fun n => ∃ k, k < 4096 ∧ w k ≠ 0 ∧ ok h a b k = n) (B := 262144) ⟨_, k0, h0, h1, rfl⟩ (fun n ⟨k, _, _, e⟩ => by rw [← e]; exact Nat.le_of_lt (ok_lt v k))
  refine ⟨k, k1, k2, fun l hl hz hne => ?_⟩
  have : ok h a b l ≠ ok h a b k := fun e => hne (ok_inj v hl k1 e)
  have h2 : ¬ n < ok h a b l := fun e => hmax _ e ⟨l, hl, hz, rfl⟩
  omega
theorem xs_cm193 {p : Nat} [NeZero p] {K : XK} {T : XT} {p1 p2 Z Y : Nat} {x5 : Int32} {a b : PR (Fin p)} {post : Nat → XT → XK → Prop} (hp : pr p) (hc : xcx p K T) (ra : rwx T 75 a.1) (rb : rwx T 76 b.1) (xa : xl a 2304) (xb : xl b 2304) (hk : ∀ T' v c, xf (fun k => k = 75 ∨ k = 76) T T' → (v = 75 ∨ v = 76) → rwx T' v c.1 → xl c 2304 → gc2 a b c → wx1_blank K T' (fun r T'' => wx1_top v K T'' (fun n => wx1_common_2_l240 p1 p2 Z Y post x5 v r n 0 K T''))) : wx1_common_2_l193 p1 p2 Z Y post x5 75 76 K T := by
  have h97 := hp.2.1
  obtain ⟨n0, hn0⟩ := hgt_ex b
  unfold wx1_common_2_l193
  refine wl_n (fun n v => ((v.1 = 75 ∧ v.2.1 = 76) ∨ (v.1 = 76 ∧ v.2.1 = 75)) ∧ xf (fun k => k = 75 ∨ k = 76) T v.2.2 ∧ ∃ a' b', rwx v.2.2 v.1 a'.1 ∧ rwx v.2.2 v.2.1 b'.1 ∧ xl a' 2304 ∧ xl b' 2304 ∧ hgt b' n ∧ eqp a b a' b') n0 ⟨Or.inl ⟨rfl, rfl⟩, xf_rfl _ _, a, b, ra, rb, xa, xb, hn0, eqp_rfl _ _⟩ ?_
  rintro n ⟨y2, y3, T3⟩ ⟨hv3, f3, a', b', ra', rb', xa', xb', hb, heq⟩ R2' hR2
  dsimp only at hv3 f3 ra' rb'
  have c3' := xcx_t hc f3 (by omega) (by omega)
  have jw2 : isw y2 := by unfold isw; omega
  have jw3 : isw y3 := by unfold isw; omega
  unfold wx1_common_2_b193
  dsimp only
  refine xs_topw h97 c3' jw3 rb' xb' (fun nb hnb hhb => ?_)
  have := hgt_uni hhb hb
  subst this
  rw [hI_lt0 (by omega)]
  refine ⟨fun c4 => ?_, fun c4 => ?_⟩
  · subst c4
    have hz := hgt_0 hb
    subst hz
    exact hk T3 y2 a' f3 (by omega) ra' xa' (eqp_end heq)
  · have hb0 : b' ≠ pz := fun w => c4 (by rw [w] at hb; exact hgt_pz hb)
    refine xs_leaves2 hp c3' jw2 jw3 (by omega) ra' rb' xa' xb' hb0 (fun T4 a'' q d f4 r4 e4 hd hlow => ?_)
    obtain ⟨m, hm⟩ := hgt_ex a''
    have hmd := hgt_le hm hlow
    have hnd := hgt_uni hb (xd_hgt hd)
    refine hR2 m _ (by omega) ⟨by dsimp only; omega, xf_tr f3 (xf_mono f4 fun k hk => by omega), b', a'', rwx_keep rb' f4 (by omega), r4, xb', xl_mono hlow (by omega), hm, eqp_step heq e4⟩
/-- rows, or 1 alone -/
def alo {p : Nat} [NeZero p] (T : XT) (x5 : Int32) (ga : Nat) (G : R2 (Fin p)) (nG : Nat) : Prop := (x5 = 0 ∧ xr T 0 9 = some ga ∧ isg ga ∧ rgx T ga G ∧ hgt2 G nG) ∨ (x5 = 1 ∧ G = c2 (pr_c 1) ∧ nG = 1)
theorem xs_cm240 {p : Nat} [NeZero p] {K : XK} {T : XT} {p1 p2 Z Y v ga nc nG : Nat} {x5 : Int32} {c : PR (Fin p)} {G : R2 (Fin p)} {post : Nat → XT → XK → Prop} (hp : pr p) (hc : xcx p K T) (hv : v = 75 ∨ v = 76) (rc : rwx T v c.1) (hxc : xl c 2304) (hhc : hgt c nc) (hal : alo T x5 ga G nG) (hG16 : nG ≤ 16) (hgG : hgt2 G nG) (hy : yl (m2 (c2 c) G) 15) (hz : ∀ m, m < 4096 → xi T 2 m = nI 0) (hpost : ∀ T', xf (fun k => k = 2) T T' → (∀ m, m < 4096 → xi T' 2 m = nI (wtb (m2 (c2 c) G) m)) → wx1_common_2_j379 p1 p2 Z Y post 2 K T') : wx1_common_2_l240 p1 p2 Z Y post x5 v 2 (hI nc) 0 K T := by
  have h97 := hp.2.1
  have hnc := hgt_le hhc hxc
  have l2 : kl K 2 = 4096 := hc.2.2 2 (by omega)
  have iv : isw v := by unfold isw; omega
  have hxm : ∀ x, xl (pr_mul (G.1 x) c) 16 := fun x => by
    have := hy x
    rw [c2_at, pr_mul_comm] at this
    exact this
  unfold wx1_common_2_l240
  refine wl_up nG (fun k w => w.1 = nI k ∧ xf (fun k => k = 2) T w.2 ∧ ∀ m, m < 4096 → xi w.2 2 m = nI (if ex m 0 < k then wtb (m2 (c2 c) G) m else 0)) 0 (by omega) ⟨rfl, xf_rfl _ _, fun m hm => by rw [if_neg (by omega)]; exact hz m hm⟩ ?_
  rintro k ⟨x10, T1⟩ hk ⟨hx10, f1, w1⟩ R hR
  dsimp only at hx10 f1 w1
  subst hx10
  have fin : nG ≤ k → wx1_common_2_j379 p1 p2 Z Y post 2 K T1 := fun hle => hpost T1 f1 fun m hm => by
    rw [w1 m hm]
    congr 1
    by_cases w : ex m 0 < k
    · rw [if_pos w]
    · rw [if_neg w]
      unfold wtb
      by_cases w2 : ex m 2 = 0
      · rw [if_pos w2, c2_at]
        have : G.1 (ex m 0) = pz := hgG.1 (ex m 0) (by omega)
        rw [this, pz_mul, pz_i]
        rfl
      · rw [if_neg w2]
  -- the row k
  have row : k < nG → ∀ nA, hgt (G.1 k) nA → (x5 = 0 → ∃ gk, ∀ T', xf (fun k => k = 2) T T' → xr T' 0 9 = some ga ∧ k < kl K ga ∧ xr T' ga k = some gk ∧ kl K gk = 2304 ∧ rwx T' gk (G.1 k).1) → (¬ x5 = 0 → G.1 k = pr_c 1) → wx1_common_2_j282 p1 p2 Z Y post (fun x10 T => R (x10, T)) x5 v 2 (hI nc) (nI k) (hI nA) K T1 := by
    intro hkn nA hA hrd hone
    have hk16 : k < 16 := by omega
    have hnA : nA ≤ 2304 ∧ ∀ I j, I < nA → j < nc → I + j < 16 := by
      constructor
      · by_cases w : nc = 0
        · by_cases e5 : x5 = 0
          · rcases hal with ⟨_, _, _, rr, _⟩ | ⟨e, _⟩
            · exact hgt_le hA (rr.2.1 k)
            · rw [e5] at e; exact absurd e (by decide)
          · rw [hone e5] at hA
            have := hgt_le hA (xl_c 1)
            omega
        · obtain ⟨b, eb⟩ : ∃ b, nc = b + 1 := ⟨nc - 1, by omega⟩
          subst eb
          by_cases w0 : nA = 0
          · omega
          · obtain ⟨a, ea⟩ : ∃ a, nA = a + 1 := ⟨nA - 1, by omega⟩
            subst ea
            have hx := xd_mul (dm_fd (fdp hp)) (hgt_xd hA) (hgt_xd hhc)
            have : a + b < 16 := Classical.byContradiction fun w => hx.1 (hxm k _ (by omega))
            omega
      · intro I j hI' hj
        obtain ⟨a, ea⟩ : ∃ a, nA = a + 1 := ⟨nA - 1, by omega⟩
        obtain ⟨b, eb⟩ : ∃ b, nc = b + 1 := ⟨nc - 1, by omega⟩
        subst ea eb
        have hx := xd_mul (dm_fd (fdp hp)) (hgt_xd hA) (hgt_xd hhc)
        have : a + b < 16 := Classical.byContradiction fun w => hx.1 (hxm k _ (by omega))
        omega
    obtain ⟨hnA1, hsum⟩ := hnA
    unfold wx1_common_2_j282 wx1_common_2_l285
    refine wl_up nA (fun I w => w.1 = nI I ∧ xf (fun k => k = 2) T w.2 ∧ ∀ m, m < 4096 → xi w.2 2 m = nI (if ex m 0 < k then wtb (m2 (c2 c) G) m else if ex m 0 = k ∧ ex m 2 = 0 then (pac (G.1 k).1 c.1 I (ex m 1)).val else 0)) 0 (by omega) ⟨rfl, f1, fun m hm => ?_⟩ ?_
    · dsimp only
      rw [w1 m hm]
      congr 1
      by_cases w : ex m 0 < k
      · rw [if_pos w, if_pos w]
      · rw [if_neg w, if_neg w, pac_0]
        split <;> rfl
    rintro I ⟨x12, T2⟩ hI' ⟨hx12, f2, w2⟩ R2' hR2
    dsimp only at hx12 f2 w2
    subst hx12
    unfold wx1_common_2_b285
    dsimp only
    rw [hI_ltn (by omega) (by omega)]
    refine ⟨fun c3 x10 e10 => ?_, fun c3 => ?_⟩
    · subst e10
      have eI : I = nA := by omega
      subst eI
      refine hR hkn _ ⟨by dsimp only; rw [li_1, nI_add], f2, fun m hm => ?_⟩
      dsimp only
      rw [w2 m hm]
      congr 1
      by_cases w : ex m 0 < k
      · rw [if_pos w, if_pos (by omega)]
      · rw [if_neg w]
        by_cases w3 : ex m 0 = k ∧ ex m 2 = 0
        · rw [if_pos w3, if_pos (by omega), pac_mul hA.1]
          unfold wtb
          rw [if_pos w3.2, c2_at, w3.1, pr_mul_comm]
        · rw [if_neg w3]
          by_cases w4 : ex m 0 < k + 1
          · rw [if_pos w4]
            unfold wtb
            rw [if_neg (fun z => w3 ⟨by omega, z⟩)]
          · rw [if_neg w4]
    · unfold wx1_common_2_l295
      refine wl_up nc (fun j w => w.1 = nI j ∧ xf (fun k => k = 2) T w.2 ∧ ∀ m, m < 4096 → xi w.2 2 m = nI (if ex m 0 < k then wtb (m2 (c2 c) G) m else if ex m 0 = k ∧ ex m 2 = 0 then (pac (G.1 k).1 c.1 I (ex m 1) + pap (G.1 k).1 c.1 I j (ex m 1)).val else 0)) 0 (by omega) ⟨rfl, f2, fun m hm => ?_⟩ ?_
      · dsimp only
        rw [w2 m hm, pap_0]
        congr 1
        by_cases w : ex m 0 < k
        · rw [if_pos w, if_pos w]
        · rw [if_neg w, if_neg w]
          by_cases w3 : ex m 0 = k ∧ ex m 2 = 0
          · rw [if_pos w3, if_pos w3]
            congr 1
            grind
          · rw [if_neg w3, if_neg w3]
      rintro j ⟨x13, T3⟩ hj ⟨hx13, f3, w3⟩ R3 hR3
      dsimp only at hx13 f3 w3
      subst hx13
      have c3' := xcx_t hc f3 (by omega) (by omega)
      have rc3 := rwx_keep rc f3 (by omega)
      have lv := isw_l hc iv
      unfold wx1_common_2_b295 wx1_common_2_j361
      dsimp only
      rw [hI_ltn (by omega) (by omega)]
      refine ⟨fun c4 x12 e12 => ?_, fun c4 => ?_⟩
      · subst e12
        have ej : j = nc := by omega
        subst ej
        refine hR2 (by omega) _ ⟨by dsimp only; rw [li_1, nI_add], f3, fun m hm => ?_⟩
        dsimp only
        rw [w3 m hm, pac_s hhc.1]
      · have hij := hsum I j (by omega) (by omega)
        have e0 : (0 : Int32) = nI 0 := li_0
        have pk : ∀ {Q : Int32 → Prop}, Q (nI (k + 16 * (I + j) + 256 * 0)) → wx1_packed (nI k) (nI I + nI j) 0 K T3 Q := fun {Q} hQ => by
          rw [e0, nI_add]
          exact xs_packed hk16 hij (by omega) hQ
        refine pk (pk ⟨k + 16 * (I + j) + 256 * 0, by omega, rfl, ?_⟩)
        obtain ⟨q0, q1, q2⟩ := ex_mk (z := 0) hk16 hij (by omega)
        have step : ∀ T4, T4 = xwi T3 2 (k + 16 * (I + j) + 256 * 0) (nI (pac (G.1 k).1 c.1 I (I + j) + (G.1 k).1 I * c.1 j).val) → ∀ x13, x13 = nI j + 1 → R3 (x13, T4) := fun T4 e4 x13 e13 => by
          subst e13
          refine hR3 (by omega) _ ⟨by dsimp only; rw [li_1, nI_add], ?_, fun m hm => ?_⟩
          · dsimp only
            rw [e4]
            exact xf_tr f3 (xf_wi rfl)
          · dsimp only
            rw [e4, xi_wi]
            by_cases w : m = k + 16 * (I + j) + 256 * 0
            · rw [if_pos ⟨rfl, w⟩, w, if_neg (by omega), if_pos ⟨q0, q2⟩, q1, (pap_at _ _ _ _).2]
            · rw [if_neg (fun z => w z.2), w3 m hm]
              congr 1
              by_cases w4 : ex m 0 < k
              · rw [if_pos w4, if_pos w4]
              · rw [if_neg w4, if_neg w4]
                by_cases w5 : ex m 0 = k ∧ ex m 2 = 0
                · rw [if_pos w5, if_pos w5]
                  have hs := ex_sum hm
                  rw [pap_ne (fun z => w (by omega))]
                · rw [if_neg w5, if_neg w5]
        have vold : xi T3 2 (k + 16 * (I + j) + 256 * 0) = nI (pac (G.1 k).1 c.1 I (I + j)).val := by
          rw [w3 _ (by omega), if_neg (by omega), if_pos ⟨q0, q2⟩, q1, (pap_at _ _ _ _).1]
          congr 2
          grind
        refine ⟨fun e5 => ?_, fun e5 => ?_⟩
        · obtain ⟨gk, hgk⟩ := hrd e5
          obtain ⟨s1, s2, s3, s4, s5⟩ := hgk T3 f3
          refine ⟨ga, s1, k, s2, rfl, gk, s3, I, by omega, rfl, j, by omega, rfl, by rw [c3'.1]; exact n_ne0 hp, _, by omega, rfl, fun T4 e4 => step T4 ?_⟩
          rw [e4, vold, rwx_at s5 (by omega), rwx_at rc3 (by omega), c3'.1, nF_ma h97]
        · have eA := hone e5
          refine ⟨j, by omega, rfl, by rw [c3'.1]; exact n_ne0 hp, _, by omega, rfl, fun T4 e4 => step T4 ?_⟩
          have hI0 : I = 0 := by
            rw [eA] at hA
            have := hgt_le hA (xl_c 1)
            omega
          have eA1 : (G.1 k).1 I = 1 := by rw [eA, hI0]; rfl
          rw [e4, vold, rwx_at rc3 (by omega), c3'.1, eA1]
          rw [show (1 : Int32) = nI (1 : Fin p).val by rw [fin_1 hp]; rfl, nF_ma h97]
  unfold wx1_common_2_b240 wx1_common_2_j261
  dsimp only
  have c1 := xcx_t hc f1 (by omega) (by omega)
  rcases hal with ⟨e5, x9, ig, rr, hhG⟩ | ⟨e5, eG, enG⟩
  · have ig' : ga = 41 ∨ ga = 58 := ig
    have rr1 : ∀ T', xf (fun k => k = 2) T T' → rgx T' ga G ∧ xr T' 0 9 = some ga := fun T' f => ⟨rgx_keep rr f (fun x hx => by omega), by rw [(f 0 (by omega)).2]; exact x9⟩
    obtain ⟨a1, a2⟩ := rr1 T1 f1
    have lga := isg_l hc ig
    refine ⟨fun _ => ⟨ga, a2, xs_topRow hp c1 ig a1 (fun n hn hh => ?_)⟩, fun w => absurd e5 w⟩
    have en := @hgt_uni _ (PRr (Fin p)) _ _ _ hh hgG
    subst en
    rw [hI_ltn (by omega) (by omega)]
    refine ⟨fin, fun c3 => ⟨fun _ => ?_, fun w => absurd e5 w⟩⟩
    obtain ⟨b1, b2⟩ := a1.1 k (by omega)
    refine ⟨ga, a2, k, by omega, rfl, ga + 1 + k, b1, xs_topw h97 c1 (isg_w ig (by omega)) b2 (a1.2.1 k) (fun nA hnA hA => ?_)⟩
    refine row (by omega) nA hA (fun _ => ⟨ga + 1 + k, fun T' f => ?_⟩) (fun w => absurd e5 w)
    obtain ⟨d1, d2⟩ := rr1 T' f
    exact ⟨d2, by omega, (d1.1 k (by omega)).1, isw_l hc (isg_w ig (by omega)), (d1.1 k (by omega)).2⟩
  · have ne : ¬ x5 = 0 := by rw [e5]; decide
    refine ⟨fun w => absurd w ne, fun _ => ⟨fun c3 => fin ?_, fun c3 => ⟨fun w => absurd w ne, fun _ => ?_⟩⟩⟩
    · rw [show (0 : Int32) = nI 0 from li_0, nI_ltI (by omega) (by omega)] at c3
      omega
    · rw [show (0 : Int32) = nI 0 from li_0, nI_ltI (by omega) (by omega)] at c3
      have k0 : k = 0 := by omega
      have e1 : G.1 k = pr_c 1 := by rw [eG, k0]; rfl
      have := row (by omega) 1 (by rw [e1]; exact ⟨xl_c 1, Or.inr (fin_10 hp)⟩) (fun w => absurd w ne) (fun _ => e1)
      rw [hI_s] at this
      exact this
