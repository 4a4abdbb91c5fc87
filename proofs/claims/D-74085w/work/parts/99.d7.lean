set_option maxRecDepth 100000
/-! TermDesk: common, content, primitive -/
theorem xs_common2 {A : AB} [NeZero (aN A 1)] {K : XK} {T : XT} {u v Z Y : Nat} {f g : Nat → Nat} {post : Nat → XT → XK → Prop} (h : rx (aS A 0 (-1)) K T) (hw : wf A) (ht : aN A 0 = 1) (hu : ply (aOk A) (aN A 1) K T u f) (hv : ply (aOk A) (aN A 1) K T v g) (tf : ¬ thr f) (tg : ¬ thr g) (hZ : kc K + 60 ≤ Z) (hY : ks K + 96000 ≤ Y) (hp : ∀ T' K' w, rx (aS A 0 (-1)) K' T' → kc K' = Z → ks K' = Y → ply (aOk A) (aN A 1) K' T' w (cmt (aN A 1) (aOk A) f g) → post w T' K') : wx1_common_2 u v K T Z Y post := by
  have hW := hw.2.2.2.2 ht
  have hpr := hW.1
  have h97 := hpr.2.1
  have hF := fdp hpr
  have hd := dm_fd hF
  have hzz := h.1.2.1
  have hlds := lds_ok hW.2.1
  have hfp : ∀ k, k < 4096 → f k < aN A 1 := by
    obtain ⟨_, _, _, _, _, _, _, _, _, _, _, y, _⟩ := hu
    exact y
  have hgp : ∀ k, k < 4096 → g k < aN A 1 := by
    obtain ⟨_, _, _, _, _, _, _, _, _, _, _, y, _⟩ := hv
    exact y
  have zero : (cn f 4096 = 0 ∨ cn g 4096 = 0) → wx1_common_2_j14 u v Z Y post K T := fun hor => by
    unfold wx1_common_2_j14
    refine xs_isZero hu (fun z => b01 rfl ⟨kc K + 6, ks K + 8198, by omega, by omega, by omega, by omega, xs_monicw h hw ht hu (Nat.le_refl _) (Nat.le_refl _) (fun T' K' w f' x' c' s' r' p' => hp T' (kset K' Z Y) w (rx_keep r' (xf_rfl _ _) (kx_set _ _ _)) rfl rfl (ply_cg (ply_keep p' (xf_rfl (fun _ => False) _) (kx_set _ _ _) (fun _ _ _ w => w)) (fun k hk => ?_)))⟩) (fun z => b11 rfl ⟨kc K + 6, ks K + 8198, by omega, by omega, by omega, by omega, xs_monicw h hw ht hv (Nat.le_refl _) (Nat.le_refl _) (fun T' K' w f' x' c' s' r' p' => hp T' (kset K' Z Y) w (rx_keep r' (xf_rfl _ _) (kx_set _ _ _)) rfl rfl (ply_cg (ply_keep p' (xf_rfl (fun _ => False) _) (kx_set _ _ _) (fun _ _ _ w => w)) (fun k hk => ?_)))⟩)
    · unfold cmt
      rw [if_pos (hor.resolve_left z), mnc_mnw]
    · unfold cmt
      rw [mnc_mnw]
      by_cases zg : cn g 4096 = 0
      · rw [if_pos zg]
        have e1 : mnw (aN A 1) (aOk A) g = g := if_pos zg
        have e2 : mnw (aN A 1) (aOk A) f = f := if_pos z
        rw [e1, e2, cn_0 zg k hk, cn_0 z k hk]
      · rw [if_neg zg, if_pos z]
  unfold wx1_common_2
  refine xs_isZero hu (fun zf => b02 rfl (xs_isZero hv (fun zg => b01 rfl ?_) (fun zg => b11 rfl (zero (Or.inr zg))))) (fun zf => b12 rfl (zero (Or.inl zf)))
  obtain ⟨ga, gb, hg, h9, h10, ra, rb⟩ := rx_910 h
  have iga : isg ga := by unfold isg; omega
  have igb : isg gb := by unfold isg; omega
  have c0 := rx_xcx h ht
  refine ⟨ga, h9, xs_lays2 hpr c0 iga ra hu tf (fun T1 f1 w1 => ?_)⟩
  have F1 : xf (xsc K) T T1 := xf_mono f1 fun k hk => by unfold xsc; omega
  have h1 := rx_keep h F1 (kx_rfl _)
  have c1 := rx_xcx h1 ht
  refine ⟨kc K + 1, ks K + 2304, by omega, by omega, by omega, by omega, xs_primitive hpr c1 hzz iga w1 (Nat.le_refl _) (Nat.le_refl _) (fun T2 K2 GA a na f2 k2 z2' cc2 s2 w2 pA gA hA hna la ta => ?_)⟩
  have h2 : rx (aS A 0 (-1)) K2 T2 := rx_keep h1 (xf_mono f2 fun k hk => by unfold xsc; omega) k2
  have tA : tld K2 T2 (kz K) na a.1 := ⟨hzz, by omega, la, hna, ta⟩
  have e20 := f2 0 (by omega)
  have e10 := f1 0 (by omega)
  have h102 : xr T2 0 10 = some gb := by rw [e20.2, e10.2]; exact h10
  have h92 : xr T2 0 9 = some ga := by rw [e20.2, e10.2]; exact h9
  have rb2 : ∀ x, x < 16 → xr T2 gb x = some (gb + 1 + x) := fun x hx => by rw [(f2 gb (by omega)).2, (f1 gb (by omega)).2]; exact rb x hx
  have hv2 : ply (aOk A) (aN A 1) K2 T2 v g := ply_keep (ply_keep hv f1 (kx_rfl _) (fun k a b => by omega)) f2 k2 (fun k a b => by omega)
  have c2' := rx_xcx h2 ht
  have hz2 := h2.1.2.1
  refine ⟨gb, h102, xs_lays2 hpr c2' igb rb2 hv2 tg (fun T3 f3 w3 => ?_)⟩
  have h3 : rx (aS A 0 (-1)) K2 T3 := rx_keep h2 (xf_mono f3 fun k hk => by unfold xsc; omega) (kx_rfl _)
  have c3 := rx_xcx h3 ht
  refine ⟨kc K2 + 1, ks K2 + 2304, by omega, by omega, by omega, by omega, xs_primitive hpr c3 hz2 igb w3 (Nat.le_refl _) (Nat.le_refl _) (fun T4 K4 GB b nb f4 k4 z4 cc4 s4 w4 pB gB hB hnb lb tb' => ?_)⟩
  have h4 : rx (aS A 0 (-1)) K4 T4 := rx_keep h3 (xf_mono f4 fun k hk => by unfold xsc; omega) k4
  have tA4 : tld K4 T4 (kz K) na a.1 := tld_keep (tld_keep tA f3 (fun k a b => by omega) (kx_rfl _)) f4 (fun k a b => by omega) k4
  have tB4 : tld K4 T4 (kz K2) nb b.1 := ⟨hz2, by omega, lb, hnb, tb'⟩
  have e40 := f4 0 (by omega)
  have e30 := f3 0 (by omega)
  have w24 : rgx T4 ga GA := rgx_keep (rgx_keep w2 f3 (fun x hx => by omega)) f4 (fun x hx => by omega)
  have zP : (grw f : R2 (Fin (aN A 1))) ≠ z2 := fun w => zf ((grw_z hfp tf).1 w)
  have zQ : (grw g : R2 (Fin (aN A 1))) ≠ z2 := fun w => zg ((grw_z hgp tg).1 w)
  obtain ⟨mA, a', za, ga', ea⟩ := prm_ne hF pA zP
  obtain ⟨mB, b', zb, gb', eb⟩ := prm_ne hF pB zQ
  have e1 := gcr_uni hF ga' gA
  have e2 := gcr_uni hF gb' gB
  subst e1 e2
  have yA : yl GA 15 := yl_div hd za (by rw [ea]; exact grw_y f)
  have yB : yl GB 15 := yl_div hd zb (by rw [eb]; exact grw_y g)
  obtain ⟨n0, xA⟩ := xd2_of (pm_ne hF.1 mA)
  obtain ⟨n1, xB⟩ := xd2_of (pm_ne hF.1 mB)
  have l0 : n0 ≤ 15 := Classical.byContradiction fun w => xA.1 (w2.2.2 n0 (by omega))
  have l1 : n1 ≤ 15 := Classical.byContradiction fun w => xB.1 (w4.2.2 n1 (by omega))
  have hgA := @xd_hgt _ (PRr (Fin (aN A 1))) _ _ xA
  have hgB := @xd_hgt _ (PRr (Fin (aN A 1))) _ _ xB
  have fin : ∀ T5 K5 x5 gc G nG, rx (aS A 0 (-1)) K5 T5 → tld K5 T5 (kz K) na a'.1 → tld K5 T5 (kz K2) nb b'.1 → gsp GA GB G → alo T5 x5 gc G nG → hgt2 G nG → nG ≤ 16 → kc K5 ≤ kc K + 34 → ks K5 ≤ ks K + 78336 → wx1_common_2_j139 u v Z Y post (kz K) (kz K2) x5 K5 T5 := by
    intro T5 K5 x5 gc G nG h5 ta5 tb5 hgs hal hgG hG16 hk5 hs5
    have hz5 := h5.1.2.1
    have c5 := rx_xcx h5 ht
    have l75 : kl K5 75 = 2304 := isw_l c5 (Or.inr (by omega))
    have l76 : kl K5 76 = 2304 := isw_l c5 (Or.inr (by omega))
    obtain ⟨a1, a2, a3, a4, a5⟩ := ta5
    obtain ⟨b1, b2, b3, b4, b5⟩ := tb5
    unfold wx1_common_2_j139
    refine xs_fill (by omega) (fun T6 f6 _ z6 _ => ⟨0, 0, na, rfl, rfl, by rw [a3], by omega, by omega, fun T7 e7 => ?_⟩)
    have f7 : xf (fun k => k = 75) T6 T7 := by rw [e7]; exact xf_cpy rfl
    have r7 : rwx T7 75 a'.1 := fun y hy => by
      rw [e7, xi_cpy]
      by_cases w : y < na
      · rw [if_pos ⟨rfl, by omega, by omega⟩, show 0 + (y - 0) = y by omega, (f6 (kz K) (by omega)).1]
        exact a5 y w
      · rw [if_neg (by omega), z6 y (by omega), hA.1 y (by omega)]
        exact li_0
    refine xs_fill (by omega) (fun T8 f8 _ z8 _ => ⟨0, 0, nb, rfl, rfl, by rw [b3], by omega, by omega, fun T9 e9 => ?_⟩)
    have f9 : xf (fun k => k = 76) T8 T9 := by rw [e9]; exact xf_cpy rfl
    have f59 : xf (fun k => k = 75 ∨ k = 76) T5 T9 := xf_tr (xf_mono f6 fun k hk => Or.inl hk) (xf_tr (xf_mono f7 fun k hk => Or.inl hk) (xf_tr (xf_mono f8 fun k hk => Or.inr hk) (xf_mono f9 fun k hk => Or.inr hk)))
    have r9a : rwx T9 75 a'.1 := rwx_keep (rwx_keep r7 f8 (by omega)) f9 (by omega)
    have r9b : rwx T9 76 b'.1 := fun y hy => by
      rw [e9, xi_cpy]
      by_cases w : y < nb
      · rw [if_pos ⟨rfl, by omega, by omega⟩, show 0 + (y - 0) = y by omega, (f8 (kz K2) (by omega)).1, (f7 (kz K2) (by omega)).1, (f6 (kz K2) (by omega)).1]
        exact b5 y w
      · rw [if_neg (by omega), z8 y (by omega), hB.1 y (by omega)]
        exact li_0
    have c9 := xcx_t c5 f59 (by omega) (by omega)
    refine xs_cm193 hpr c9 r9a r9b (xl_mono hA.1 (by omega)) (xl_mono hB.1 (by omega)) (fun T10 vv cc f10 hvv rc hxc hgc => ?_)
    have f510 : xf (fun k => k = 75 ∨ k = 76) T5 T10 := xf_tr f59 f10
    have l2 : kl K5 2 = 4096 := c5.2.2 2 (by omega)
    refine xs_blank l2 (fun T11 f11 z11 => ?_)
    have f511 : xf (fun k => k = 2 ∨ k = 75 ∨ k = 76) T5 T11 := xf_tr (xf_mono f510 fun k hk => Or.inr hk) (xf_mono f11 fun k hk => Or.inl hk)
    have c11 := xcx_t c5 f511 (by omega) (by omega)
    have rc11 := rwx_keep rc f11 (by omega)
    have ivv : isw vv := by unfold isw; omega
    refine xs_topw h97 c11 ivv rc11 hxc (fun nc hnc hhc => ?_)
    have hal11 : alo T11 x5 gc G nG := by
      rcases hal with ⟨y1, y2, y3, y4, y5⟩ | y
      · have y3' : gc = 41 ∨ gc = 58 := y3
        exact Or.inl ⟨y1, by rw [(f511 0 (by omega)).2]; exact y2, y3, rgx_keep y4 f511 (fun x hx => by omega), y5⟩
      · exact Or.inr y
    have hcs : csp (grw f) (grw g) (m2 (c2 cc) G) := ⟨_, _, GA, GB, cc, G, gA, gB, ea, eb, hgc, hgs, rfl⟩
    have hxP : xl2 (grw f : R2 (Fin (aN A 1))) 16 := mkr_xl _
    have hy := (csp_deg hF zP hcs hxP (grw_y f)).2.1
    refine xs_cm240 hpr c11 hvv rc11 hxc hhc hal11 hG16 hgG hy z11 (fun T12 f12 w12 => ?_)
    have F12 : xf (xsc K5) T5 T12 := xf_tr (xf_mono f511 fun k hk => by unfold xsc; omega) (xf_mono f12 fun k hk => by unfold xsc; omega)
    have h12 := rx_keep h5 F12 (kx_rfl _)
    obtain ⟨k1, k2', k3, k4', ⟨oq, o1, o2, o3, o4⟩, _⟩ := h12.2.2.2.2.2.2.2.2.1 ht
    have hcn := cn_le (wtb (m2 (c2 cc) G)) 4096
    unfold wx1_common_2_j379
    refine ⟨kc K5 + 3, ks K5 + 8195, by omega, by omega, by omega, by omega, xs_sorted hW.2.1 (p := aN A 1) (by omega) o1 o2 o4 hz5 (by omega) l2 w12 (fun k _ => wtb_lt _ k) (Nat.le_refl _) (by omega) (fun T13 K13 f13 x13 z13 c13 s13 p13 => ?_)⟩
    have h13 := rx_keep h12 (xf_mono f13 (fun k hk => by unfold xsc; omega)) x13
    refine ⟨kc K13 + 6, ks K13 + 8198, by omega, by omega, by omega, by omega, xs_monicw h13 hw ht p13 (Nat.le_refl _) (Nat.le_refl _) (fun T14 K14 w14 f14 x14 c14 s14 r14 p14 => ?_)⟩
    refine hp T14 (kset K14 Z Y) w14 (rx_keep r14 (xf_rfl _ _) (kx_set _ _ _)) rfl rfl (ply_cg (ply_keep p14 (xf_rfl (fun _ => False) _) (kx_set _ _ _) (fun _ _ _ w => w)) (fun k hk => ?_))
    rw [mnc_mnw]
    exact cmt_of hpr hlds hfp hgp tf tg (Or.inr (Or.inr ⟨zP, zQ, hcs⟩)) hk
  have h94 : xr T4 0 9 = some ga := by rw [e40.2, e30.2]; exact h92
  have h104 : xr T4 0 10 = some gb := by rw [e40.2, e30.2]; exact h102
  by_cases hle : n1 ≤ n0
  · exact xs_cm60 (Zc := kc K + 34) (Yc := ks K + 78336) h4 hw ht hg h94 h104 w24 w4 tA4 tB4 xA xB mA mB yA yB l0 hle (Or.inr (Or.inl ⟨n0, n1, jv_0 hF.1 xA xB mA mB yA yB l0 hle, cmb_1 hF GA GB⟩)) (fun w => pm_ne hF.1 mA w.1) hgA hgB (by omega) (by omega) (by omega) (by omega) fin
  · exact xs_cm60 (Zc := kc K + 34) (Yc := ks K + 78336) h4 hw ht hg h94 h104 w24 w4 tA4 tB4 xB xA mB mA yB yA l1 (by omega) (Or.inl ⟨rfl, rfl, by omega⟩) (fun w => pm_ne hF.1 mA w.1) hgA hgB (by omega) (by omega) (by omega) (by omega) (fun T5 K5 x5 gc G nG q1 q2 q3 q4 => fin T5 K5 x5 gc G nG q1 q2 q3 (gsp_swap q4))
theorem xs_hasThird {A : AB} {K : XK} {T : XT} {r : Nat} {post : Int32 → Prop} (h : rx (aS A 0 (-1)) K T) (hr : r < 8) (h0 : ¬ thr (aR A r) → post 0) (h1 : thr (aR A r) → post 1) : wx1_hasThird (nI r) K T post := by
  have B := mx_b (g := fun k => ex k 2) (f := aR A r) (B := 15) (fun k => Nat.le_of_lt_succ (ex_lt k 2)) 4096
  obtain ⟨gg, q1, q2, q3⟩ := rx_reg2 h
  obtain ⟨v, v1, v2⟩ := q3 r hr
  refine ⟨gg, q1, r, by omega, rfl, v, v1, ?_⟩
  rw [show (2 : Int32) = nI 2 from li_2]
  refine xs_most v2 (by omega) ?_
  rw [z_le0 (by omega)]
  exact ⟨fun c => h0 fun w => w c, fun c => h1 c⟩
theorem xc_common {A : AB} {K : XK} {T : XT} {x y z : Int32} {Z Y : Nat} {post : Int32 → XT → XK → Prop} (h : rx A K T) (hw : wf A) (hZ : kc K + 70 ≤ Z) (hY : ks K + 97000 ≤ Y) (h0 : ¬ (aN A 0 = 1 ∧ inr x 7 ∧ inr y 7 ∧ inr z 7) → pst (aS A 1 (-1)) (-1) Z Y post) (h5 : aN A 0 = 1 → inr z 7 → ∀ r q, r < 8 → q < 8 → x = nI r → y = nI q → (thr (aR A r) ∨ thr (aR A q)) → pst (aS A 5 (-1)) (-1) Z Y post)
    (h1 : aN A 0 = 1 → ∀ r q k, r < 8 → q < 8 → k < 8 → x = nI r → y = nI q → z = nI k → ¬ thr (aR A r) → ¬ thr (aR A q) → lydx A k (cmw A r q) True Z Y post) : wx1_common x y z K T Z Y post := by
  unfold wx1_common
  refine xv3 (by omega) (by omega) (fun K1 T1 f1 k1 l1 a1 c1 s1 z1 => ?_)
  have g := rx_keep h f1 k1
  refine xh_is g hw l1 (by omega) a1 (fun q T2 r2 => b11 rfl (pst_u (h0 fun w => q ⟨w.1, all3.2 w.2⟩) r2)) (fun ht q T2 f2 r2 => b01 rfl ?_)
  obtain ⟨⟨r, hr, er⟩, ⟨s, hs, es⟩, ⟨k, hk, ek⟩⟩ := all3.1 q
  have g5 := h5 ht ⟨k, hk, ek⟩ r s (by omega) (by omega) er es
  have fin := h1 ht r s k (by omega) (by omega) (by omega) er es ek
  subst er es ek
  have bad : (thr (aR A r) ∨ thr (aR A s)) → wx1_common_j47 (nI r) (nI s) (nI k) Z Y post K1 T2 := fun q => by
    unfold wx1_common_j47
    exact xs_no r2 (by decide) (fun T' r' => pst_u (g5 q) (by rw [aS_aS] at r'; exact r'))
  refine xs_hasThird r2 (by omega) (fun t1 => b02 rfl (xs_hasThird r2 (by omega) (fun t2 => b01 rfl ?_) (fun t2 => b11 rfl (bad (Or.inr t2))))) (fun t1 => b12 rfl (bad (Or.inl t1)))
  have fin := fin t1 t2
  haveI : NeZero (aN A 1) := ⟨by have := (hw.2.2.2.2 ht).1.1; omega⟩
  rw [cmw_eq] at fin
  obtain ⟨gg, q1, q2, q3⟩ := rx_reg2 r2
  obtain ⟨v, v1, v2⟩ := q3 r (by omega)
  obtain ⟨w, w1, w2⟩ := q3 s (by omega)
  refine ⟨gg, q1, r, by omega, rfl, v, v1, gg, q1, s, by omega, rfl, w, w1, kc K1 + 60, ks K1 + 96000, by omega, by omega, by omega, by omega, ?_⟩
  refine xs_common2 r2 hw ht v2 w2 t1 t2 (Nat.le_refl _) (Nat.le_refl _) (fun T3 K3 w3 r3 c3 s3 p3 => ⟨kc K3 + 1, ks K3 + 8, by omega, by omega, by omega, by omega, ?_⟩)
  exact xs_lays r3 hw ht (by omega) (P := True) (Or.inr ⟨w3, rfl, trivial, p3⟩) (Nat.le_refl _) (Nat.le_refl _) (lydx_k fin)
theorem xc_content {A : AB} {K : XK} {T : XT} {x z : Int32} {Z Y : Nat} {post : Int32 → XT → XK → Prop} (h : rx A K T) (hw : wf A) (hZ : kc K + 10 ≤ Z) (hY : ks K + 9000 ≤ Y) (h0 : ¬ (aN A 0 = 1 ∧ inr x 7 ∧ inr z 7) → pst (aS A 1 (-1)) (-1) Z Y post) (h5 : aN A 0 = 1 → inr z 7 → ∀ r, r < 8 → x = nI r → thr (aR A r) → pst (aS A 5 (-1)) (-1) Z Y post)
    (h1 : aN A 0 = 1 → ∀ r k, r < 8 → k < 8 → x = nI r → z = nI k → ¬ thr (aR A r) → lydx A k (ctw A r) True Z Y post) : wx1_content x z K T Z Y post := by
  unfold wx1_content
  refine xv2 (by omega) (by omega) (fun K1 T1 f1 k1 l1 a1 c1 s1 z1 => ?_)
  have g := rx_keep h f1 k1
  refine xh_is g hw l1 (by omega) a1 (fun q T2 r2 => b11 rfl (pst_u (h0 fun w => q ⟨w.1, all2.2 w.2⟩) r2)) (fun ht q T2 f2 r2 => b01 rfl ?_)
  obtain ⟨⟨r, hr, er⟩, ⟨k, hk, ek⟩⟩ := all2.1 q
  have g5 := h5 ht ⟨k, hk, ek⟩ r (by omega) er
  have fin := h1 ht r k (by omega) (by omega) er ek
  subst er ek
  refine xs_hasThird r2 (by omega) (fun t1 => b01 rfl ?_) (fun t1 => b11 rfl (xs_no r2 (by decide) (fun T' r' => pst_u (g5 t1) (by rw [aS_aS] at r'; exact r'))))
  have fin := fin t1
  have hW := hw.2.2.2.2 ht
  have hpr := hW.1
  have hp2 := hpr.1
  haveI : NeZero (aN A 1) := ⟨by omega⟩
  rw [ctw_eq] at fin
  obtain ⟨gg, q1, q2, q3⟩ := rx_reg2 r2
  obtain ⟨v, v1, v2⟩ := q3 r (by omega)
  obtain ⟨ga, gb, hg, h9, h10, ra, rb⟩ := rx_910 r2
  have iga : isg ga := by unfold isg; omega
  refine ⟨gg, q1, r, by omega, rfl, v, v1, ga, h9, xs_lays2 hpr (rx_xcx r2 ht) iga ra v2 t1 (fun T3 f3 w3 => ?_)⟩
  have h3 : rx (aS A 0 (-1)) K1 T3 := rx_keep r2 (xf_mono f3 fun k hk => by unfold xsc; omega) (kx_rfl _)
  refine xs_contentOf hpr (rx_xcx h3 ht) iga w3 (fun T4 w c f4 hw4 rc hxc gc => ?_)
  have h4 : rx (aS A 0 (-1)) K1 T4 := rx_keep h3 (xf_mono f4 fun k hk => by unfold xsc; omega) (kx_rfl _)
  rw [ctt_of hpr gc] at fin
  have hzz := h4.1.2.1
  have hwc : ∀ m, wct c m < aN A 1 := fun m => by
    unfold wct
    split
    · exact Fin.isLt _
    · omega
  -- the content has no more than 16 places
  have hc16 : xl c 16 := by
    obtain ⟨n, hn⟩ := hgt_ex c
    by_cases wz : c = pz
    · rw [wz]; exact xl_pz _
    · cases n with
      | zero => exact absurd (hgt_0 hn) wz
      | succ d =>
        have hd := hgt_xd hn
        have hG : (grw (aR A r) : R2 (Fin (aN A 1))) ≠ z2 := fun e => wz ((gcr_z gc).2 e)
        obtain ⟨e, he⟩ := xd2_of hG
        obtain ⟨q, eq⟩ := gc.1 e
        have hq : q ≠ pz := fun w => he.1 (by rw [eq, w]; exact pr_zero c)
        obtain ⟨j, hj⟩ := ne_pz hq
        obtain ⟨dq, _, hdq⟩ := xd_of hj
        have hx := xd_mul (dm_fd (fdp hpr)) hdq hd
        rw [← eq] at hx
        have : dq + d < 16 := Classical.byContradiction fun w => hx.1 (grw_y (aR A r) e _ (by omega))
        exact xl_mono hd.2 (by omega)
  have l2 : kl K1 2 = 4096 := h4.1.1 2 (by omega)
  refine ⟨kc K1 + 3, ks K1 + 8195, by omega, by omega, by omega, by omega, ?_⟩
  unfold wx1_inY
  refine xs_blank l2 (fun T5 f5 z5 => ?_)
  have c5 : xcx (aN A 1) K1 T5 := xcx_t (rx_xcx h4 ht) f5 (by omega) (by omega)
  have rc5 := rwx_keep rc f5 (by omega)
  have iw : isw w := by unfold isw; omega
  obtain ⟨nc, hhc⟩ := hgt_ex c
  have hnc := hgt_le hhc hc16
  unfold wx1_inY_l7
  refine wl_up nc (fun y v => v.1 = nI y ∧ xf (fun k => k = 2) T5 v.2 ∧ ∀ m, m < 4096 → xi v.2 2 m = nI (if ex m 1 < y then wct c m else 0)) 0 (by omega) ⟨rfl, xf_rfl _ _, fun m hm => by rw [if_neg (by omega)]; exact z5 m hm⟩ ?_
  rintro y ⟨x3, T6⟩ hy ⟨hx3, f6, w6⟩ R hR
  dsimp only at hx3 f6 w6
  subst hx3
  have c6 := xcx_t c5 f6 (by omega) (by omega)
  have rc6 := rwx_keep rc5 f6 (by omega)
  have lw := isw_l c6 iw
  unfold wx1_inY_b7
  dsimp only
  refine xs_topw hpr.2.1 c6 iw rc6 hxc (fun n' hn' hh' => ?_)
  have e := hgt_uni hh' hhc
  subst e
  rw [hI_ltn (by omega) (by omega)]
  refine ⟨fun c7 => ?_, fun c7 => ?_⟩
  · have F6 : xf (xsc K1) T4 T6 := xf_tr (xf_mono f5 fun k hk => by unfold xsc; omega) (xf_mono f6 fun k hk => by unfold xsc; omega)
    have h6 := rx_keep h4 F6 (kx_rfl _)
    have hv6 : ∀ m, m < 4096 → xi T6 2 m = nI (wct c m) := fun m hm => by
      rw [w6 m hm]
      congr 1
      by_cases w5 : ex m 1 < y
      · rw [if_pos w5]
      · rw [if_neg w5]
        unfold wct
        split
        · rw [hhc.1 (ex m 1) (by omega)]; rfl
        · rfl
    obtain ⟨k1', k2', k3, k4', ⟨oq, o1, o2, o3, o4⟩, _⟩ := h6.2.2.2.2.2.2.2.2.1 ht
    have hcn := cn_le (wct c) 4096
    refine ⟨kc K1 + 3, ks K1 + 8195, by omega, by omega, by omega, by omega, xs_sorted hW.2.1 (p := aN A 1) hpr.2.1 o1 o2 o4 hzz (by omega) l2 hv6 (fun k _ => hwc k) (Nat.le_refl _) (by omega) (fun T7 K7 f7 x7 z7 c7' s7 p7 => ?_)⟩
    have h7 := rx_keep h6 (xf_mono f7 (fun k hk => by unfold xsc; omega)) x7
    refine ⟨kc (kset K7 (kc K1 + 3) (ks K1 + 8195)) + 1, ks (kset K7 (kc K1 + 3) (ks K1 + 8195)) + 8, by omega, by rw [kc_set]; omega, by omega, by rw [ks_set]; omega, ?_⟩
    exact xs_lays (rx_keep h7 (xf_rfl _ _) (kx_set _ _ _)) hw ht (by omega) (P := True) (Or.inr ⟨_, rfl, trivial, ply_keep p7 (xf_rfl (fun _ => False) _) (kx_set _ _ _) (fun _ _ _ w => w)⟩) (Nat.le_refl _) (Nat.le_refl _) (lydx_k fin)
  · have hy16 : y < 16 := by omega
    rw [show (0 : Int32) = nI 0 from li_0]
    refine xs_packed (by omega) hy16 (by omega) ⟨y, by omega, rfl, 0 + 16 * y + 256 * 0, by omega, rfl, fun T7 e7 x3 e3 => ?_⟩
    rw [rwx_at rc6 (by omega)] at e7
    subst e3
    refine hR (by omega) _ ⟨by dsimp only; rw [li_1, nI_add], ?_, fun m hm => ?_⟩
    · dsimp only
      rw [e7]
      exact xf_tr f6 (xf_wi rfl)
    · dsimp only
      rw [e7, xi_wi]
      obtain ⟨q0', q1', q2'⟩ := ex_mk (x := 0) (z := 0) (show 0 < 16 by omega) hy16 (by omega)
      by_cases w5 : m = 0 + 16 * y + 256 * 0
      · rw [if_pos ⟨rfl, w5⟩, w5, if_pos (by omega)]
        unfold wct
        rw [if_pos ⟨q0', q2'⟩, q1']
      · rw [if_neg (fun z => w5 z.2), w6 m hm]
        congr 1
        by_cases w8 : ex m 1 < y
        · rw [if_pos w8, if_pos (by omega)]
        · rw [if_neg w8]
          by_cases w9 : ex m 1 < y + 1
          · rw [if_pos w9]
            have hs := ex_sum hm
            unfold wct
            rw [if_neg (fun z => w5 (by omega))]
          · rw [if_neg w9]
