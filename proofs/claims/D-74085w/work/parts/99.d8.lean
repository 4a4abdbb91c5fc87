set_option maxRecDepth 100000
/-- a primitive part's degrees -/
theorem prm_deg {F : Type} [Lean.Grind.CommRing F] (hF : fd F) {P G : R2 F} (h : prm P G) (hy : yl P 15) : yl G 15 := by
  by_cases hz : P = z2
  · rw [hz] at h
    rw [prm_z h]
    intro j
    have : (z2 : R2 F).1 j = pz := @pz_i _ (PRr F) j
    rw [this]; exact xl_pz _
  · obtain ⟨_, c, hc, _, e⟩ := prm_ne hF h hz
    exact yl_div (dm_fd hF) hc (by rw [e]; exact hy)
theorem xc_primitive {A : AB} {K : XK} {T : XT} {x z : Int32} {Z Y : Nat} {post : Int32 → XT → XK → Prop} (h : rx A K T) (hw : wf A) (hZ : kc K + 10 ≤ Z) (hY : ks K + 11000 ≤ Y) (h0 : ¬ (aN A 0 = 1 ∧ inr x 7 ∧ inr z 7) → pst (aS A 1 (-1)) (-1) Z Y post) (h5 : aN A 0 = 1 → inr z 7 → ∀ r, r < 8 → x = nI r → thr (aR A r) → pst (aS A 5 (-1)) (-1) Z Y post)
    (h1 : aN A 0 = 1 → ∀ r k, r < 8 → k < 8 → x = nI r → z = nI k → ¬ thr (aR A r) → lydx A k (pmw A r) True Z Y post) : wx1_primitive_2 x z K T Z Y post := by
  unfold wx1_primitive_2
  refine xv2 (by omega) (by omega) (fun K1 T1 f1 k1 l1 a1 c1 s1 z1 => ?_)
  have g := rx_keep h f1 k1
  refine xh_is g hw l1 (by omega) a1 (fun q T2 r2 => b11 rfl (pst_u (h0 fun w => q ⟨w.1, all2.2 w.2⟩) r2)) (fun ht q T2 f2 r2 => b01 rfl ?_)
  obtain ⟨⟨r, hr, er⟩, ⟨k, hk, ek⟩⟩ := all2.1 q
  have g5 := h5 ht ⟨k, hk, ek⟩ r (by omega) er
  have fin := h1 ht r k (by omega) (by omega) er ek
  subst er ek
  refine xs_hasThird r2 (by omega) (fun t1 => b01 rfl ?_) (fun t1 => b11 rfl (xs_no r2 (by decide) (fun T' r' => pst_u (g5 t1) (by rw [aS_aS] at r'; exact r'))))
  have fin := fin t1
  have hW := hw.2.2.2.2 ht
  have hpr := hW.1
  have hp2 := hpr.1
  haveI : NeZero (aN A 1) := ⟨by omega⟩
  rw [pmw_eq] at fin
  obtain ⟨gg, q1, q2, q3⟩ := rx_reg2 r2
  obtain ⟨v, v1, v2⟩ := q3 r (by omega)
  obtain ⟨ga, gb, hg, h9, h10, ra, rb⟩ := rx_910 r2
  have iga : isg ga := by unfold isg; omega
  have hzz := r2.1.2.1
  refine ⟨gg, q1, r, by omega, rfl, v, v1, ga, h9, xs_lays2 hpr (rx_xcx r2 ht) iga ra v2 t1 (fun T3 f3 w3 => ?_)⟩
  have h3 : rx (aS A 0 (-1)) K1 T3 := rx_keep r2 (xf_mono f3 fun k hk => by unfold xsc; omega) (kx_rfl _)
  refine ⟨kc K1 + 1, ks K1 + 2304, by omega, by omega, by omega, by omega, xs_primitive hpr (rx_xcx h3 ht) hzz iga w3 (Nat.le_refl _) (Nat.le_refl _) (fun T4 K4 G c n f4 k4 z4 cc4 s4 w4 hpm _ _ _ _ _ => ?_)⟩
  have h4 : rx (aS A 0 (-1)) K4 T4 := rx_keep h3 (xf_mono f4 fun k hk => by unfold xsc; omega) k4
  have hz4 := h4.1.2.1
  rw [pmt_of hpr hpm] at fin
  have hy := prm_deg (fdp hpr) hpm (grw_y (aR A r))
  have l2 : kl K4 2 = 4096 := h4.1.1 2 (by omega)
  have h94 : xr T4 0 9 = some ga := by rw [(f4 0 (by omega)).2, (f3 0 (by omega)).2]; exact h9
  have lga : kl K4 ga = 16 := isg_l (rx_xcx h4 ht) iga
  refine xs_blank l2 (fun T5 f5 z5 => ?_)
  have C : ∀ {T' : XT}, xf (fun k => k = 2) T5 T' → xcx (aN A 1) K4 T' ∧ rgx T' ga G ∧ xr T' 0 9 = some ga := fun {T'} f => by
    have f' : xf (fun k => k = 2) T4 T' := xf_tr f5 f
    exact ⟨xcx_t (rx_xcx h4 ht) f' (by omega) (by omega), rgx_keep w4 f' (fun x hx => by omega), by rw [(f' 0 (by omega)).2]; exact h94⟩
  unfold wx1_primitive_2_l69
  refine wl_up 16 (fun x v => v.1 = nI x ∧ xf (fun k => k = 2) T5 v.2 ∧ ∀ m, m < 4096 → xi v.2 2 m = nI (if ex m 0 < x then wtb G m else 0)) 0 (by omega) ⟨rfl, xf_rfl _ _, fun m hm => by rw [if_neg (by omega)]; exact z5 m hm⟩ ?_
  rintro x ⟨x5, T6⟩ hx ⟨hx5, f6, w6⟩ R hR
  dsimp only at hx5 f6 w6
  subst hx5
  unfold wx1_primitive_2_b69
  dsimp only
  rw [li_15, nI_ltI (by omega) (by omega)]
  refine ⟨fun c7 => ?_, fun c7 => ?_⟩
  · have h6 : rx (aS A 0 (-1)) K4 T6 := rx_keep h4 (xf_tr (xf_mono f5 fun k hk => by unfold xsc; omega) (xf_mono f6 fun k hk => by unfold xsc; omega)) (kx_rfl _)
    exact xs_srlay h6 hw ht (by omega) (fun m hm => by rw [w6 m hm, if_pos (by have := ex_lt m 0; omega)]) (fun m _ => wtb_lt G m) (by omega) (by omega) fin
  · obtain ⟨ny, hny⟩ := hgt_ex (G.1 x)
    have hny16 := hgt_le hny (hy x)
    unfold wx1_primitive_2_l79
    refine wl_up ny (fun y v => v.1 = nI y ∧ xf (fun k => k = 2) T5 v.2 ∧ ∀ m, m < 4096 → xi v.2 2 m = nI (if ex m 0 < x ∨ (ex m 0 = x ∧ ex m 1 < y) then wtb G m else 0)) 0 (by omega) ⟨rfl, f6, fun m hm => ?_⟩ ?_
    · dsimp only
      rw [w6 m hm]
      congr 1
      by_cases w : ex m 0 < x
      · rw [if_pos w, if_pos (Or.inl w)]
      · rw [if_neg w, if_neg (by omega)]
    rintro y ⟨x6, T7⟩ hyy ⟨hx6, f7, w7⟩ R2' hR2
    dsimp only at hx6 f7 w7
    subst hx6
    obtain ⟨c7', g7, h97'⟩ := C f7
    obtain ⟨e1, e2⟩ := g7.1 x (by omega)
    have iw := isg_w iga (show x < 16 by omega)
    have lw := isw_l c7' iw
    unfold wx1_primitive_2_b79
    dsimp only
    refine ⟨ga, h97', x, by omega, rfl, ga + 1 + x, e1, xs_topw hpr.2.1 c7' iw e2 (xl_mono (hy x) (by omega)) (fun n' hn' hh' => ?_)⟩
    have e := hgt_uni hh' hny
    subst e
    rw [hI_ltn (by omega) (by omega)]
    refine ⟨fun c8 x5 e5 => ?_, fun c8 => ?_⟩
    · subst e5
      refine hR (by omega) _ ⟨by dsimp only; rw [li_1, nI_add], f7, fun m hm => ?_⟩
      dsimp only
      rw [w7 m hm]
      congr 1
      by_cases w : ex m 0 < x ∨ (ex m 0 = x ∧ ex m 1 < y)
      · rw [if_pos w, if_pos (by omega)]
      · rw [if_neg w]
        by_cases w2 : ex m 0 < x + 1
        · rw [if_pos w2]
          unfold wtb
          split
          · have e0 : ex m 0 = x := by omega
            rw [e0, hny.1 (ex m 1) (by omega)]
            rfl
          · rfl
        · rw [if_neg w2]
    · have hy16 : y < 16 := by omega
      rw [show (0 : Int32) = nI 0 from li_0]
      refine xs_packed (by omega) hy16 (by omega) ⟨ga, h97', x, by omega, rfl, ga + 1 + x, e1, y, by omega, rfl, x + 16 * y + 256 * 0, by omega, rfl, fun T8 e8 x6 e6 => ?_⟩
      rw [rwx_at e2 (by omega)] at e8
      subst e6
      refine hR2 (by omega) _ ⟨by dsimp only; rw [li_1, nI_add], ?_, fun m hm => ?_⟩
      · dsimp only
        rw [e8]
        exact xf_tr f7 (xf_wi rfl)
      · dsimp only
        rw [e8, xi_wi]
        by_cases w5 : m = x + 16 * y + 256 * 0
        · obtain ⟨q0', q1', q2'⟩ := ex_mk (z := 0) (show x < 16 by omega) hy16 (by omega)
          rw [if_pos ⟨rfl, w5⟩, w5, if_pos (by omega), show x + 16 * y + 256 * 0 = x + 16 * y by omega, wtb_xy G (by omega) hy16]
        · rw [if_neg (fun z => w5 z.2), w7 m hm]
          congr 1
          by_cases w8 : ex m 0 < x ∨ (ex m 0 = x ∧ ex m 1 < y)
          · rw [if_pos w8, if_pos (by omega)]
          · rw [if_neg w8]
            by_cases w9 : ex m 0 < x ∨ (ex m 0 = x ∧ ex m 1 < y + 1)
            · rw [if_pos w9]
              have hs := ex_sum hm
              unfold wtb
              rw [if_neg (fun z => w5 (by omega))]
            · rw [if_neg w9]
