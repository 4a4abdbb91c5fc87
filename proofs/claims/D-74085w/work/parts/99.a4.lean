set_option maxRecDepth 100000
theorem xs_step {A : AB} {K : XK} {T : XT} {set L N : Nat} {s : DS} {post : XT → Prop} (h : rx A K T) (hw : wf A) (ht : aN A 0 = 1) (hs : set < 256) (hnz : ¬ hzr A set) (hv : dvs (aN A 1) (aOk A) (aR A) set) (hi : dinv (aN A 1) (aOk A) (aR A) set s) (hx : xdv (aOk A) set s T L N) (hn : cn (dL s) 4096 ≠ 0) (h5 : dS s ≠ 500) (hM : cn (dL s) 4096 ≤ dM s)
    (hf : ∀ T', ((dD (aOk A) (aR A) set s = 8 ∧ ¬ dok0 (aOk A) s) ∨ (dD (aOk A) (aR A) set s < 8 ∧ ¬ dok1 (aN A 1) (aOk A) (aR A) s (dD (aOk A) (aR A) set s))) → xf xfd T T' → rx A K T' → xi T' 6 7 = nI 0 → post T')
    (hg : ∀ T' L' N' s', ((dD (aOk A) (aR A) set s = 8 ∧ dok0 (aOk A) s ∧ s' = dst0 (aOk A) s) ∨ (dD (aOk A) (aR A) set s < 8 ∧ dok1 (aN A 1) (aOk A) (aR A) s (dD (aOk A) (aR A) set s) ∧ s' = dst1 (aN A 1) (aOk A) (aR A) s (dD (aOk A) (aR A) set s))) → xf xfd T T' → rx A K T' → xdv (aOk A) set s' T' L' N' → xi T' 6 7 = nI 1 → post T') : wx3_step K T post := by
  have hW := hw.2.2.2.2 ht
  have hp := hW.1
  have hp2 := hp.1
  have hp97 := hp.2.1
  have hx0 := hx
  obtain ⟨x1, x2, x3, x4, x5, x6, x7, x8, x9⟩ := hx
  obtain ⟨b1, b2, b3⟩ := lnx_b x1
  obtain ⟨i1, i2, i3, i4, i5, i6, i7, i8, i9, i10⟩ := id hi
  unfold wx3_step
  intro T1 e1
  rw [x8, li_1, nI_add] at e1
  have f1 : xf (fun k => k = 6) T T1 := by rw [e1]; exact xf_wi rfl
  have r1 : xr T1 = xr T := by rw [e1]; rfl
  have o1 : ∀ j, j ≠ 5 → xi T1 6 j = xi T 6 j := fun j hj => by rw [e1, xi_wi, if_neg (fun z => hj z.2)]
  have s1 : xi T1 6 5 = nI (dS s + 1) := by rw [e1, xi_wi, if_pos ⟨rfl, rfl⟩]
  have x62 : xr T1 6 2 = some L := by rw [r1]; exact x2
  have x63 : xr T1 6 3 = some N := by rw [r1]; exact x3
  have h1 : rx A K T1 := xdv_rx (o := aOk A) (set := set) (s := s) h T1 (xf_mono f1 (fun k hk => Or.inl hk)) x62 x63 x1
  have w4 := rwl_6 x4 f1 (by omega)
  obtain ⟨ld, l1, l2⟩ := rwl_ld w4 hn
  obtain ⟨k1, k2, k3, k4⟩ := lnx_len h x1
  refine xs_divisor h1 hs hnz (by rw [o1 4 (by omega)]; exact x7) x62 (by omega) ld.1 l1 (fun hno => ⟨fun q => absurd rfl q, fun _ => ?_⟩) (fun d hd hb hgi hno => ⟨fun _ => ?_, fun q => absurd q (n_m1 (by omega))⟩)
  · have hD : dD (aOk A) (aR A) set s = 8 := fst8_no hno
    exact xs_step0 h1 hw ht hi hx0 f1 r1 s1 o1 hn h5 hM (fun q T' f' r' z' => hf T' (Or.inl ⟨hD, q⟩) f' r' z') (fun q T' f' r' x' z' => hg T' L N _ (Or.inl ⟨hD, q, rfl⟩) f' r' x' z')
  have hD : dD (aOk A) (aR A) set s = d := fst8_yes hd ⟨hb, hgi⟩ hno
  rw [hD] at hf hg
  have hld := (hv d hd).2 hb
  obtain ⟨g1, g2, g3⟩ := gi_sub hld.1 ld.1 hgi
  obtain ⟨gg, q1, q2, q3⟩ := rx_reg h1
  obtain ⟨v, v1, v2⟩ := q3 d hd
  obtain ⟨va, vb, y1, y2, y3, y4, y5, y6, y7, y8, y9⟩ := ply_ld v2 (fun z => hnz ⟨d, hd, hb, z⟩)
  obtain ⟨p0, _, _, _, ⟨oq, oo1, oo2, oo3, oo4⟩, pinv⟩ := h1.2.2.2.2.2.2.2.2.1 ht
  have hrp := (hv d hd).1 _ hld.1
  have hr0 : 0 < aR A d (ldk (aOk A) (aR A d)) := Nat.pos_of_ne_zero hld.2.1
  have hdp := i1 _ ld.1
  obtain ⟨c1, c2, c3⟩ := dC_pos hp (Nat.pos_of_ne_zero ld.2.1) hdp hr0 hrp
  have hivp := (iv_ok hp hr0 hrp).2.1
  have hm97 := mul97 (a := dL s (ldk (aOk A) (dL s))) (b := iv (aN A 1) (aR A d (ldk (aOk A) (aR A d)))) (by omega) (by omega)
  have q7 : xr T1 7 d = some (17 + 3 * d) := h1.1.2.2.2.2.2.1 d hd
  refine ⟨L, x62, 0, by omega, rfl, gg, q1, d, by omega, rfl, v, v1, vb, y2, 0, y4, rfl, aR A d (ldk (aOk A) (aR A d)), by omega, y6, by rw [p0]; exact n_ne0 hp, fun X2 E2 => ⟨L, x62, 0, by omega, rfl, gg, q1, d, by omega, rfl, v, v1, va, y1, 0, y3, rfl, fun X3 E3 => ⟨d, hd, rfl, 17 + 3 * d, q7, ?_⟩⟩⟩
  rw [l2, pinv _ hr0 hrp, p0, pk_mul, n_rem (by omega) (by omega) (by omega)] at E2
  rw [l1, y5, pk_sub g1] at E3
  have E2 : X2 = nI (dC (aN A 1) (aOk A) (aR A) s d) := E2
  have c1 : 0 < dC (aN A 1) (aOk A) (aR A) s d := c1
  have c2 : dC (aN A 1) (aOk A) (aR A) s d < aN A 1 := c2
  subst E2 E3
  have ht4 : ldk (aOk A) (dL s) - ldk (aOk A) (aR A d) < 4096 := by have := ld.1; omega
  have wq := rwl_6 (x6 d hd) f1 (by omega)
  have hsum : ldk (aOk A) (dL s) - ldk (aOk A) (aR A d) + ldk (aOk A) (aR A d) = ldk (aOk A) (dL s) := by omega
  have lq1 : kl K (17 + 3 * d + 1) = 61 := by
    have : d = 0 ∨ d = 1 ∨ d = 2 ∨ d = 3 ∨ d = 4 ∨ d = 5 ∨ d = 6 ∨ d = 7 := by omega
    rcases this with e | e | e | e | e | e | e | e <;> subst e <;> exact h.1.1 _ (by omega)
  have lq2 : kl K (17 + 3 * d + 2) = 61 := by
    have : d = 0 ∨ d = 1 ∨ d = 2 ∨ d = 3 ∨ d = 4 ∨ d = 5 ∨ d = 6 ∨ d = 7 := by omega
    rcases this with e | e | e | e | e | e | e | e <;> subst e <;> exact h.1.1 _ (by omega)
  have hq60 := i6 d hd
  refine xs_rput wq (by omega) (by omega) ht4 c1 (by omega) (fun l hl hz => ?_) (fun T2 f2 rq2 => ?_)
  · obtain ⟨z1, z2, z3⟩ := i10 d l hd hl hz
    have z4 := z3 _ ld.1 ld.2.1
    rw [← hsum] at z4
    refine Classical.byContradiction fun z => ?_
    by_cases e : aOk A l = aOk A (ldk (aOk A) (dL s) - ldk (aOk A) (aR A d))
    · have := ok_inj hW.2.1 hl ht4 e
      rw [← this] at z4
      omega
    · have z : ¬ aOk A (ldk (aOk A) (dL s) - ldk (aOk A) (aR A d)) < aOk A l := z
      have hlt : aOk A l < aOk A (ldk (aOk A) (dL s) - ldk (aOk A) (aR A d)) := by omega
      have z5 : aOk A (l + ldk (aOk A) (aR A d)) < aOk A (ldk (aOk A) (dL s) - ldk (aOk A) (aR A d) + ldk (aOk A) (aR A d)) := ok_add hW.2.1 hl ht4 hld.1 z1 g2 hlt
      omega
  have nr3 : ∀ k, ¬ (8 ≤ k ∧ k ≤ 40) → ¬ r3 (17 + 3 * d) k := fun k hk => by unfold r3; omega
  have nr3L : ∀ k, (11 ≤ k ∧ k ≤ 16) ∨ (8 ≤ k ∧ k ≤ 10) → ¬ r3 (17 + 3 * d) k := fun k hk => by unfold r3; omega
  have h2 : rx A K T2 := rx_keep h1 (xf_mono f2 (fun k hk => by unfold r3 at hk; unfold xsc; omega)) (kx_rfl _)
  obtain ⟨gg2, q12, q22, q32⟩ := rx_reg h2
  obtain ⟨v', v1', v2'⟩ := q32 d hd
  have w42 : rwl (aOk A) T2 L (dL s) := rwl_keep w4 f2 (nr3L _ (by omega)) (nr3L _ (by omega)) (nr3L _ (by omega))
  have e26 : xi T2 6 = xi T1 6 := (f2 6 (nr3 6 (by omega))).1
  have r26 : xr T2 6 = xr T1 6 := (f2 6 (nr3 6 (by omega))).2
  have ft2 : xf xfd T T2 := xf_tr (xf_mono f1 (fun k hk => Or.inl hk)) (xf_mono f2 (fun k hk => by unfold r3 at hk; unfold xfd; omega))
  have bad : ¬ dok1 (aN A 1) (aOk A) (aR A) s d → ∀ T3, T3 = xwi T2 6 7 0 → wx3_step_j192 post (nI d) (nI (dC (aN A 1) (aOk A) (aR A) s d)) (nI (ldk (aOk A) (dL s) - ldk (aOk A) (aR A d))) K T3 := fun hno T3 e3 => by
    have z7 : xi T3 6 7 = nI 0 := by rw [e3, xi_wi, if_pos ⟨rfl, rfl⟩]; rfl
    have r36 : xr T3 6 = xr T1 6 := by rw [e3]; exact r26
    unfold wx3_step_j192
    rw [z7]
    refine ⟨fun q => absurd rfl q, fun _ => hf T3 (Or.inr ⟨hd, hno⟩) (by rw [e3]; exact xf_tr ft2 (xf_wi (Or.inl rfl))) ?_ z7⟩
    exact xdv_rx (o := aOk A) (set := set) (s := s) h2 T3 (by rw [e3]; exact xf_wi (Or.inl rfl)) (by rw [r36]; exact x62) (by rw [r36]; exact x63) x1
  refine ⟨gg2, q12, d, by omega, rfl, v', v1', xs_goes v2' ht4 (fun ov => b11 rfl ⟨d, hd, rfl, 17 + 3 * d, h2.1.2.2.2.2.2.1 d hd, ?_⟩) (fun ov => b01 rfl (bad (fun z => z.1 ov)))⟩
  have nq : xi T2 (17 + 3 * d) 2 = nI (cn (dQ (dst1 (aN A 1) (aOk A) (aR A) s d) d) 4096) := by
    rw [rwl_n rq2]
    show _ = nI (cn (if d = d then _ else _) 4096)
    rw [if_pos rfl]
  have hcq := cn_le (dQ (dst1 (aN A 1) (aOk A) (aR A) s d) d) 4096
  rw [nq, li_60, nI_ltI (by omega) (by omega)]
  refine ⟨fun c => bad (fun z => by have := z.2.2; omega), fun c T3 e3 => ?_⟩
  have z7 : xi T3 6 7 = nI 1 := by rw [e3, xi_wi, if_pos ⟨rfl, rfl⟩]; rfl
  have r3e : xr T3 = xr T2 := by rw [e3]; rfl
  have f3 : xf (fun k => k = 6) T2 T3 := by rw [e3]; exact xf_wi rfl
  have o3 : ∀ j, j ≠ 7 → xi T3 6 j = xi T1 6 j := fun j hj => by rw [e3, xi_wi, if_neg (fun z => hj z.2), e26]
  have x623 : xr T3 6 2 = some L := by rw [r3e, r26]; exact x62
  have x633 : xr T3 6 3 = some N := by rw [r3e, r26]; exact x63
  have h3 : rx A K T3 := xdv_rx (o := aOk A) (set := set) (s := s) h2 T3 (xf_mono f3 (fun k hk => Or.inl hk)) x623 x633 x1
  have ft3 : xf xfd T T3 := xf_tr ft2 (xf_mono f3 (fun k hk => Or.inl hk))
  obtain ⟨gg3, q13, q23, q33⟩ := rx_reg h3
  obtain ⟨w, w1, w2⟩ := q33 d hd
  have c60 := reg60 hw ht hd
  have w43 := rwl_6 w42 f3 (by omega)
  have rq3 := rwl_6 rq2 f3 (by omega)
  obtain ⟨nL, eL, iL, dL1, dL2⟩ := id w43
  have enL := isr_cn iL
  obtain ⟨wa, wb, m, rb, u1, u2, u3, u4, u5, u6, u7, u8, u9, u10, u11⟩ := id w2
  have em := isr_cn u6
  obtain ⟨p03, _, _, _, ⟨oq3, oo13, oo23, oo33, oo43⟩, _⟩ := h3.2.2.2.2.2.2.2.2.1 ht
  have hzz := h.1.2.1
  unfold wx3_step_j192
  rw [z7]
  refine ⟨fun _ => ⟨L, x623, N, x633, L, x623, L, x623, L, x623, gg3, q13, d, by omega, rfl, w, w1, ?_⟩, fun q => absurd q (by decide)⟩
  rw [dL1, p03, pk_sub (by omega)]
  have dN : ∀ k, 90 ≤ k → ¬ r3 N k := fun k hk => by unfold r3; omega
  refine xs_merges hp hW.2.1 p03 oo13 oo23 iL dL2 i1 (by omega) (by omega) u1 u2 u3 u6 u7 u8 u4 u5 (show aN A 1 - dC (aN A 1) (aOk A) (aR A) s d < aN A 1 by omega) ht4 (fun j hj => Classical.byContradiction fun z => ov ⟨by omega, rb j, (u6.1 j hj).1, (u6.1 j hj).2, z⟩) (by omega) (by omega) (by unfold r3; omega) (dN oq3 oo33) (by unfold r3; omega) (by unfold r3; omega) (dN w u9.1) (dN wa u10.1) (dN wb u11.1) (fun T4 M e4 f4 is4 rw4 hM4 T5 e5 T6 e6 => ?_)
  have rN : rwl (aOk A) T4 N (dlf (aN A 1) (aOk A) (aR A) s d) := ⟨M, e4, is4, rw4⟩
  have x626 : xr T6 6 2 = some N := by rw [e6, xr_wr, if_neg (by omega), e5, xr_wr, if_pos ⟨rfl, rfl⟩]
  have x636 : xr T6 6 3 = some L := by rw [e6, xr_wr, if_pos ⟨rfl, rfl⟩]
  have i6e : xi T6 = xi T4 := by rw [e6, e5]; rfl
  have f6 : xf (fun k => k = 6) T4 T6 := by rw [e6, e5]; exact xf_tr (xf_wr rfl) (xf_wr rfl)
  have f46 : xi T4 6 = xi T3 6 := (f4 6 (by unfold r3; omega)).1
  have rN6 := rwl_6 rN f6 (by omega)
  have ft6 : xf xfd T T6 := xf_tr (xf_tr ft3 (xf_mono f4 (fun k hk => by unfold r3 at hk; unfold xfd; omega))) (xf_mono f6 (fun k hk => Or.inl hk))
  have f36 : xf xfd T3 T6 := xf_tr (xf_mono f4 (fun k hk => by unfold r3 at hk; unfold xfd; omega)) (xf_mono f6 (fun k hk => Or.inl hk))
  have x1' : lnx N L := by
    rcases x1 with ⟨a1, a2⟩ | ⟨a1, a2⟩
    · exact Or.inr ⟨a2, a1⟩
    · exact Or.inl ⟨a2, a1⟩
  have nN := rwl_n rN6
  have hcl := cn_le (dlf (aN A 1) (aOk A) (aR A) s d) 4096
  refine ⟨N, x626, ?_⟩
  rw [nN, li_60, nI_ltI (by omega) (by omega)]
  refine ⟨fun c' T7 e7 => xs_step288n (by rw [e7, xi_wi, if_pos ⟨rfl, rfl⟩]; rfl) (hf T7 (Or.inr ⟨hd, fun z => by have := z.2.1; omega⟩) (by rw [e7]; exact xf_tr ft6 (xf_wi (Or.inl rfl))) ?_ (by rw [e7, xi_wi, if_pos ⟨rfl, rfl⟩]; rfl)), fun c' T7 e7 => ?_⟩
  · exact xdv_rx (o := aOk A) (set := set) (s := s) h3 T7 (by rw [e7]; exact xf_tr f36 (xf_wi (Or.inl rfl))) (by rw [e7]; exact x626) (by rw [e7]; exact x636) x1'
  have f7 : xf (fun k => k = 6) T6 T7 := by rw [e7]; exact xf_wi rfl
  refine xs_step288 (L := N) (c := cn (dlf (aN A 1) (aOk A) (aR A) s d) 4096) (M := dM s) (by rw [e7, xi_wi, if_pos ⟨rfl, rfl⟩]; rfl) (by rw [e7]; exact x626) (by rw [(f7 N (by omega)).1]; exact nN) (by rw [e7, xi_wi, if_neg (by omega), i6e, f46, o3 6 (by omega), o1 6 (by omega)]; exact x9) (by omega) (by omega) (by omega) (fun T8 f8 r8 o8 m8 => ?_)
  have f78 : xf (fun k => k = 6) T6 T8 := xf_tr f7 f8
  have r87 : xr T8 = xr T6 := by rw [r8, e7]; rfl
  have o86 : ∀ j, j ≠ 6 → j ≠ 7 → xi T8 6 j = xi T1 6 j := fun j a b => by rw [o8 j a, e7, xi_wi, if_neg (fun z => b z.2), i6e, f46, o3 j b]
  have f38 : xf xfd T3 T8 := xf_tr f36 (xf_mono f78 (fun k hk => Or.inl hk))
  have hok : dok1 (aN A 1) (aOk A) (aR A) s d := ⟨ov, by omega, by omega⟩
  have thru : ∀ to f, rwl (aOk A) T3 to f → 7 ≤ to → ¬ r3 N to → ¬ r3 N (to + 1) → ¬ r3 N (to + 2) → rwl (aOk A) T8 to f := fun to f z a b c e => rwl_6 (rwl_6 (rwl_keep z f4 b c e) f6 a) f78 a
  refine hg T8 N L _ (Or.inr ⟨hd, hok, rfl⟩) (xf_tr ft6 (xf_mono f78 (fun k hk => Or.inl hk))) ?_ ⟨x1', by rw [r87]; exact x626, by rw [r87]; exact x636, rwl_6 rN6 f78 (by omega), ?_, fun e he => ?_, ?_, ?_, ?_⟩ ?_
  · exact xdv_rx (o := aOk A) (set := set) (s := s) h3 T8 f38 (by rw [r87]; exact x626) (by rw [r87]; exact x636) x1'
  · exact thru 8 _ (rwl_6 (rwl_keep (rwl_6 x5 f1 (by omega)) f2 (nr3L _ (by omega)) (nr3L _ (by omega)) (nr3L _ (by omega))) f3 (by omega)) (by omega) (by unfold r3; omega) (by unfold r3; omega) (by unfold r3; omega)
  · show rwl _ T8 _ (if e = d then _ else dQ s e)
    by_cases z : e = d
    · rw [if_pos z, z]
      exact thru _ _ rq3 (by omega) (by unfold r3; omega) (by unfold r3; omega) (by unfold r3; omega)
    · rw [if_neg z]
      exact thru _ _ (rwl_6 (rwl_keep (rwl_6 (x6 e he) f1 (by omega)) f2 (by unfold r3; omega) (by unfold r3; omega) (by unfold r3; omega)) f3 (by omega)) (by omega) (by unfold r3; omega) (by unfold r3; omega) (by unfold r3; omega)
  · rw [o86 4 (by omega) (by omega), o1 4 (by omega)]; exact x7
  · rw [o86 5 (by omega) (by omega)]; exact s1
  · rw [m8]; rfl
  · rw [o8 7 (by omega), e7, xi_wi, if_pos ⟨rfl, rfl⟩]; rfl
