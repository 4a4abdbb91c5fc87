set_option maxRecDepth 100000
/-! TermDesk's text: one step -/
theorem xs_stepWord {c : Nat → Nat} {n p Z Y : Nat} {K : XK} {T : XT} {post : XT → XK → Prop} (hc : cds c n) (h : xck c n T) (h82 : kl K 82 = 5) (hz : 90 ≤ kz K) (hpn : p ≤ n) (hp1 : 97 ≤ c p ∧ c p ≤ 122) (h7 : xi T 80 7 = nI p) (h9 : xi T 80 9 = nI p) (hZ : kc K + 2 ≤ Z) (hY : ks K + 9 ≤ Y)
    (hpost : ∀ T' K', fs (kz K) T T' → kx K K' → kc K' = Z → ks K' = Y → xcu c n (kz K) K' T' (if rnn c 97 122 (n - p) p - p ≤ 5 then 2 else 0, p, vln c 256 0 p (min (rnn c 97 122 (n - p) p - p) 5), rnn c 97 122 (n - p) p) → post T' K') : wx4_step_l70 Z Y post (nI p) K T := by
  have h70 := hc.1
  unfold wx4_step_l70
  refine wl_n (fun m (v : XT) => ∃ k, m = n - k ∧ p ≤ k ∧ k ≤ n ∧ fs (kz K) T v ∧ xi v 80 7 = nI k ∧ xi v 80 9 = nI p ∧ (∀ j, j < min (k - p) 5 → xi v 82 j = nI (c (p + j))) ∧ rnn c 97 122 (n - k) k = rnn c 97 122 (n - p) p) (n - p) ⟨p, rfl, Nat.le_refl _, hpn, fs_rfl _ _, h7, h9, fun j hj => absurd hj (by omega), rfl⟩ ?_
  rintro m T2 ⟨k, hm, k1, k2, f2, g7, g9, g82, hE⟩ R hR
  have hck := xck_s hz h f2
  have hle := cds_le hc k
  obtain ⟨r1, r2, r3, r4⟩ := rnn_s (lo := 97) (hi := 122) hc (by omega) k2
  unfold wx4_step_b70 wx4_step_j115
  rw [g7]
  refine xs_see hc hck (by omega) ?_
  refine xs_small hle (fun q => b11 rfl ?_) (fun q => b01 rfl ?_)
  · obtain ⟨q1, q2⟩ := r4 q
    rw [pk_sub k1, li_5, nI_leI (by omega) (by omega)]
    have nxt : ∀ T3, fs (kz K) T T3 → xi T3 80 7 = nI k → xi T3 80 9 = nI p → (∀ j, j < min (k + 1 - p) 5 → xi T3 82 j = nI (c (p + j))) → ∀ T4, T4 = xwi T3 80 7 (xi T3 80 7 + 1) → R T4 := fun T3 a1 a2 a3 a4 T4 e4 => by
      rw [a2, li_1, nI_add] at e4
      refine hR (n - (k + 1)) T4 (by omega) ⟨k + 1, rfl, by omega, by omega, ?_, ?_, ?_, fun j hj => ?_, ?_⟩
      · rw [e4]; exact fs_tr a1 (fs_w (by omega))
      · rw [e4, xi_wi, if_pos ⟨rfl, rfl⟩]
      · rw [e4, xi_wi, if_neg (by omega)]; exact a3
      · rw [e4, xi_wi, if_neg (by omega)]; exact a4 j hj
      · rw [← q2]; exact hE
    refine ⟨fun q5 T4 e4 => nxt T2 f2 g7 g9 (by rw [show min (k + 1 - p) 5 = min (k - p) 5 by omega]; exact g82) T4 (by rw [g7]; exact e4), fun q5 => ?_⟩
    refine xs_see hc hck (by omega) ⟨k - p, by omega, rfl, fun T3 e3 => ?_⟩
    have ev : cI (c k) = nI (c k) := if_neg (by omega)
    rw [ev, b_u16 _ (by omega)] at e3
    refine nxt T3 ?_ ?_ ?_ (fun j hj => ?_)
    · rw [e3]
      exact fs_tr f2 ⟨xf_wi (Or.inr (Or.inl rfl)), fun j a b => by rw [xi_wi, if_neg (by omega)]⟩
    · rw [e3, xi_wi, if_neg (by omega)]; exact g7
    · rw [e3, xi_wi, if_neg (by omega)]; exact g9
    · rw [e3, xi_wi]
      by_cases w : j = k - p
      · rw [if_pos ⟨rfl, w⟩, w, show p + (k - p) = k by omega]
      · rw [if_neg (fun z => w z.2)]; exact g82 j (by omega)
  · have hEk : rnn c 97 122 (n - p) p = k := by rw [← hE]; exact r3 q
    have hin := rnn_in (lo := 97) (hi := 122) hc (by omega) hpn
    rw [hEk] at hpost hin
    rw [pk_sub k1, li_5, nI_leI (by omega) (by omega)]
    have pk : p < k := by
      have := (rnn_s (lo := 97) (hi := 122) hc (by omega) hpn).2.2.2 hp1
      have h2 := (rnn_s (lo := 97) (hi := 122) hc (by omega) (show p + 1 ≤ n from this.1)).1
      omega
    refine ⟨fun q5 T3 e3 => ?_, fun q5 T3 e3 => ?_⟩
    · rw [if_pos q5] at hpost
      rw [show min (k - p) 5 = k - p by omega] at hpost g82
      have f3 : fs (kz K) T T3 := by rw [e3]; exact fs_tr f2 (fs_w (by omega))
      have a7 : xi T3 80 7 = nI k := by rw [e3, xi_wi, if_neg (by omega)]; exact g7
      have a9 : xi T3 80 9 = nI p := by rw [e3, xi_wi, if_neg (by omega)]; exact g9
      have a8 : xi T3 80 8 = nI 2 := by rw [e3, xi_wi, if_pos ⟨rfl, rfl⟩]; rfl
      have a82 : ∀ j, j < k - p → xi T3 82 j = nI (c (p + j)) := fun j hj => by rw [e3, xi_wi, if_neg (by omega)]; exact g82 j hj
      unfold wx4_step_j147
      rw [a8]
      refine ⟨fun z => absurd rfl z, fun _ => ⟨by omega, by omega, fun K4 eK4 T4 eT4 => ?_⟩⟩
      have t80 : ∀ j, xi T4 80 j = xi T3 80 j := fun j => by rw [eT4, xi_nil, if_neg (by omega)]
      have t82 : ∀ j, xi T4 82 j = xi T3 82 j := fun j => by rw [eT4, xi_nil, if_neg (by omega)]
      rw [t80 7, a7, pk_sub k1]
      have c4 : kc K4 = kc K + 1 := by rw [eK4, kc_new]
      have s4 : ks K4 = ks K + 4 := by rw [eK4, ks_new]
      have z4 : kz K4 = kz K + 1 := by rw [eK4, kz_new]
      refine ⟨Z, Y, by omega, Nat.le_refl _, by omega, Nat.le_refl _, ?_⟩
      refine xs_str (b := fun j => c (p + j)) (by rw [eK4, kl_new, if_neg (by omega)]; exact h82) (by omega) (by omega) hz (by omega) (by omega) (fun j hj => ⟨by rw [t82 j]; exact a82 j hj, by have := hin (p + j) (by omega) (by omega); show c (p + j) < 128; omega⟩) (by omega) (by omega) (fun T5 K5 f5 x5 z5 l5 c5 s5 b5 v51 v5 r5 T6 e6 => ?_)
      rw [z4] at z5 l5 b5 r5 f5
      have i6 : ∀ k, xi T6 k = xi T5 k := fun k => by rw [e6, xi_wr]
      refine hpost T6 _ ⟨fun k' hk' => ?_, fun j a b => ?_⟩ ?_ rfl rfl ⟨?_, ?_, ?_, k2, hpn, by show 2 < 7; omega, fun w => absurd w (by show ¬ 2 = 3; omega), fun _ => ?_⟩
      · obtain ⟨u1, u2⟩ := f5 k' (by omega) (by omega)
        refine ⟨?_, ?_⟩
        · rw [i6, u1, eT4]
          funext j
          rw [xi_nil, if_neg (by omega), (f3.1 k' hk').1]
        · rw [e6]
          funext j
          rw [xr_wr, if_neg (by omega), u2, eT4, xr_nil, if_neg (by omega), (f3.1 k' hk').2]
      · rw [i6, (f5 80 (by omega) (by omega)).1, t80]; exact f3.2 j a b
      · exact kx_tr (kx_tr (by rw [eK4]; exact kx_new _ _ _ _) x5) (kx_set _ _ _)
      · rw [i6, (f5 80 (by omega) (by omega)).1, t80]; exact a7
      · rw [i6, (f5 80 (by omega) (by omega)).1, t80]; exact a8
      · rw [i6, (f5 80 (by omega) (by omega)).1, t80]; exact a9
      · have nilv : ∀ j, xi T4 (kz K) j = 0 := fun j => by rw [eT4, xi_nil, if_pos rfl]
        refine ⟨kz K, kz K + 1, k - p, by rw [e6, xr_wr, if_pos ⟨rfl, rfl⟩], hz, by show kz K < kz K5; omega, by omega, by show kz K + 1 < kz K5; omega, ?_, ?_, ?_, ?_, l5, by omega, by omega, fun j hj => ⟨?_, ?_, ?_⟩, rfl, by omega, Nat.le_refl _⟩
        · rw [i6]; exact v51
        · rw [i6, v5 2 (by omega)]; exact nilv 2
        · rw [i6, v5 3 (by omega)]; exact nilv 3
        · rw [e6, xr_wr, if_neg (by omega)]; exact r5
        · rw [i6]; exact b5 j hj
        · exact (hin (p + j) (by omega) (by omega)).1
        · exact (hin (p + j) (by omega) (by omega)).2
    · rw [if_neg q5] at hpost
      unfold wx4_step_j147
      have a8 : xi T3 80 8 = nI 1 := by rw [e3, xi_wi, if_pos ⟨rfl, rfl⟩]; rfl
      rw [a8]
      refine ⟨fun _ T4 e4 => ?_, fun z => absurd z (by decide)⟩
      refine hpost T4 _ ?_ (kx_set _ _ _) rfl rfl ⟨?_, ?_, ?_, k2, hpn, by show 0 < 7; omega, fun w => absurd w (by show ¬ 0 = 3; omega), fun w => absurd w (by show ¬ 0 = 2; omega)⟩
      · rw [e4, e3]
        refine fs_tr (fs_tr f2 (fs_w (by omega))) (fs_tr ⟨xf_wr (Or.inl rfl), fun j a b => by rw [xi_wr]⟩ (fs_w (by omega)))
      · rw [e4, xi_wi, if_neg (by omega), xi_wr, e3, xi_wi, if_neg (by omega)]; exact g7
      · rw [e4, xi_wi, if_neg (by omega), xi_wr]; exact a8
      · rw [e4, xi_wi, if_neg (by omega), xi_wr, e3, xi_wi, if_neg (by omega)]; exact g9
theorem xs_stepWhole {c : Nat → Nat} {n p Z Y : Nat} {K : XK} {T : XT} {post : XT → XK → Prop} (hc : cds c n) (h : xck c n T) (hz : 90 ≤ kz K) (hpn : p ≤ n) (h7 : xi T 80 7 = nI p) (h9 : xi T 80 9 = nI p) (h10 : xi T 80 10 = nI 0)
    (hpost : ∀ T' K', fs (kz K) T T' → kx K K' → kc K' = Z → ks K' = Y → xcu c n (kz K) K' T' (if rnn c 48 57 (n - p) p - p ≤ 4 then 3 else 0, p, vln c 10 48 p (min (rnn c 48 57 (n - p) p - p) 4), rnn c 48 57 (n - p) p) → post T' K') : wx4_step_l203 Z Y post (nI p) K T := by
  have h70 := hc.1
  have hlt : ∀ j, (∀ i, i < j → 48 ≤ c (p + i) ∧ c (p + i) ≤ 57) → vln c 10 48 p j < 10 ^ j := fun j hj => vln_lt (by omega) j (fun i hi => by have := hj i hi; omega)
  unfold wx4_step_l203
  refine wl_n (fun m (v : XT) => ∃ k, m = n - k ∧ p ≤ k ∧ k ≤ n ∧ fs (kz K) T v ∧ xi v 80 7 = nI k ∧ xi v 80 9 = nI p ∧ xi v 80 10 = nI (vln c 10 48 p (min (k - p) 4)) ∧ rnn c 48 57 (n - k) k = rnn c 48 57 (n - p) p ∧ ∀ i, p ≤ i → i < k → 48 ≤ c i ∧ c i ≤ 57) (n - p) ⟨p, rfl, Nat.le_refl _, hpn, fs_rfl _ _, h7, h9, by rw [Nat.sub_self]; exact h10, rfl, fun i a b => absurd a (by omega)⟩ ?_
  rintro m T2 ⟨k, hm, k1, k2, f2, g7, g9, gw, hE, hb⟩ R hR
  have hck := xck_s hz h f2
  have hle := cds_le hc k
  obtain ⟨r1, r2, r3, r4⟩ := rnn_s (lo := 48) (hi := 57) hc (by omega) k2
  have hv := hlt (min (k - p) 4) (fun i hi => hb (p + i) (by omega) (by omega))
  have hv2 : vln c 10 48 p (min (k - p) 4) < 10000 := Nat.lt_of_lt_of_le hv (by
    have : (10 : Nat) ^ min (k - p) 4 ≤ 10 ^ 4 := Nat.pow_le_pow_right (by omega) (by omega)
    exact this)
  unfold wx4_step_b203 wx4_step_j251
  rw [g7]
  refine xs_see hc hck (by omega) ?_
  refine xs_digit hle (fun q => b11 rfl ?_) (fun q => b01 rfl ?_)
  · obtain ⟨q1, q2⟩ := r4 q
    rw [pk_sub k1, li_4, nI_leI (by omega) (by omega)]
    have nxt : ∀ T3, fs (kz K) T T3 → xi T3 80 7 = nI k → xi T3 80 9 = nI p → xi T3 80 10 = nI (vln c 10 48 p (min (k + 1 - p) 4)) → ∀ T4, T4 = xwi T3 80 7 (xi T3 80 7 + 1) → R T4 := fun T3 a1 a2 a3 a4 T4 e4 => by
      rw [a2, li_1, nI_add] at e4
      refine hR (n - (k + 1)) T4 (by omega) ⟨k + 1, rfl, by omega, by omega, ?_, ?_, ?_, ?_, ?_, fun i h1 h2 => ?_⟩
      · rw [e4]; exact fs_tr a1 (fs_w (by omega))
      · rw [e4, xi_wi, if_pos ⟨rfl, rfl⟩]
      · rw [e4, xi_wi, if_neg (by omega)]; exact a3
      · rw [e4, xi_wi, if_neg (by omega)]; exact a4
      · rw [← q2]; exact hE
      · by_cases e : i = k
        · rw [e]; exact q
        · exact hb i h1 (by omega)
    refine ⟨fun q5 T4 e4 => nxt T2 f2 g7 g9 (by rw [gw, show min (k + 1 - p) 4 = min (k - p) 4 by omega]) T4 (by rw [g7]; exact e4), fun q5 => ?_⟩
    refine xs_see hc hck (by omega) (fun T3 e3 => ?_)
    have ev : cI (c k) = nI (c k) := if_neg (by omega)
    rw [ev, gw, li_10, pk_mul, nI_add, li_48, pk_sub (by omega)] at e3
    refine nxt T3 ?_ ?_ ?_ ?_
    · rw [e3]; exact fs_tr f2 (fs_w (by omega))
    · rw [e3, xi_wi, if_neg (by omega)]; exact g7
    · rw [e3, xi_wi, if_neg (by omega)]; exact g9
    · rw [e3, xi_wi, if_pos ⟨rfl, rfl⟩, show min (k + 1 - p) 4 = (k - p) + 1 by omega, show min (k - p) 4 = k - p by omega]
      show _ = nI (vln c 10 48 p (k - p) * 10 + (c (p + (k - p)) - 48))
      rw [show p + (k - p) = k by omega]
      congr 1
      omega
  · have hEk : rnn c 48 57 (n - p) p = k := by rw [← hE]; exact r3 q
    rw [hEk] at hpost
    rw [pk_sub k1, li_4, nI_leI (by omega) (by omega)]
    have fin : ∀ kd T3, kd = (if k - p ≤ 4 then 3 else 0) → T3 = xwi T2 80 8 (nI (tkc kd)) → kd < 7 → kd ≠ 2 → post T3 (kset K Z Y) := fun kd T3 hkd e3 h7 h2 => by
      rw [← hkd] at hpost
      refine hpost T3 _ ?_ (kx_set _ _ _) rfl rfl ⟨?_, ?_, ?_, k2, hpn, h7, fun w => ⟨?_, hv2⟩, fun w => absurd w h2⟩
      · rw [e3]; exact fs_tr f2 (fs_w (by omega))
      · rw [e3, xi_wi, if_neg (by omega)]; exact g7
      · rw [e3, xi_wi, if_pos ⟨rfl, rfl⟩]
      · rw [e3, xi_wi, if_neg (by omega)]; exact g9
      · rw [e3, xi_wi, if_neg (by omega)]; exact gw
    exact ⟨fun q5 T3 e3 => fin 3 T3 (if_pos q5).symm e3 (by omega) (by omega), fun q5 T3 e3 => fin 0 T3 (if_neg q5).symm e3 (by omega) (by omega)⟩
theorem xs_tstep {c : Nat → Nat} {n s Z Y : Nat} {K : XK} {T : XT} {post : XT → XK → Prop} (hc : cds c n) (h : xck c n T) (h82 : kl K 82 = 5) (hz : 90 ≤ kz K) (hs : s ≤ n) (h7 : xi T 80 7 = nI s) (hZ : kc K + 2 ≤ Z) (hY : ks K + 9 ≤ Y)
    (hpost : ∀ T' K', fs (kz K) T T' → kx K K' → kc K' = Z → ks K' = Y → xcu c n (kz K) K' T' (tok c n s) → post T' K') : wx4_step K T Z Y post := by
  have h70 := hc.1
  unfold wx4_step wx4_step_l5
  rw [h7]
  refine wl_n (fun m (v : Int32) => ∃ k, m = n - k ∧ k ≤ n ∧ v = nI k ∧ skp c (n - k) k = skp c (n - s) s) (n - s) ⟨s, rfl, hs, rfl, rfl⟩ ?_
  rintro m x1 ⟨k, hm, k2, rfl, hE⟩ R hR
  have hle := cds_le hc k
  obtain ⟨r1, r2, r3, r4⟩ := skp_s hc k2
  unfold wx4_step_b5
  refine xs_see hc h (by omega) ?_
  rw [li_32, cI_eq hle (by omega)]
  refine ⟨fun q T1 e1 T2 e2 => ?_, fun q x e => ?_⟩
  · have hEk : skp c (n - s) s = k := by rw [← hE]; exact r3 q
    unfold tok at hpost
    rw [hEk] at hpost
    rw [li_1, nI_add] at e2
    have f2 : fs (kz K) T T2 := by rw [e2, e1]; exact fs_tr (fs_w (by omega)) (fs_w (by omega))
    have hck := xck_s hz h f2
    have a9 : xi T2 80 9 = nI k := by rw [e2, xi_wi, if_neg (by omega), e1, xi_wi, if_pos ⟨rfl, rfl⟩]
    have a7 : xi T2 80 7 = nI (k + 1) := by rw [e2, xi_wi, if_pos ⟨rfl, rfl⟩]
    refine xs_see hc hck (by omega) ?_
    rw [cI_m1 hle]
    refine ⟨fun q2 => ?_, fun q2 T3 e3 T4 e4 => ?_⟩
    · rw [if_neg q2] at hpost
      have hkn : k < n := Classical.byContradiction fun w => q2 ((hc.2 k).2 (by omega))
      refine xs_small hle (fun q3 => b11 rfl fun T3 e3 => ?_) (fun q3 => b01 rfl ?_)
      · rw [if_pos q3] at hpost
        have f3 : fs (kz K) T T3 := by rw [e3]; exact fs_tr f2 (fs_w (by omega))
        refine xs_stepWord hc (xck_s hz h f3) h82 hz k2 q3 (by rw [e3, xi_wi, if_pos ⟨rfl, rfl⟩]) (by rw [e3, xi_wi, if_neg (by omega)]; exact a9) hZ hY (fun T' K' f' x' c' s' y' => hpost T' K' (fs_tr f3 f') x' c' s' y')
      · rw [if_neg q3] at hpost
        refine xs_digit hle (fun q4 => b11 rfl fun T3 e3 T4 e4 => ?_) (fun q4 => b01 rfl ?_)
        · rw [if_pos q4] at hpost
          have f4 : fs (kz K) T T4 := by rw [e4, e3]; exact fs_tr f2 (fs_tr (fs_w (by omega)) (fs_w (by omega)))
          refine xs_stepWhole hc (xck_s hz h f4) hz k2 (by rw [e4, xi_wi, if_pos ⟨rfl, rfl⟩]) (by rw [e4, xi_wi, if_neg (by omega), e3, xi_wi, if_neg (by omega)]; exact a9) (by rw [e4, xi_wi, if_neg (by omega), e3, xi_wi, if_pos ⟨rfl, rfl⟩]; rfl) (fun T' K' f' x' c' s' y' => hpost T' K' (fs_tr f4 f') x' c' s' y')
        · rw [if_neg q4] at hpost
          have fin : ∀ kd T3, kd = (if c k = 59 then 4 else if c k = 43 then 5 else if c k = 45 then 6 else 0) → T3 = xwi T2 80 8 (nI (tkc kd)) → kd < 7 → kd ≠ 2 → kd ≠ 3 → post T3 (kset K Z Y) := fun kd T3 hkd e3 h7 h2 h3 => by
            rw [← hkd] at hpost
            refine hpost T3 _ ?_ (kx_set _ _ _) rfl rfl ⟨?_, ?_, ?_, hkn, k2, h7, fun w => absurd w h3, fun w => absurd w h2⟩
            · rw [e3]; exact fs_tr f2 (fs_w (by omega))
            · rw [e3, xi_wi, if_neg (by omega)]; exact a7
            · rw [e3, xi_wi, if_pos ⟨rfl, rfl⟩]
            · rw [e3, xi_wi, if_neg (by omega)]; exact a9
          have ev : cI (c k) = nI (c k) := if_neg q2
          rw [li_59, li_43, li_45, cI_eq hle (by omega), cI_eq hle (by omega), cI_eq hle (by omega), ev]
          refine ⟨fun z1 T3 e3 => fin 4 T3 ?_ ?_ (by omega) (by omega) (by omega), fun z1 => ⟨fun z2 T3 e3 => fin 5 T3 ?_ ?_ (by omega) (by omega) (by omega), fun z2 => ⟨fun z3 T3 e3 => fin 0 T3 ?_ ?_ (by omega) (by omega) (by omega), fun z3 T3 e3 => fin 6 T3 ?_ ?_ (by omega) (by omega) (by omega)⟩⟩⟩
          · rw [if_pos z1]
          · rw [z1] at e3; exact e3
          · rw [if_neg z1, if_pos z2]
          · rw [z2] at e3; exact e3
          · rw [if_neg z1, if_neg z2, if_neg z3]
          · exact e3
          · rw [if_neg z1, if_neg z2, if_pos z3]
          · rw [z3] at e3; exact e3
    · rw [if_pos q2] at hpost
      refine hpost T4 _ ?_ (kx_set _ _ _) rfl rfl ⟨?_, ?_, ?_, k2, k2, by show 1 < 7; omega, fun w => absurd w (by show ¬ 1 = 3; omega), fun w => absurd w (by show ¬ 1 = 2; omega)⟩
      · rw [e4, e3]; exact fs_tr f2 (fs_tr (fs_w (by omega)) (fs_w (by omega)))
      · rw [e4, xi_wi, if_pos ⟨rfl, rfl⟩]
      · rw [e4, xi_wi, if_neg (by omega), e3, xi_wi, if_pos ⟨rfl, rfl⟩]; rfl
      · rw [e4, xi_wi, if_neg (by omega), e3, xi_wi, if_neg (by omega)]; exact a9
  · obtain ⟨q1, q2⟩ := r4 q
    rw [li_1, nI_add] at e
    exact hR (n - (k + 1)) _ (by omega) ⟨k + 1, rfl, by omega, e, by rw [← q2]; exact hE⟩
