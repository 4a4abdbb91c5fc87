set_option maxRecDepth 100000
/-! TermDesk: primitive parts, steps -/
theorem xs_primitive {p : Nat} [NeZero p] {K : XK} {T : XT} {g Z Y : Nat} {G : R2 (Fin p)} {post : Nat → XT → XK → Prop} (hp : pr p) (hc : xcx p K T) (hz : 90 ≤ kz K) (hg : isg g) (hG : rgx T g G) (hZ : kc K + 1 ≤ Z) (hY : ks K + 2304 ≤ Y)
    (hpost : ∀ T' K' G' c n, xf (fun k => (g + 1 ≤ k ∧ k ≤ g + 16) ∨ (75 ≤ k ∧ k ≤ 77) ∨ kz K ≤ k) T T' → kx K K' → kz K' = kz K + 1 → kc K' = Z → ks K' = Y → rgx T' g G' → prm G G' → gcr G c → hgt c n → n ≤ 2304 → kl K' (kz K) = n → (∀ y, y < n → xi T' (kz K) y = nI (c.1 y).val) → post (kz K) T' K') : wx1_primitive g K T Z Y post := by
  have h97 := hp.2.1
  have lg := isg_l hc hg
  have hg' : g = 41 ∨ g = 58 := hg
  unfold wx1_primitive
  refine xs_contentOf hp hc hg hG (fun T1 v c f1 hv rc hxc gc => ?_)
  have c1 := xcx_t hc f1 (by omega) (by omega)
  have iv : isw v := by unfold isw; omega
  have lv := isw_l c1 iv
  have F1 : xf (fun k => (g + 1 ≤ k ∧ k ≤ g + 16) ∨ (75 ≤ k ∧ k ≤ 77) ∨ kz K ≤ k) T T1 := xf_mono f1 fun k hk => by omega
  have hG1 := rgx_keep hG f1 (fun x hx => by omega)
  refine xs_topw h97 c1 iv rc hxc (fun n hn hh => ?_)
  -- the copy of the content
  have fin : ∀ T2 G', xf (fun k => (g + 1 ≤ k ∧ k ≤ g + 16) ∨ (75 ≤ k ∧ k ≤ 77) ∨ kz K ≤ k) T T2 → rwx T2 v c.1 → rgx T2 g G' → prm G G' → wx1_primitive_j53 g Z Y post v (hI n) K T2 := fun T2 G' f2 r2 hG' hpm => by
    have e1 : hI n + 1 = nI n := by rw [hI_z, show (1 : Int32) = zI 1 from rfl, z_add, z_nI]; congr 1; omega
    unfold wx1_primitive_j53
    rw [e1]
    refine ⟨kc K + 1, ks K + n, by omega, by omega, by omega, by omega, xs_copyOf (by omega) (by omega) (by omega) (Nat.le_refl _) (Nat.le_refl _) (fun T3 K3 f3 x3 z3 c3 s3 l3 g3 => ?_)⟩
    refine hpost T3 (kset K3 Z Y) G' c n (xf_tr f2 (xf_mono f3 fun k hk => by omega)) (kx_tr x3 (kx_set _ _ _)) z3 rfl rfl (rgx_keep hG' f3 (fun x hx => by omega)) hpm gc hh hn l3 (fun y hy => ?_)
    rw [g3 y hy]
    exact r2 y (by omega)
  rw [show (0 : Int32) = nI 0 from li_0]
  have e0 : (hI n ≤ nI 0) ↔ n ≤ 1 := by rw [hI_z, z_nI, z_le (by omega) (by omega)]; omega
  rw [e0]
  refine ⟨fun c2' => ?_, fun c2' x5 e5 => ?_⟩
  · refine fin T1 G F1 rc hG1 ⟨c, gc, ?_⟩
    by_cases w : n = 0
    · subst w
      exact Or.inl ⟨hgt_0 hh, rfl⟩
    · have : n = 1 := by omega
      subst this
      have e1 := mon_1 gc.2.2 hh
      refine Or.inr ⟨fun z => (hgt_xd hh).1 (by rw [z]; exact pz_i 0), ?_⟩
      rw [e1]
      exact @pr_one _ (PRr (Fin p)) G
  · rw [lg] at e5
    subst e5
    obtain ⟨d, rfl⟩ : ∃ d, n = d + 1 := ⟨n - 1, by omega⟩
    have hd := hgt_xd hh
    have hc0 := xd_ne hd
    unfold wx1_primitive_l26
    refine wl_up 16 (fun x w => w.1 = nI x ∧ xf (fun k => (g + 1 ≤ k ∧ k ≤ g + 16) ∨ k = 77) T1 w.2 ∧ ∃ Q : Nat → PR (Fin p), (∀ j, j < x → rwx w.2 (g + 1 + j) (Q j).1 ∧ G.1 j = pr_mul (Q j) c) ∧ ∀ j, x ≤ j → j < 16 → rwx w.2 (g + 1 + j) (G.1 j).1) 0 (by omega) ⟨rfl, xf_rfl _ _, fun _ => pz, fun j hj => absurd hj (by omega), fun j _ hj => (hG1.1 j hj).2⟩ ?_
    rintro x ⟨x6, T2⟩ hx ⟨hx6, f2, Q, hQ, hrest⟩ R hR
    dsimp only at hx6 f2 hQ hrest
    subst hx6
    have c2' := xcx_t c1 f2 (by omega) (by omega)
    have r2 := rwx_keep rc f2 (by omega)
    have g2 : ∀ j, j < 16 → xr T2 g j = some (g + 1 + j) := fun j hj => by rw [(f2 g (by omega)).2]; exact (hG1.1 j hj).1
    unfold wx1_primitive_b26
    dsimp only
    rw [nI_leI (by omega) (by omega)]
    refine ⟨fun c3 => ?_, fun c3 => ⟨x, by omega, rfl, g + 1 + x, g2 x (by omega), ?_⟩⟩
    · have hxQ : ∀ j, j < 16 → xl (Q j) 2304 := fun j hj => by
        have h1 := hG.2.1 j
        rw [(hQ j (by omega)).2] at h1
        exact xl_mono (xl_div (dm_fd (fdp hp)) hd h1) (by omega)
      refine fin T2 (mkr Q) (xf_tr F1 (xf_mono f2 fun k hk => by omega)) r2 ⟨fun j hj => ⟨g2 j hj, by rw [mkr_at Q hj]; exact (hQ j (by omega)).1⟩, fun j => ?_, mkr_xl Q⟩ ⟨c, gc, Or.inr ⟨hc0, ?_⟩⟩
      · by_cases w : j < 16
        · rw [mkr_at Q w]; exact hxQ j w
        · have : (mkr Q).1 j = pz := if_neg w
          rw [this]; exact xl_pz _
      · refine @pr_ext _ (PRr (Fin p)) _ _ fun j => ?_
        rw [c2_at]
        by_cases w : j < 16
        · rw [mkr_at Q w, pr_mul_comm]; exact (hQ j (by omega)).2.symm
        · have e1 : (mkr Q).1 j = pz := if_neg w
          have e2 : G.1 j = pz := hG.2.2 j (by omega)
          rw [e1, e2, pz_mul]
    · refine xs_dividesBy hp c2' (isg_w hg (by omega)) iv (by omega) (by omega) (by omega) (hrest x (Nat.le_refl _) (by omega)) r2 (hG.2.1 x) hxc hc0 (gc.1 x) (fun T3 q f3 r3' e3 x6 e6 => ?_)
      subst e6
      have k3 : ∀ j, j < 16 → j ≠ x → ∀ h : Nat → Fin p, rwx T2 (g + 1 + j) h → rwx T3 (g + 1 + j) h := fun j hj hne h hr => rwx_keep hr f3 (by omega)
      refine hR (by omega) _ ⟨by dsimp only; rw [li_1, nI_add], xf_tr f2 (xf_mono f3 fun k hk => by omega), fun j => if j = x then q else Q j, fun j hj => ?_, fun j hj hj' => k3 j hj' (by omega) _ (hrest j (by omega) hj')⟩
      dsimp only
      by_cases w : j = x
      · rw [if_pos w, w]
        exact ⟨r3', e3⟩
      · rw [if_neg w]
        exact ⟨k3 j (by omega) w _ (hQ j (by omega)).1, (hQ j (by omega)).2⟩
theorem xs_topRow {p : Nat} [NeZero p] {K : XK} {T : XT} {g : Nat} {G : R2 (Fin p)} {post : Int32 → Prop} (hp : pr p) (hc : xcx p K T) (hg : isg g) (h : rgx T g G) (hpost : ∀ n, n ≤ 16 → hgt2 G n → post (hI n)) : wx1_topRow g K T post := by
  have lg := isg_l hc hg
  unfold wx1_topRow
  intro x1 e1
  rw [lg, n_hI] at e1
  subst e1
  unfold wx1_topRow_l5
  refine wl_n (fun n v => v = hI n ∧ n ≤ 16 ∧ xl2 G n) 16 ⟨rfl, Nat.le_refl _, h.2.2⟩ ?_
  rintro n w ⟨rfl, hn, hxn⟩ R hR
  unfold wx1_topRow_b5
  rw [hI_lt0 (by omega)]
  refine ⟨fun c => hpost n hn ⟨hxn, Or.inl c⟩, fun c => ?_⟩
  obtain ⟨m, rfl⟩ : ∃ m, n = m + 1 := ⟨n - 1, by omega⟩
  rw [hI_s]
  obtain ⟨g1, g2⟩ := h.1 m (by omega)
  refine ⟨m, by omega, rfl, g + 1 + m, g1, xs_topw hp.2.1 hc (isg_w hg (by omega)) g2 (h.2.1 m) (fun e he hh => ?_)⟩
  rw [show (0 : Int32) = nI 0 from li_0, hI_nle (by omega) (by omega)]
  refine ⟨fun z => ?_, fun z x ex => hR m _ (by omega) ⟨ex, by omega, fun i hi => ?_⟩⟩
  · have := hpost (m + 1) hn ⟨hxn, Or.inr fun w => (by
      rw [show m + 1 - 1 = m by omega] at w
      have w : G.1 m = pz := w
      rw [w] at hh
      have := hgt_pz hh
      omega)⟩
    rw [hI_s] at this
    exact this
  · by_cases w : i = m
    · have e0 : e = 0 := by omega
      subst e0
      rw [w]; exact hgt_0 hh
    · exact hxn i (by omega)
/-- one row becomes it times a row, less two others times each other -/
theorem xs_mixes {p : Nat} [NeZero p] {K : XK} {T : XT} {v1 v2 v3 v4 L4 ya yb : Nat} {r b a o : PR (Fin p)} {post : XT → Prop} (hp : pr p) (hc : xcx p K T) (w1 : isw v1) (w2 : isw v2) (w3 : isw v3) (h17 : v1 ≠ 77) (h27 : v2 ≠ 77) (h37 : v3 ≠ 77) (h47 : v4 ≠ 77) (h12 : v1 ≠ v2) (h13 : v1 ≠ v3) (h14 : v1 ≠ v4) (l4 : kl K v4 = L4) (hL4 : L4 ≤ 2304) (r1 : rwx T v1 r.1) (r2 : rwx T v2 b.1) (r3' : rwx T v3 a.1) (r4 : ∀ y, y < L4 → xi T v4 y = nI (o.1 y).val) (x1 : xl r (ya + 1)) (x2' : xl b (yb + 1)) (x3 : xl a (ya + 1)) (x4 : xl o (yb + 1)) (x4' : xl o L4) (hab : ya + yb ≤ 2130)
    (hpost : ∀ T', xf (fun k => k = v1 ∨ k = 77) T T' → rwx T' v1 (pr_add (pr_mul r b) (pr_neg (pr_mul a o))).1 → post T') : wx1_mixes v1 v2 v3 v4 K T post := by
  have h97 := hp.2.1
  have l1 := isw_l hc w1
  have l2 := isw_l hc w2
  have l3 := isw_l hc w3
  have l7 : kl K 77 = 2304 := isw_l hc (Or.inr (by omega))
  have nv : v1 ≠ 0 ∧ v1 ≠ 1 := by unfold isw at w1; omega
  unfold wx1_mixes
  refine xs_topw h97 hc w1 r1 (xl_mono x1 (by omega)) (fun n1 hn1 hh1 => xs_topw h97 hc w2 r2 (xl_mono x2' (by omega)) (fun n2 hn2 hh2 => xs_topw h97 hc w3 r3' (xl_mono x3 (by omega)) (fun n3 hn3 hh3 => xs_top h97 l4 hL4 r4 x4' (fun n4 hn4 hh4 => ?_))))
  have m1 := hgt_le hh1 x1
  have m2' := hgt_le hh2 x2'
  have m3 := hgt_le hh3 x3
  have m4 := hgt_le hh4 x4
  refine xs_fill (by omega) (fun T0 f0 _ z0 _ => ?_)
  have A : ∀ {T' : XT}, xf (fun k => k = 77) T T' → xcx p K T' ∧ rwx T' v1 r.1 ∧ rwx T' v2 b.1 ∧ rwx T' v3 a.1 ∧ ∀ y, y < L4 → xi T' v4 y = nI (o.1 y).val := fun {T'} f => ⟨xcx_t hc f (by omega) (by omega), rwx_keep r1 f h17, rwx_keep r2 f h27, rwx_keep r3' f h37, fun y hy => by rw [(f v4 h47).1]; exact r4 y hy⟩
  unfold wx1_mixes_l36
  refine wl_up n1 (fun I w => w.1 = nI I ∧ xf (fun k => k = 77) T w.2 ∧ rwx w.2 77 (fun j => pac r.1 b.1 I j)) 0 (by omega) ⟨rfl, f0, fun y hy => by dsimp only; rw [z0 y (by omega), pac_0]; exact li_0⟩ ?_
  rintro I ⟨x9, T1⟩ hI' ⟨hx9, f1, p1⟩ R hR
  dsimp only at hx9 f1 p1
  subst hx9
  unfold wx1_mixes_b36
  dsimp only
  rw [hI_ltn (by omega) (by omega)]
  refine ⟨fun c => ?_, fun c => ?_⟩
  · have eI : I = n1 := by omega
    subst eI
    unfold wx1_mixes_l103
    refine wl_up n3 (fun I w => w.1 = nI I ∧ xf (fun k => k = 77) T w.2 ∧ rwx w.2 77 (fun j => (pr_mul r b).1 j - pac a.1 o.1 I j)) 0 (by omega) ⟨rfl, f1, rwx_cg p1 fun y _ => by rw [pac_mul hh1.1, pac_0]; grind⟩ ?_
    rintro I ⟨x9, T2⟩ hI2 ⟨hx9, f2, p2⟩ R2' hR2
    dsimp only at hx9 f2 p2
    subst hx9
    unfold wx1_mixes_b103
    dsimp only
    rw [hI_ltn (by omega) (by omega)]
    refine ⟨fun c2' => ?_, fun c2' => ?_⟩
    · have eI : I = n3 := by omega
      subst eI
      refine ⟨0, 0, 2304, rfl, rfl, li_2304, by omega, by omega, fun T3 e3 => hpost T3 ?_ (fun y hy => ?_)⟩
      · rw [e3]
        exact xf_tr (xf_mono f2 fun k hk => Or.inr hk) (xf_cpy (Or.inl rfl))
      · rw [e3, xi_cpy, if_pos ⟨rfl, by omega, by omega⟩, show 0 + (y - 0) = y by omega, rwx_at p2 hy, pac_mul hh3.1]
        congr 2
        show _ = (pr_mul r b).1 y + - (pr_mul a o).1 y
        grind
    · unfold wx1_mixes_l113
      refine wl_up n4 (fun k w => w.1 = nI k ∧ xf (fun k => k = 77) T w.2 ∧ rwx w.2 77 (fun j => (pr_mul r b).1 j - (pac a.1 o.1 I j + pap a.1 o.1 I k j))) 0 (by omega) ⟨rfl, f2, rwx_cg p2 fun y _ => by rw [pap_0]; grind⟩ ?_
      rintro k ⟨x10, T3⟩ hk ⟨hx10, f3, p3⟩ R3 hR3
      dsimp only at hx10 f3 p3
      subst hx10
      obtain ⟨c3', _, _, a3, o3⟩ := A f3
      unfold wx1_mixes_b113
      dsimp only
      rw [hI_ltn (by omega) (by omega)]
      refine ⟨fun c4 x9 e9 => ?_, fun c4 => ?_⟩
      · have ek : k = n4 := by omega
        subst ek
        subst e9
        exact hR2 (by omega) _ ⟨by dsimp only; rw [li_1, nI_add], f3, rwx_cg p3 fun y _ => by rw [pac_s hh4.1]⟩
      · rw [nI_add]
        refine ⟨I + k, by omega, rfl, I, by omega, rfl, k, by omega, rfl, ?_⟩
        rw [rwx_at p3 (show I + k < 2304 by omega), rwx_at a3 (show I < 2304 by omega), o3 k (by omega), (pap_at _ _ _ _).1]
        refine xs_red hp c3' ⟨I + k, by omega, rfl, fun T4 e4 x10 e10 => ?_⟩
        subst e10
        refine hR3 (by omega) _ ⟨by dsimp only; rw [li_1, nI_add], ?_, fun y hy => ?_⟩
        · dsimp only
          rw [e4]
          exact xf_tr f3 (xf_wi rfl)
        · dsimp only
          rw [e4, xi_wi]
          by_cases w : y = I + k
          · rw [if_pos ⟨rfl, w⟩, w, (pap_at _ _ _ _).2]
            congr 2
            grind
          · rw [if_neg (fun z => w z.2), rwx_at p3 hy, pap_ne w]
  · unfold wx1_mixes_l46
    refine wl_up n2 (fun k w => w.1 = nI k ∧ xf (fun k => k = 77) T w.2 ∧ rwx w.2 77 (fun j => pac r.1 b.1 I j + pap r.1 b.1 I k j)) 0 (by omega) ⟨rfl, f1, rwx_cg p1 fun y _ => by rw [pap_0]; grind⟩ ?_
    rintro k ⟨x10, T3⟩ hk ⟨hx10, f3, p3⟩ R3 hR3
    dsimp only at hx10 f3 p3
    subst hx10
    obtain ⟨c3', a3, b3, _, _⟩ := A f3
    unfold wx1_mixes_b46
    dsimp only
    rw [hI_ltn (by omega) (by omega)]
    refine ⟨fun c4 x9 e9 => ?_, fun c4 => ?_⟩
    · have ek : k = n2 := by omega
      subst ek
      subst e9
      exact hR (by omega) _ ⟨by dsimp only; rw [li_1, nI_add], f3, rwx_cg p3 fun y _ => by rw [pac_s hh2.1]⟩
    · rw [nI_add]
      refine ⟨I + k, by omega, rfl, I, by omega, rfl, k, by omega, rfl, by rw [c3'.1]; exact n_ne0 hp, I + k, by omega, rfl, fun T4 e4 x10 e10 => ?_⟩
      rw [c3'.1, rwx_at p3 (show I + k < 2304 by omega), rwx_at a3 (show I < 2304 by omega), rwx_at b3 (show k < 2304 by omega), (pap_at _ _ _ _).1, nF_ma h97] at e4
      subst e10
      refine hR3 (by omega) _ ⟨by dsimp only; rw [li_1, nI_add], ?_, fun y hy => ?_⟩
      · dsimp only
        rw [e4]
        exact xf_tr f3 (xf_wi rfl)
      · dsimp only
        rw [e4, xi_wi]
        by_cases w : y = I + k
        · rw [if_pos ⟨rfl, w⟩, w, (pap_at _ _ _ _).2]
          congr 2
          grind
        · rw [if_neg (fun z => w z.2), rwx_at p3 hy, pap_ne w]
