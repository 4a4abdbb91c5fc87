set_option maxRecDepth 100000
/-! the Model: common divisors of rows, contents, primitive parts -/
theorem sp_monics {p : Nat} [NeZero p] {S : St} {k : Nat} {a : PR (Fin p)} {post : St → Prop} (hp : pr p) (h5 : S 0 5 = nI p) (hk : k ≠ 0) (hm : 2304 ≤ mlen k) (ha : rwm S k 0 a.1) (hx : xl a 2304) (hpost : ∀ S' a' u, frb (fun b => b = k) S S' → rwm S' k 0 a'.1 → u ≠ 0 → a' = pr_mul (pr_c u) a → mon a' → post S') : wp_monics k S post := by
  have h97 := hp.2.1
  unfold wp_monics
  rw [li_0]
  refine sp_heightOf h97 ha hx (by omega) (by omega) (fun n hn hh => ?_)
  rw [hI_eq0 (by omega)]
  refine ⟨fun c => ?_, fun c => ?_⟩
  · obtain ⟨d, rfl⟩ : ∃ d, n = d + 1 := ⟨n - 1, by omega⟩
    have hd := hgt_xd hh
    rw [hI_s]
    refine ⟨d, by omega, rfl, ?_⟩
    rw [rwm_at ha (by omega)]
    refine sp_inverse hp h5 (fpos hd.1) (a.1 d).isLt ?_
    rw [← fiv_v hp hd.1]
    unfold wp_monics_l23
    refine wl_up (d + 1) (fun i v => v.1 = nI i ∧ frb (fun b => b = k) S v.2 ∧ rwm v.2 k 0 (fun y => if y < i then a.1 y * fiv (a.1 d) else a.1 y)) 0 (by omega) ⟨rfl, frb_rfl _ _, rwm_cg ha fun y _ => (if_neg (by omega)).symm⟩ ?_
    rintro i ⟨x4, S1⟩ hi ⟨hx4, f1, w1⟩ R hR
    dsimp only at hx4 f1 w1
    subst hx4
    have g5 : S1 0 5 = nI p := by rw [f1 0 (fun w => hk w.symm)]; exact h5
    unfold wp_monics_b23
    dsimp only
    rw [nI_ltI (by omega) (by omega)]
    refine ⟨fun c2 => ?_, fun c2 => ⟨i, by omega, rfl, by rw [g5]; exact n_ne0 hp, i, by omega, rfl, fun S2 e2 x4 e4 => ?_⟩⟩
    · have e : i = d + 1 := by omega
      subst e
      refine hpost S1 (pr_mul (pr_c (fiv (a.1 d))) a) (fiv (a.1 d)) f1 (rwm_cg w1 fun y _ => ?_) (fiv_ne hp hd.1) rfl (Or.inr ⟨d, ⟨?_, xl_cm hd.2⟩, ?_⟩)
      · rw [pr_mul_c]
        by_cases w : y < d + 1
        · rw [if_pos w]; grind
        · rw [if_neg w, hd.2 y (by omega)]; grind
      · rw [pr_mul_c]
        have := fiv_ok hp hd.1
        have e : fiv (a.1 d) * a.1 d = a.1 d * fiv (a.1 d) := by grind
        rw [e, this]
        exact fin_10 hp
      · rw [pr_mul_c]
        have := fiv_ok hp hd.1
        have e : fiv (a.1 d) * a.1 d = a.1 d * fiv (a.1 d) := by grind
        rw [e, this]
    · rw [g5, rwm_at w1 (show i < 2304 by omega), if_neg (by omega), nF_mm h97] at e2
      subst e4
      refine hR (by omega) _ ⟨by rw [li_1, nI_add], ?_, fun y hy => ?_⟩
      · dsimp only
        rw [e2]
        exact frb_tr f1 (frb_bw rfl)
      · dsimp only
        rw [e2, bw_at, Nat.zero_add]
        by_cases w : y = i
        · rw [if_pos ⟨rfl, w⟩, if_pos (by omega), w]
        · rw [if_neg (fun z => w z.2), rwm_at w1 hy]
          by_cases w3 : y < i
          · rw [if_pos w3, if_pos (by omega)]
          · rw [if_neg w3, if_neg (by omega)]
  · subst c
    have hz := hgt_0 hh
    refine hpost S a 1 (frb_rfl _ _) ha (fin_10 hp) (pr_one a).symm (Or.inl hz)
/-- a pair of rows goes over into another one with the same common divisors -/
def eqp {F : Type} [Lean.Grind.CommRing F] (a b a' b' : PR F) : Prop := (∃ s t, a' = pr_add (pr_mul s a) (pr_mul t b)) ∧ (∃ s t, b' = pr_add (pr_mul s a) (pr_mul t b)) ∧ (∃ s t, a = pr_add (pr_mul s a') (pr_mul t b')) ∧ ∃ s t, b = pr_add (pr_mul s a') (pr_mul t b')
theorem eqp_rfl {F : Type} [Lean.Grind.CommRing F] (a b : PR F) : eqp a b a b := by
  have h1 : ∀ x y : PR F, x = pr_add (pr_mul (pr_c 1) x) (pr_mul pz y) := fun x y => by
    letI := PRr F
    show x = 1 * x + 0 * y
    grind
  have h2 : ∀ x y : PR F, y = pr_add (pr_mul pz x) (pr_mul (pr_c 1) y) := fun x y => by
    letI := PRr F
    show y = 0 * x + 1 * y
    grind
  exact ⟨⟨_, _, h1 a b⟩, ⟨_, _, h2 a b⟩, ⟨_, _, h1 a b⟩, ⟨_, _, h2 a b⟩⟩
theorem eqp_step {F : Type} [Lean.Grind.CommRing F] {a b a' b' q r : PR F} (h : eqp a b a' b') (e : a' = pr_add (pr_mul q b') r) : eqp a b b' r := by
  obtain ⟨⟨s1, t1, h1⟩, ⟨s2, t2, h2⟩, ⟨s3, t3, h3⟩, s4, t4, h4⟩ := h
  letI := PRr F
  have h1 : a' = s1 * a + t1 * b := h1
  have h2 : b' = s2 * a + t2 * b := h2
  have h3 : a = s3 * a' + t3 * b' := h3
  have h4 : b = s4 * a' + t4 * b' := h4
  have e : a' = q * b' + r := e
  refine ⟨⟨s2, t2, h2⟩, ⟨s1 + - (q * s2), t1 + - (q * t2), ?_⟩, ⟨s3 * q + t3, s3, ?_⟩, ⟨s4 * q + t4, s4, ?_⟩⟩
  · show r = (s1 + - (q * s2)) * a + (t1 + - (q * t2)) * b
    grind
  · show a = (s3 * q + t3) * b' + s3 * r
    grind
  · show b = (s4 * q + t4) * b' + s4 * r
    grind
theorem eqp_end {F : Type} [Lean.Grind.CommRing F] {a b a' : PR F} (h : eqp a b a' pz) : gc2 a b a' := by
  obtain ⟨h1, _, ⟨s, t, h3⟩, s', t', h4⟩ := h
  refine ⟨⟨s, ?_⟩, ⟨s', ?_⟩, h1⟩
  · rw [pz_mul] at h3
    refine h3.trans ?_
    letI := PRr F
    show s * a' + 0 = s * a'
    grind
  · rw [pz_mul] at h4
    refine h4.trans ?_
    letI := PRr F
    show s' * a' + 0 = s' * a'
    grind
theorem gc2_u {F : Type} [Lean.Grind.CommRing F] (hF : fd F) {a b c : PR F} {u : F} (h : gc2 a b c) (hu : u ≠ 0) : gc2 a b (pr_mul (pr_c u) c) := by
  obtain ⟨v, hv⟩ := hF.2 u hu
  have hd : dv (pr_mul (pr_c u) c) c := ⟨pr_c v, by
    rw [← pr_mul_assoc, ← pc_mul]
    have : v * u = 1 := by rw [← hv]; grind
    rw [this, pr_one]⟩
  obtain ⟨h1, h2, s, t, h3⟩ := h
  refine ⟨dv_tr hd h1, dv_tr hd h2, pr_mul (pr_c u) s, pr_mul (pr_c u) t, ?_⟩
  letI := PRr F
  have h3 : c = s * a + t * b := h3
  generalize pr_c u = U
  show U * c = U * s * a + U * t * b
  grind
theorem sp_meets {p : Nat} [NeZero p] {S : St} {k1 k2 : Nat} {a b : PR (Fin p)} {post : St → Prop} (hp : pr p) (h5 : S 0 5 = nI p) (o1 : mok k1) (o2 : mok k2) (h12 : k1 ≠ k2) (hm1 : 2304 ≤ mlen k1) (hm2 : 2304 ≤ mlen k2) (ha : rwm S k1 0 a.1) (hb : rwm S k2 0 b.1) (hxa : xl a 2304) (hxb : xl b 2304) (hpost : ∀ S' c, frb (fun k => k = k1 ∨ k = k2) S S' → rwm S' k1 0 c.1 → xl c 2304 → gc2 a b c → mon c → post S') : wp_meets k1 k2 S post := by
  have h97 := hp.2.1
  have hk1 : k1 ≠ 0 := by have := o1.1; omega
  have hk2 : k2 ≠ 0 := by have := o2.1; omega
  unfold wp_meets
  rw [li_0]
  refine sp_heightOf h97 ha hxa (by omega) (by omega) (fun na hna hha => sp_heightOf h97 hb hxb (by omega) (by omega) (fun nb hnb hhb => ?_))
  unfold wp_meets_l20
  refine wl_n (fun n v => ∃ (j1 j2 n1 : Nat) (a' b' : PR (Fin p)), v.1 = j1 ∧ v.2.1 = j2 ∧ ((j1 = k1 ∧ j2 = k2) ∨ (j1 = k2 ∧ j2 = k1)) ∧ v.2.2.1 = hI n1 ∧ v.2.2.2.1 = hI n ∧ n1 ≤ 2304 ∧ n ≤ 2304 ∧ xl a' n1 ∧ hgt b' n ∧ frb (fun k => k = k1 ∨ k = k2) S v.2.2.2.2 ∧ rwm v.2.2.2.2 j1 0 a'.1 ∧ rwm v.2.2.2.2 j2 0 b'.1 ∧ eqp a b a' b') nb ⟨k1, k2, na, a, b, rfl, rfl, Or.inl ⟨rfl, rfl⟩, rfl, rfl, hna, hnb, hha.1, hhb, frb_rfl _ _, ha, hb, eqp_rfl a b⟩ ?_
  rintro n ⟨x3, x4, x5, x6, S1⟩ ⟨j1, j2, n1, a', b', e1, e2, hj, e3, e4, hn1, hn, hxa', hhb', f1, ha', hb', heq⟩ R hR
  dsimp only at e1 e2 e3 e4 f1 ha' hb'
  subst e1 e2 e3 e4
  have g5 : S1 0 5 = nI p := by rw [f1 0 (by omega)]; exact h5
  have hx0 : x3 ≠ 0 ∧ x4 ≠ 0 ∧ x3 ≠ x4 := by omega
  have mm : 2304 ≤ mlen x3 ∧ 2304 ≤ mlen x4 ∧ mok x3 ∧ mok x4 := by
    rcases hj with ⟨q1, q2⟩ | ⟨q1, q2⟩
    · rw [q1, q2]; exact ⟨hm1, hm2, o1, o2⟩
    · rw [q1, q2]; exact ⟨hm2, hm1, o2, o1⟩
  unfold wp_meets_b20
  dsimp only
  rw [hI_eq0 (by omega)]
  refine ⟨fun c => ?_, fun c => ?_⟩
  · subst c
    have hz := hgt_0 hhb'
    subst hz
    have hg := eqp_end heq
    have fin : ∀ S2, frb (fun k => k = k1 ∨ k = k2) S S2 → rwm S2 k1 0 a'.1 → wp_meets_j90 k1 k2 post S2 := fun S2 f2 w2 => by
      have g52 : S2 0 5 = nI p := by rw [f2 0 (by omega)]; exact h5
      unfold wp_meets_j90
      refine sp_monics hp g52 hk1 hm1 w2 (xl_mono hxa' hn1) (fun S3 c u f3 w3 hu hc hmn => hpost S3 c (frb_tr f2 (frb_mono f3 fun k hk => Or.inl hk)) w3 ?_ ?_ hmn)
      · rw [hc]; exact xl_cm (xl_mono hxa' hn1)
      · rw [hc]; exact gc2_u (fdp hp) hg hu
    unfold wp_meets_l63
    refine wl_up 2304 (fun i v => v.1 = nI i ∧ frb (fun k => k = k1 ∨ k = k2) S v.2 ∧ rwm v.2 x3 0 a'.1 ∧ ∀ y, y < i → v.2 k1 y = nI (a'.1 y).val) 0 (by omega) ⟨rfl, f1, ha', fun y hy => absurd hy (by omega)⟩ ?_
    rintro i ⟨x7, S2⟩ hi ⟨hx7, f2, w2, c2⟩ R2 hR2
    dsimp only at hx7 f2 w2 c2
    subst hx7
    unfold wp_meets_b63
    dsimp only
    rw [li_2304, nI_leI (by omega) (by omega)]
    refine ⟨fun q => fin S2 f2 (by rw [← q]; exact w2), fun q => ⟨fun q2 => fin S2 f2 fun y hy => by rw [Nat.zero_add]; exact c2 y (by omega), fun q2 => ⟨mm.2.2.1, i, by have := mm.1; omega, rfl, i, by omega, rfl, fun S3 e3 x7 e7 => ?_⟩⟩⟩
    rw [rwm_at w2 (by omega)] at e3
    subst e7
    refine hR2 (by omega) _ ⟨by rw [li_1, nI_add], ?_, ?_, fun y hy => ?_⟩
    · dsimp only
      rw [e3]
      exact frb_tr f2 (frb_bw (Or.inl rfl))
    · dsimp only
      rw [e3]
      exact rwm_keep w2 (frb_bw (P := fun k => k = k1) rfl) q
    · dsimp only
      rw [e3, bw_at]
      by_cases w : y = i
      · rw [if_pos ⟨rfl, w⟩, w]
      · rw [if_neg (fun z => w z.2)]; exact c2 y (by omega)
  · obtain ⟨d, rfl⟩ : ∃ d, n = d + 1 := ⟨n - 1, by omega⟩
    rw [hI_s]
    refine ⟨mm.2.2.1, mm.2.2.2, sp_leaves hp g5 hx0.1 hx0.2.1 hx0.2.2 mm.1 mm.2.1 ha' hb' hxa' hn1 (hgt_xd hhb') (by omega) (fun S2 r q m f2 w2 e2 hm hh => ?_)⟩
    refine hR m _ (by omega) ⟨x4, x3, d + 1, b', r, rfl, rfl, ?_, ?_, rfl, hn, by omega, hhb'.1, hh, frb_tr f1 (frb_mono f2 fun k hk => ?_), rwm_keep hb' f2 (fun w => hx0.2.2 w.symm), w2, eqp_step heq e2⟩
    · rcases hj with ⟨q1, q2⟩ | ⟨q1, q2⟩
      · exact Or.inr ⟨q2, q1⟩
      · exact Or.inl ⟨q2, q1⟩
    · dsimp only
      rw [hI_s]
    · rcases hj with ⟨q1, q2⟩ | ⟨q1, q2⟩
      · exact Or.inl (hk.trans q1)
      · exact Or.inr (hk.trans q1)
theorem mon_1 {F : Type} [Lean.Grind.CommRing F] {c : PR F} (h : mon c) (hh : hgt c 1) : c = pr_c 1 := by
  have hd := hgt_xd hh
  rcases h with h | ⟨d, h1, h2⟩
  · rw [h] at hd; exact absurd (pz_i 0) hd.1
  · have := xd_uni hd h1
    subst this
    rw [xl1_c hd.2, h2]
theorem sg_upd {F : Type} [Lean.Grind.CommRing F] (s : Nat → PR F) (G : Nat → PR F) (u v : PR F) (x : Nat) (hx : x < 16) : @sg _ (PRr F) (fun j => pr_mul (if j = x then pr_add (pr_mul u (s j)) v else pr_mul u (s j)) (G j)) 16 = pr_add (pr_mul u (@sg _ (PRr F) (fun j => pr_mul (s j) (G j)) 16)) (pr_mul v (G x)) := by
  letI := PRr F
  have e1 : u * (@sg _ (PRr F) (fun j => pr_mul (s j) (G j)) 16) = @sg _ (PRr F) (fun j => u * (s j * G j)) 16 := (@sg_L _ (PRr F) u _ 16).symm
  have e2 : v * G x = @sg _ (PRr F) (fun j => if j = x then v * G j else 0) 16 := by
    rw [@sg_1 _ (PRr F) _ _ x hx (fun i _ hi => if_neg hi)]
    exact (if_pos rfl).symm
  show _ = u * (@sg _ (PRr F) (fun j => pr_mul (s j) (G j)) 16) + v * G x
  rw [e1, e2, ← sg_add]
  refine sg_ext fun j _ => ?_
  by_cases w : j = x
  · rw [if_pos w, if_pos w]
    show (u * s j + v) * G j = u * (s j * G j) + v * G j
    grind
  · rw [if_neg w, if_neg w]
    show u * s j * G j = u * (s j * G j) + 0
    grind
theorem sp_contentOf {p : Nat} [NeZero p] {S : St} {k1 k2 : Nat} {G : R2 (Fin p)} {post : St → Prop} (hp : pr p) (h5 : S 0 5 = nI p) (o2 : mok k2) (h12 : k1 ≠ k2) (hk1 : k1 ≠ 22) (hk2 : k2 ≠ 22) (hm1 : 36864 ≤ mlen k1) (hm2 : 2304 ≤ mlen k2) (hG : rgm S k1 G) (hpost : ∀ S' c, frb (fun k => k = k2 ∨ k = 22) S S' → rwm S' k2 0 c.1 → xl c 2304 → gcr G c → post S') : wp_contentOf k1 k2 S post := by
  have h97 := hp.2.1
  have hk0 : k2 ≠ 0 := by have := o2.1; omega
  unfold wp_contentOf wp_contentOf_l2
  refine wl_up 2304 (fun i v => v.1 = nI i ∧ frb (fun k => k = k2 ∨ k = 22) S v.2 ∧ ∀ y, y < i → v.2 k2 y = 0) 0 (by omega) ⟨rfl, frb_rfl _ _, fun y hy => absurd hy (by omega)⟩ ?_
  rintro i ⟨x3, S1⟩ hi ⟨hx3, f1, w1⟩ R hR
  dsimp only at hx3 f1 w1
  subst hx3
  unfold wp_contentOf_b2
  dsimp only
  rw [li_2304, nI_leI (by omega) (by omega)]
  refine ⟨fun c => ?_, fun c => ⟨i, by omega, rfl, fun S2 e2 x3 e3 => ?_⟩⟩
  · have w0 : rwm S1 k2 0 (pz : PR (Fin p)).1 := fun y hy => by rw [Nat.zero_add, w1 y (by omega), pz_i]; exact li_0
    unfold wp_contentOf_l21
    refine wl_up 16 (fun x v => v.1 = nI x ∧ frb (fun k => k = k2 ∨ k = 22) S v.2 ∧ ∃ c, rwm v.2 k2 0 c.1 ∧ xl c 2304 ∧ mon c ∧ (∀ j, j < x → dv c (G.1 j)) ∧ ∃ s, @sg _ (PRr (Fin p)) (fun j => pr_mul (s j) (G.1 j)) 16 = c) 0 (by omega) ⟨rfl, f1, pz, w0, xl_pz _, Or.inl rfl, fun j hj => absurd hj (by omega), fun _ => pz, @sg_0 _ (PRr (Fin p)) _ _ fun j _ => pr_zero _⟩ ?_
    rintro x ⟨x3, S2⟩ hx ⟨hx3, f2, c, w2, hxc, hmn, hdv, s, hs⟩ R2 hR2
    dsimp only at hx3 f2 w2
    subst hx3
    have g5 : S2 0 5 = nI p := by rw [f2 0 (by omega)]; exact h5
    unfold wp_contentOf_b21
    dsimp only
    rw [li_16, nI_leI (by omega) (by omega)]
    refine ⟨fun c2 => hpost S2 c f2 w2 hxc ⟨fun j => ?_, ⟨s, hs⟩, hmn⟩, fun c2 => ?_⟩
    · by_cases w : j < 16
      · exact hdv j (by omega)
      · have : G.1 j = pz := hG.2.2 j (by omega)
        rw [this]; exact dv_pz c
    · rw [show (0 : Int32) = nI 0 from li_0]
      refine sp_heightOf h97 w2 hxc (by omega) (by omega) (fun n hn hh => ?_)
      rw [hI_eqn (by omega) (by omega)]
      refine ⟨fun c3 => ?_, fun c3 => ?_⟩
      · rw [li_2304, pk_mul]
        refine sp_copies (rwm_keep (hG.1 x (by omega)) f2 (by omega)) (by omega) (by omega) (show 2304 ≤ mlen 22 from Nat.le_refl _) hk1 (fun S3 f3 w3 => ?_)
        have f13 : frb (fun k => k = k2 ∨ k = 22) S S3 := frb_tr f2 (frb_mono f3 fun k hk => Or.inr hk)
        have g53 : S3 0 5 = nI p := by rw [f13 0 (by omega)]; exact h5
        refine sp_meets hp g53 o2 (show mok 22 from ⟨by omega, by omega, by omega⟩) hk2 hm2 (show 2304 ≤ mlen 22 from Nat.le_refl _) (rwm_keep w2 f3 hk2) w3 hxc (hG.2.1 x) (fun S4 c' f4 w4 hxc' hg hmn' x3 e3 => ?_)
        subst e3
        obtain ⟨d1, d2, u, v, hc'⟩ := hg
        refine hR2 (by omega) _ ⟨by rw [li_1, nI_add], frb_tr f13 f4, c', w4, hxc', hmn', fun j hj => ?_, _, (sg_upd s (fun j => G.1 j) u v x (by omega)).trans ?_⟩
        · by_cases w : j = x
          · rw [w]; exact d2
          · exact dv_tr d1 (hdv j (by omega))
        · rw [hs, hc']
      · subst c3
        have e1 := mon_1 hmn hh
        refine hpost S2 c f2 w2 hxc ⟨fun j => ⟨G.1 j, ?_⟩, ⟨s, hs⟩, hmn⟩
        rw [e1, pr_mul_comm, pr_one]
  · subst e3
    refine hR (by omega) _ ⟨by rw [li_1, nI_add], ?_, fun y hy => ?_⟩
    · dsimp only
      rw [e2]
      exact frb_tr f1 (frb_bw (Or.inl rfl))
    · dsimp only
      rw [e2, bw_at]
      by_cases w : y = i
      · rw [if_pos ⟨rfl, w⟩]
      · rw [if_neg (fun z => w z.2)]; exact w1 y (by omega)
