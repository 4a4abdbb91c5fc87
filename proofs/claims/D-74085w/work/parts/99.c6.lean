set_option maxRecDepth 100000
/-! the Model: the first of some rows is taken off -/
/-- one row of what a step leaves -/
def ofr {F : Type} [Lean.Grind.CommRing F] (one two : R2 F) (d e x : Nat) : PR F := pr_add (pr_mul (two.1 e) (one.1 x)) (pr_neg (pr_mul (one.1 d) (if d - e ≤ x then two.1 (x - (d - e)) else pz)))
noncomputable def off {F : Type} [Lean.Grind.CommRing F] (one two : R2 F) (d e : Nat) : R2 F := a2 (m2 (c2 (two.1 e)) one) (n2 (m2 (m2 (c2 (one.1 d)) (x2 (d - e))) two))
theorem off_at {F : Type} [Lean.Grind.CommRing F] (one two : R2 F) (d e x : Nat) : (off one two d e).1 x = ofr one two d e x := by
  show pr_add ((m2 (c2 (two.1 e)) one).1 x) (pr_neg ((m2 (m2 (c2 (one.1 d)) (x2 (d - e))) two).1 x)) = _
  have e1 : m2 (m2 (c2 (one.1 d)) (x2 (d - e))) two = m2 (c2 (one.1 d)) (m2 (x2 (d - e)) two) := @pr_mul_assoc _ (PRr F) _ _ _
  rw [e1, c2_at, c2_at]
  have e2 : (m2 (x2 (d - e)) two).1 x = if d - e ≤ x then two.1 (x - (d - e)) else pz := @px_mul _ (PRr F) (d - e) two x
  rw [e2]
  rfl
theorem off_stp {F : Type} [Lean.Grind.CommRing F] (hF : fd F) {one two one' : R2 F} {d e : Nat} (h : prm (off one two d e) one') : stp one two one' d e := by
  by_cases hz : off one two d e = z2
  · refine ⟨pr_c 1, pr_c_ne hF.1, ?_⟩
    rw [hz] at h
    rw [prm_z h]
    show m2 (c2 (pr_c 1)) z2 = off one two d e
    rw [hz]
    exact @pr_one _ (PRr F) _
  · obtain ⟨_, c, h1, _, h3⟩ := prm_ne hF h hz
    exact ⟨c, h1, h3⟩
theorem off_low {F : Type} [Lean.Grind.CommRing F] {one two : R2 F} {d e : Nat} (h1 : xd2 one d) (h2 : xd2 two e) (hle : e ≤ d) : xl2 (off one two d e) d := fun i hi => by
  rw [off_at]
  unfold ofr
  rw [if_pos (by omega)]
  letI := PRr F
  by_cases w : i = d
  · rw [w, show d - (d - e) = e by omega]
    show two.1 e * one.1 d + - (one.1 d * two.1 e) = 0
    grind
  · have z1 : one.1 i = 0 := h1.2 i (by omega)
    have z2 : two.1 (i - (d - e)) = 0 := h2.2 (i - (d - e)) (by omega)
    rw [z1, z2]
    show two.1 e * 0 + - (one.1 d * 0) = 0
    grind
theorem n_xde {x d e : Nat} (h : d ≤ x + e) : nI x - nI d + nI e = nI (x + e - d) := by
  rw [z_nI x, z_nI d, z_nI e, z_sub, z_add, z_nI]
  congr 1
  omega
theorem sp_takesOff {p : Nat} [NeZero p] {S : St} {k1 k2 ya yb d e : Nat} {one two : R2 (Fin p)} {post : St → Prop} (hp : pr p) (h5 : S 0 5 = nI p) (hk : (k1 = 18 ∧ k2 = 19) ∨ (k1 = 19 ∧ k2 = 18)) (h1 : rgm S k1 one) (h2 : rgm S k2 two) (hd : xd2 one d) (he : xd2 two e) (hle : e ≤ d) (hya : yl one ya) (hyb : yl two yb) (hab : ya + yb ≤ 2130) (hpost : ∀ S' one', frb (fun k => k = k1 ∨ (20 ≤ k ∧ k ≤ 23)) S S' → rgm S' k1 one' → prm (off one two d e) one' → post S') : wp_takesOff k1 k2 S post := by
  have h97 := hp.2.1
  have hm : 36864 ≤ mlen k1 ∧ 36864 ≤ mlen k2 := by
    rcases hk with ⟨q1, q2⟩ | ⟨q1, q2⟩
    · rw [q1, q2]; exact ⟨Nat.le_refl _, Nat.le_refl _⟩
    · rw [q1, q2]; exact ⟨Nat.le_refl _, Nat.le_refl _⟩
  have hd16 : d < 16 := Classical.byContradiction fun w => hd.1 (h1.2.2 d (by omega))
  have he16 : e < 16 := Classical.byContradiction fun w => he.1 (h2.2.2 e (by omega))
  unfold wp_takesOff
  refine sp_degreeX h97 h1 hm.1 (fun n hn hh => ?_)
  have en := @hgt_uni _ (PRr (Fin p)) _ _ _ hh (@xd_hgt _ (PRr (Fin p)) _ _ hd)
  subst en
  refine sp_degreeX h97 h2 hm.2 (fun n hn2 hh2 => ?_)
  have en := @hgt_uni _ (PRr (Fin p)) _ _ _ hh2 (@xd_hgt _ (PRr (Fin p)) _ _ he)
  subst en
  rw [hI_s, hI_s, li_2304, pk_mul, pk_mul]
  refine sp_copies (h2.1 e he16) (by omega) (by omega) (show 2304 ≤ mlen 21 from Nat.le_refl _) (by omega) (fun S1 f1 w1 => ?_)
  have h11 := rgm_keep h1 f1 (by omega)
  refine sp_copies (h11.1 d hd16) (by omega) (by omega) (show 2304 ≤ mlen 22 from Nat.le_refl _) (by omega) (fun S2 f2 w2 => ?_)
  have F2 : frb (fun k => k = k1 ∨ (20 ≤ k ∧ k ≤ 23)) S S2 := frb_tr (frb_mono f1 fun k hk => by omega) (frb_mono f2 fun k hk => by omega)
  have w12 := rwm_keep w1 f2 (by omega)
  have h12 := rgm_keep h11 f2 (by omega)
  have h22 := rgm_keep (rgm_keep h2 f1 (by omega)) f2 (by omega)
  rw [show (0 : Int32) = nI 0 from li_0]
  refine sp_heightOf h97 w12 (h2.2.1 e) (show 0 + 2304 ≤ mlen 21 from Nat.le_refl _) (by omega) (fun na hna hha => sp_heightOf h97 w2 (h1.2.1 d) (show 0 + 2304 ≤ mlen 22 from Nat.le_refl _) (by omega) (fun nb hnb hhb => ?_))
  have la : na ≤ yb + 1 := hgt_le hha (hyb e)
  have lb : nb ≤ ya + 1 := hgt_le hhb (hya d)
  unfold wp_takesOff_l61
  refine wl_up (d + 1) (fun x v => v.1 = nI x ∧ frb (fun k => k = k1 ∨ k = 23) S2 v.2 ∧ (∀ j, j < x → rwm v.2 k1 (2304 * j) (ofr one two d e j).1) ∧ ∀ j, x ≤ j → j < 16 → rwm v.2 k1 (2304 * j) (one.1 j).1) 0 (by omega) ⟨rfl, frb_rfl _ _, fun j hj => absurd hj (by omega), fun j _ hj => h12.1 j hj⟩ ?_
  rintro x ⟨x7, S3⟩ hx ⟨hx7, f3, hlo, hhi⟩ R hR
  dsimp only at hx7 f3 hlo hhi
  subst hx7
  unfold wp_takesOff_b61
  dsimp only
  rw [nI_ltI (by omega) (by omega)]
  refine ⟨fun c => ?_, fun c => ?_⟩
  · -- all rows are done
    have hrg : rgm S3 k1 (off one two d e) := by
      refine ⟨fun j hj => ?_, fun j => ?_, fun j hj => ?_⟩
      · rw [off_at]
        by_cases w : j < x
        · exact hlo j w
        · have z : ofr one two d e j = pz := by rw [← off_at]; exact off_low hd he hle j (by omega)
          have z1 : one.1 j = pz := hd.2 j (by omega)
          rw [z]
          have := hhi j (by omega) hj
          rw [z1] at this
          exact this
      · rw [off_at]
        unfold ofr
        refine xl_add (xl_mono (xl_mul (hyb e) (hya j)) (by omega)) (xl_neg (xl_mono (xl_mul (n := ya + 1) (m := yb) (hya d) ?_) (by omega)))
        by_cases w : d - e ≤ j
        · rw [if_pos w]; exact hyb _
        · rw [if_neg w]; exact xl_pz _
      · exact off_low hd he hle j (by omega)
    have g5 : S3 0 5 = nI p := by rw [f3 0 (by omega), F2 0 (by omega)]; exact h5
    refine sp_primitives hp g5 (by omega) hrg (fun S4 G' f4 w4 hpm => hpost S4 G' (frb_tr F2 (frb_tr (frb_mono f3 fun k hk => by omega) f4)) w4 hpm)
  · unfold wp_takesOff_l70
    refine wl_up 2304 (fun i v => v.1 = nI i ∧ frb (fun k => k = 23) S3 v.2 ∧ ∀ y, y < i → v.2 23 y = 0) 0 (by omega) ⟨rfl, frb_rfl _ _, fun y hy => absurd hy (by omega)⟩ ?_
    rintro i ⟨x8, S4⟩ hi ⟨hx8, f4, z4⟩ R2 hR2
    dsimp only at hx8 f4 z4
    subst hx8
    unfold wp_takesOff_b70
    dsimp only
    rw [li_2304, nI_leI (by omega) (by omega)]
    refine ⟨fun c2 x8 e8 => ?_, fun c2 => ⟨i, by omega, rfl, fun S5 e5 x8 e8 => ?_⟩⟩
    · rw [pk_mul] at e8
      subst e8
      have hx16 : x < 16 := by omega
      have r4 : rwm S4 k1 (2304 * x) (one.1 x).1 := rwm_keep (hhi x (Nat.le_refl _) hx16) f4 (by omega)
      refine sp_heightOf h97 r4 (h1.2.1 x) (by omega) (by omega) (fun no hno hho => ?_)
      have lo : no ≤ ya + 1 := hgt_le hho (hya x)
      have F4 : frb (fun k => k = k1 ∨ k = 23) S2 S4 := frb_tr f3 (frb_mono f4 fun k hk => Or.inr hk)
      have A4 : ∀ {S' : St}, frb (fun k => k = 23) S4 S' → rwm S' 21 0 (two.1 e).1 ∧ rwm S' 22 0 (one.1 d).1 ∧ rwm S' k1 (2304 * x) (one.1 x).1 ∧ rgm S' k2 two ∧ S' 0 5 = nI p := fun {S'} f => ⟨rwm_keep (rwm_keep w12 F4 (by omega)) f (by omega), rwm_keep (rwm_keep w2 F4 (by omega)) f (by omega), rwm_keep r4 f (by omega), rgm_keep (rgm_keep h22 F4 (by omega)) f (by omega), by rw [f 0 (by omega), F4 0 (by omega), F2 0 (by omega)]; exact h5⟩
      -- the second product, then the row goes back
      have second : ∀ S5, frb (fun k => k = 23) S4 S5 → rwm S5 23 0 (pr_mul (two.1 e) (one.1 x)).1 → ∀ (O : PR (Fin p)) (n : Nat), O = (if d - e ≤ x then two.1 (x - (d - e)) else pz) → hgt O n → n ≤ yb + 1 → wp_takesOff_j211 k1 k2 post (fun x7 S => R (x7, S)) (nI d) (nI e) (hI na) (hI nb) (nI x) (nI (2304 * x)) (hI n) S5 := by
        intro S5 f5 w5 O n eO hhO hn'
        unfold wp_takesOff_j211 wp_takesOff_l214
        refine wl_up nb (fun I v => v.1 = nI I ∧ frb (fun k => k = 23) S4 v.2 ∧ rwm v.2 23 0 (fun j => (pr_mul (two.1 e) (one.1 x)).1 j - pac (one.1 d).1 O.1 I j)) 0 (by omega) ⟨rfl, f5, rwm_cg w5 fun y _ => by rw [pac_0]; grind⟩ ?_
        rintro I ⟨x11, S6⟩ hI' ⟨hx11, f6, w6⟩ R3 hR3
        dsimp only at hx11 f6 w6
        subst hx11
        unfold wp_takesOff_b214
        dsimp only
        rw [hI_ltn (by omega) (by omega)]
        refine ⟨fun c3 => ?_, fun c3 => ?_⟩
        · have eI : I = nb := by omega
          subst eI
          have wv : rwm S6 23 0 (ofr one two d e x).1 := rwm_cg w6 fun y _ => by
            rw [pac_mul hhb.1]
            unfold ofr
            rw [← eO]
            show _ = (pr_mul (two.1 e) (one.1 x)).1 y + - (pr_mul (one.1 d) O).1 y
            grind
          unfold wp_takesOff_l301
          refine wl_up 2304 (fun i v => v.1 = nI i ∧ frb (fun k => k = k1) S6 v.2 ∧ (∀ y, y < i → v.2 k1 (2304 * x + y) = nI ((ofr one two d e x).1 y).val) ∧ ∀ y, (y < 2304 * x ∨ 2304 * x + 2304 ≤ y) → v.2 k1 y = S6 k1 y) 0 (by omega) ⟨rfl, frb_rfl _ _, fun y hy => absurd hy (by omega), fun y _ => rfl⟩ ?_
          rintro i' ⟨x11, S7⟩ hi' ⟨hx11, f7, c7, o7⟩ R4 hR4
          dsimp only at hx11 f7 c7 o7
          subst hx11
          unfold wp_takesOff_b301
          dsimp only
          rw [li_2304, nI_leI (by omega) (by omega)]
          refine ⟨fun c4 x7 e7 => ?_, fun c4 => ?_⟩
          · subst e7
            have k7 : ∀ j, j < 16 → j ≠ x → ∀ h : Nat → Fin p, rwm S3 k1 (2304 * j) h → rwm S7 k1 (2304 * j) h := fun j hj hne h hr y hy => by
              rw [o7 _ (by omega), f6 k1 (by omega), f4 k1 (by omega)]
              exact hr y hy
            refine hR (by omega) _ ⟨by rw [li_1, nI_add], frb_tr F4 (frb_tr (frb_mono f6 fun k hk => Or.inr hk) (frb_mono f7 fun k hk => Or.inl hk)), fun j hj => ?_, fun j hj hj' => k7 j hj' (by omega) _ (hhi j (by omega) hj')⟩
            by_cases w : j = x
            · rw [w]
              exact fun y hy => c7 y (by omega)
            · exact k7 j (by omega) w _ (hlo j (by omega))
          · rw [nI_add]
            refine ⟨i', by omega, rfl, 2304 * x + i', by omega, rfl, fun S8 e8 x11 e11 => ?_⟩
            rw [rwm_at (rwm_keep wv f7 (by omega)) (by omega)] at e8
            subst e11
            refine hR4 (by omega) _ ⟨by rw [li_1, nI_add], ?_, fun y hy => ?_, fun y hy => ?_⟩
            · dsimp only
              rw [e8]
              exact frb_tr f7 (frb_bw rfl)
            · dsimp only
              rw [e8, bw_at]
              by_cases w : y = i'
              · rw [if_pos ⟨rfl, by omega⟩, w]
              · rw [if_neg (fun z => by have := z.2; omega)]; exact c7 y (by omega)
            · dsimp only
              rw [e8, bw_at, if_neg (fun z => by have := z.2; omega)]
              exact o7 y hy
        · unfold wp_takesOff_l224
          refine wl_up n (fun k v => v.1 = nI k ∧ frb (fun k => k = 23) S4 v.2 ∧ rwm v.2 23 0 (fun j => (pr_mul (two.1 e) (one.1 x)).1 j - (pac (one.1 d).1 O.1 I j + pap (one.1 d).1 O.1 I k j))) 0 (by omega) ⟨rfl, f6, rwm_cg w6 fun y _ => by rw [pap_0]; grind⟩ ?_
          rintro k ⟨x12, S7⟩ hk' ⟨hx12, f7, w7⟩ R4 hR4
          dsimp only at hx12 f7 w7
          subst hx12
          obtain ⟨_, b7, _, t7, g7⟩ := A4 f7
          unfold wp_takesOff_b224
          dsimp only
          rw [hI_ltn (by omega) (by omega)]
          refine ⟨fun c4 x11 e11 => ?_, fun c4 => ?_⟩
          · have ek : k = n := by omega
            subst ek
            subst e11
            exact hR3 (by omega) _ ⟨by rw [li_1, nI_add], f7, rwm_cg w7 fun y _ => by rw [pac_s hhO.1]⟩
          · have hdx : d - e ≤ x := Classical.byContradiction fun w => by
              rw [if_neg w] at eO
              rw [eO] at hhO
              have := hgt_pz hhO
              omega
            rw [if_pos hdx] at eO
            rw [n_xde (by omega), li_2304, pk_mul, nI_add, nI_add, show x + e - d = x - (d - e) by omega]
            refine ⟨I + k, by omega, rfl, I, by omega, rfl, 2304 * (x - (d - e)) + k, by omega, rfl, by rw [g7]; exact n_ne0 hp, I + k, by omega, rfl, fun S8 e8 x12 e12 => ?_⟩
            have o7 : S7 k2 (2304 * (x - (d - e)) + k) = nI (O.1 k).val := by rw [eO]; exact t7.1 _ (by omega) k (by omega)
            rw [g7, rwm_at w7 (show I + k < 2304 by omega), rwm_at b7 (show I < 2304 by omega), o7, (pap_at _ _ _ _).1, nF_ms h97] at e8
            subst e12
            refine hR4 (by omega) _ ⟨by rw [li_1, nI_add], ?_, fun y hy => ?_⟩
            · dsimp only
              rw [e8]
              exact frb_tr f7 (frb_bw rfl)
            · dsimp only
              rw [e8, bw_at, Nat.zero_add]
              by_cases w : y = I + k
              · rw [if_pos ⟨rfl, w⟩, w, (pap_at _ _ _ _).2]
                congr 2
                grind
              · rw [if_neg (fun z => w z.2), rwm_at w7 hy, pap_ne w]
      -- the first product
      unfold wp_takesOff_l111
      refine wl_up na (fun I v => v.1 = nI I ∧ frb (fun k => k = 23) S4 v.2 ∧ rwm v.2 23 0 (fun j => pac (two.1 e).1 (one.1 x).1 I j)) 0 (by omega) ⟨rfl, frb_rfl _ _, fun y hy => by dsimp only; rw [Nat.zero_add, z4 y (by omega), pac_0]; exact li_0⟩ ?_
      rintro I ⟨x10, S5⟩ hI' ⟨hx10, f5, w5⟩ R3 hR3
      dsimp only at hx10 f5 w5
      subst hx10
      unfold wp_takesOff_b111
      dsimp only
      rw [hI_ltn (by omega) (by omega)]
      refine ⟨fun c3 => ?_, fun c3 => ?_⟩
      · have eI : I = na := by omega
        subst eI
        have w5' : rwm S5 23 0 (pr_mul (two.1 e) (one.1 x)).1 := rwm_cg w5 fun y _ => pac_mul hha.1 y
        obtain ⟨_, _, _, t5, _⟩ := A4 f5
        rw [pk_sub (by omega), nI_leI (by omega) (by omega)]
        refine ⟨fun c4 => ?_, fun c4 => ?_⟩
        · rw [n_xde (by omega), li_2304, pk_mul, show x + e - d = x - (d - e) by omega]
          refine sp_heightOf h97 (t5.1 (x - (d - e)) (by omega)) (t5.2.1 _) (by omega) (by omega) (fun n hn' hh' => ?_)
          exact second S5 f5 w5' _ n (if_pos c4).symm hh' (hgt_le hh' (hyb _))
        · rw [← hI_0]
          exact second S5 f5 w5' pz 0 (if_neg c4).symm ⟨xl_pz 0, Or.inl rfl⟩ (by omega)
      · unfold wp_takesOff_l121
        refine wl_up no (fun k v => v.1 = nI k ∧ frb (fun k => k = 23) S4 v.2 ∧ rwm v.2 23 0 (fun j => pac (two.1 e).1 (one.1 x).1 I j + pap (two.1 e).1 (one.1 x).1 I k j)) 0 (by omega) ⟨rfl, f5, rwm_cg w5 fun y _ => by rw [pap_0]; grind⟩ ?_
        rintro k ⟨x11, S6⟩ hk' ⟨hx11, f6, w6⟩ R4 hR4
        dsimp only at hx11 f6 w6
        subst hx11
        obtain ⟨a6, _, o6, _, g6⟩ := A4 f6
        unfold wp_takesOff_b121
        dsimp only
        rw [hI_ltn (by omega) (by omega)]
        refine ⟨fun c4 x10 e10 => ?_, fun c4 => ?_⟩
        · have ek : k = no := by omega
          subst ek
          subst e10
          exact hR3 (by omega) _ ⟨by rw [li_1, nI_add], f6, rwm_cg w6 fun y _ => by rw [pac_s hho.1]⟩
        · rw [nI_add, nI_add]
          refine ⟨I + k, by omega, rfl, I, by omega, rfl, 2304 * x + k, by omega, rfl, by rw [g6]; exact n_ne0 hp, I + k, by omega, rfl, fun S7 e7 x11 e11 => ?_⟩
          rw [g6, rwm_at w6 (show I + k < 2304 by omega), rwm_at a6 (show I < 2304 by omega), o6 k (by omega), (pap_at _ _ _ _).1, nF_ma h97] at e7
          subst e11
          refine hR4 (by omega) _ ⟨by rw [li_1, nI_add], ?_, fun y hy => ?_⟩
          · dsimp only
            rw [e7]
            exact frb_tr f6 (frb_bw rfl)
          · dsimp only
            rw [e7, bw_at, Nat.zero_add]
            by_cases w : y = I + k
            · rw [if_pos ⟨rfl, w⟩, w, (pap_at _ _ _ _).2]
              congr 2
              grind
            · rw [if_neg (fun z => w z.2), rwm_at w6 hy, pap_ne w]
    · subst e8
      refine hR2 (by omega) _ ⟨by rw [li_1, nI_add], ?_, fun y hy => ?_⟩
      · dsimp only
        rw [e5]
        exact frb_tr f4 (frb_bw rfl)
      · dsimp only
        rw [e5, bw_at]
        by_cases w : y = i
        · rw [if_pos ⟨rfl, w⟩]
        · rw [if_neg (fun z => w z.2)]; exact z4 y (by omega)
