set_option maxRecDepth 100000
/-! the Model: what two rows of rows have in common -/
/-- where the two may stand -/
def mst {F : Type} [Lean.Grind.CommRing F] (X Y : R2 F) (m0 m1 : Nat) (one two : R2 F) : Prop := (one = Y ∧ two = X ∧ m1 < m0) ∨ (∃ d1 d2, jv X Y m0 m1 one two d1 d2 ∧ cmb one X Y ∧ cmb two X Y) ∨ (two = z2 ∧ gsp X Y one) ∨ (one = z2 ∧ two ≠ z2 ∧ gsp X Y two)
theorem jv_wide' {F : Type} [Lean.Grind.CommRing F] (hF : fd F) {A B one two : R2 F} {n0 n1 d1 d2 : Nat} (hn0 : n0 ≤ 15) (hn1 : n1 ≤ 15) (h : jv A B n0 n1 one two d1 d2) (hle : d2 ≤ d1) : ∃ a b, yl one a ∧ yl two b ∧ a + b ≤ 2130 := by
  by_cases h0 : 0 < d2
  · exact jv_wide hn0 hn1 h hle h0
  · obtain ⟨h1, h2, h3, h4, h5, h6, h7, h8, h9, h10, ds, s, h11, h12, h13, h14, h15⟩ := h
    refine ⟨_, 0, h15, pm_0 (dm_fd hF) h4 (fun i hi => h2.2 i (by omega)) hF.1, ?_⟩
    have e1 := bo_30 (N := n0 + n1) (d := ds) (by omega)
    have e2 := bt_30 (N := n0 + n1) (d := ds) (by omega)
    have e3 := bb_30 ds (by omega)
    have e4 : s * bt (n0 + n1) ds ≤ ds * bt 30 ds := Nat.mul_le_mul (by omega) e2
    omega
theorem cmb_1 {F : Type} [Lean.Grind.CommRing F] (hF : fd F) (X Y : R2 F) : cmb X X Y ∧ cmb Y X Y := by
  have h1 : (pr_c 1 : PR F) ≠ pz := pr_c_ne hF.1
  refine ⟨⟨pr_c 1, c2 (pr_c 1), z2, h1, ?_⟩, ⟨pr_c 1, z2, c2 (pr_c 1), h1, ?_⟩⟩
  · letI := PRr F
    letI := PRr (PR F)
    show (1 : R2 F) * X = 1 * X + 0 * Y
    grind
  · letI := PRr F
    letI := PRr (PR F)
    show (1 : R2 F) * Y = 0 * X + 1 * Y
    grind
theorem xd2_of {F : Type} [Lean.Grind.CommRing F] {G : R2 F} (h : G ≠ z2) : ∃ d, xd2 G d := by
  obtain ⟨j, hj⟩ := @ne_pz _ (PRr F) _ h
  obtain ⟨d, _, hd⟩ := @xd_of _ (PRr F) _ _ hj
  exact ⟨d, hd⟩
/-- a step, where the first isn't below the second -/
theorem mst_off {F : Type} [Lean.Grind.CommRing F] (hF : fd F) {X Y one two one' : R2 F} {m0 m1 d1 d2 : Nat} (h : jv X Y m0 m1 one two d1 d2) (c1 : cmb one X Y) (cw : cmb two X Y) (hle : d2 ≤ d1) (hp : prm (off one two d1 d2) one') : mst X Y m0 m1 one' two ∧ xl2 one' d1 := by
  have hd := dm_fd hF
  have hs := off_stp hF hp
  have hlow := off_low h.1 h.2.1 hle
  by_cases hz : off one two d1 d2 = z2
  · rw [hz] at hp
    have e := prm_z hp
    subst e
    refine ⟨Or.inr (Or.inr (Or.inr ⟨rfl, pm_ne hF.1 h.2.2.2.1, h.2.2.2.1, ?_, ?_, cw⟩)), fun i _ => @pz_i _ (PRr F) i⟩
    · exact com_end hF h.2.2.2.1 (com_stp hd h.2.1 hs h.2.2.2.2.2.1)
    · exact com_end hF h.2.2.2.1 (com_stp hd h.2.1 hs h.2.2.2.2.2.2.1)
  · obtain ⟨hpm, c, hc, _, hc2⟩ := prm_ne hF hp hz
    have hl1 : xl2 one' d1 := (xl_c2 hd hc).1 (by rw [hc2]; exact hlow)
    have hnz : one' ≠ z2 := pm_ne hF.1 hpm
    obtain ⟨d, hd'⟩ := xd2_of hnz
    have hlt : d < d1 := Classical.byContradiction fun w => hd'.1 (hl1 d (by omega))
    exact ⟨Or.inr (Or.inl ⟨d, d2, jv_stp hd h hs hpm hd' hlt, cmb_stp hd hs c1 cw, cw⟩), hl1⟩
theorem mst_swap {F : Type} [Lean.Grind.CommRing F] (hF : fd F) {X Y one two : R2 F} {m0 m1 n1 n2 : Nat} (hX : xd2 X m0) (hY : xd2 Y m1) (pX : pm X) (pY : pm Y) (yX : yl X 15) (yY : yl Y 15) (hm : m0 ≤ 15) (hle : m1 ≤ m0) (h : mst X Y m0 m1 one two) (h1 : hgt2 one n1) (h2 : hgt2 two n2) (hlt : n1 < n2) : mst X Y m0 m1 two one := by
  rcases h with ⟨e1, e2, e3⟩ | ⟨d1, d2, hj, c1, c2'⟩ | ⟨e1, e2⟩ | ⟨e1, _, e2⟩
  · subst e1 e2
    exact Or.inr (Or.inl ⟨m0, m1, jv_0 hF.1 hX hY pX pY yX yY hm hle, cmb_1 hF two one⟩)
  · have q1 := @hgt_uni _ (PRr F) _ _ _ h1 (@xd_hgt _ (PRr F) _ _ hj.1)
    have q2 := @hgt_uni _ (PRr F) _ _ _ h2 (@xd_hgt _ (PRr F) _ _ hj.2.1)
    exact Or.inr (Or.inl ⟨d2, d1, jv_swap hF hX.2 hY.2 yX yY hj (by omega), c2', c1⟩)
  · rw [e1] at h2
    have := @hgt_pz _ (PRr F) _ h2
    omega
  · exact Or.inr (Or.inr (Or.inl ⟨e1, e2⟩))
theorem sp_meetsRows102 {p : Nat} [NeZero p] {S0 S : St} {X Y one two : R2 (Fin p)} {m0 m1 : Nat} {post : St → Prop} (hp : pr p) (h5 : S0 0 5 = nI p) (hX : xd2 X m0) (hY : xd2 Y m1) (pX : pm X) (pY : pm Y) (yX : yl X 15) (yY : yl Y 15) (hm : m0 ≤ 15) (hle : m1 ≤ m0) (hf : frb (fun k => 18 ≤ k ∧ k ≤ 23) S0 S) (h1 : rgm S 18 one) (h2 : rgm S 19 two) (hst : mst X Y m0 m1 one two) (h0 : ¬ (one = z2 ∧ two ≠ z2)) (hpost : ∀ S' G, frb (fun k => 18 ≤ k ∧ k ≤ 23) S0 S' → rgm S' 18 G → gsp X Y G → wp_heightOf 24 0 S' (fun r_40 => wp_meetsRows_l199 post r_40 0 S')) : wp_meetsRows_l102 post S := by
  have h97 := hp.2.1
  have hF := fdp hp
  obtain ⟨n0, hn0⟩ := hgt2_ex two
  unfold wp_meetsRows_l102
  refine wl_n (fun n v => ∃ one two, frb (fun k => 18 ≤ k ∧ k ≤ 23) S0 v ∧ rgm v 18 one ∧ rgm v 19 two ∧ mst X Y m0 m1 one two ∧ ¬ (one = z2 ∧ two ≠ z2) ∧ hgt2 two n) n0 ⟨one, two, hf, h1, h2, hst, h0, hn0⟩ ?_
  rintro n S1 ⟨one, two, f1, r1, r2, st, nz, hh⟩ R hR
  unfold wp_meetsRows_b102
  refine sp_degreeX h97 r2 (show 36864 ≤ mlen 19 from Nat.le_refl _) (fun n' hn' hh' => ?_)
  have e := @hgt_uni _ (PRr (Fin p)) _ _ _ hh' hh
  subst e
  rw [hI_eq0 (by omega)]
  refine ⟨fun c => ?_, fun c => ?_⟩
  · subst c
    have hz : two = z2 := @hgt_0 _ (PRr (Fin p)) _ hh
    rcases st with ⟨_, e2, _⟩ | ⟨d1, d2, hj, _⟩ | ⟨_, e2⟩ | ⟨_, e2, _⟩
    · exact absurd (e2.symm.trans hz) (pm_ne hF.1 pX)
    · exact absurd hz (pm_ne hF.1 hj.2.2.2.1)
    · exact hpost S1 one f1 r1 e2
    · exact absurd hz e2
  · obtain ⟨na, hna⟩ := hgt2_ex one
    have hz2 : two ≠ z2 := fun w => c (by rw [w] at hh; exact @hgt_pz _ (PRr (Fin p)) _ hh)
    unfold wp_meetsRows_l113
    refine wl_n (fun μ v => ∃ one, frb (fun k => 18 ≤ k ∧ k ≤ 23) S0 v ∧ rgm v 18 one ∧ rgm v 19 two ∧ mst X Y m0 m1 one two ∧ hgt2 one μ) na ⟨one, f1, r1, r2, st, hna⟩ ?_
    rintro μ S2 ⟨one, f2, q1, q2, st2, hh2⟩ R2 hR2
    have g5 : S2 0 5 = nI p := by rw [f2 0 (by omega)]; exact h5
    unfold wp_meetsRows_b113
    refine sp_degreeX h97 q1 (show 36864 ≤ mlen 18 from Nat.le_refl _) (fun n1 hn1 hh1 => ?_)
    have e := @hgt_uni _ (PRr (Fin p)) _ _ _ hh1 hh2
    subst e
    refine sp_degreeX h97 q2 (show 36864 ≤ mlen 19 from Nat.le_refl _) (fun n2 hn2 hh3 => ?_)
    have e := @hgt_uni _ (PRr (Fin p)) _ _ _ hh3 hh
    subst e
    rw [hI_lth (by omega) (by omega)]
    refine ⟨fun c2 => ?_, fun c2 => ?_⟩
    · -- they change places
      unfold wp_meetsRows_l147
      refine wl_up 36864 (fun i v => v.1 = nI i ∧ frb (fun k => 18 ≤ k ∧ k ≤ 19) S2 v.2 ∧ (∀ y, y < i → v.2 18 y = S2 19 y ∧ v.2 19 y = S2 18 y) ∧ ∀ y, i ≤ y → v.2 18 y = S2 18 y ∧ v.2 19 y = S2 19 y) 0 (by omega) ⟨rfl, frb_rfl _ _, fun y hy => absurd hy (by omega), fun y _ => ⟨rfl, rfl⟩⟩ ?_
      rintro i ⟨x1, S3⟩ hi ⟨hx1, f3, w3, z3⟩ R3 hR3
      dsimp only at hx1 f3 w3 z3
      subst hx1
      unfold wp_meetsRows_b147
      dsimp only
      rw [li_36864, nI_leI (by omega) (by omega)]
      refine ⟨fun c3 => ?_, fun c3 => ⟨i, by omega, rfl, i, by omega, rfl, i, by omega, rfl, fun S4 e4 => ⟨i, by omega, rfl, fun S5 e5 x1 ex => ?_⟩⟩⟩
      · have s1 : rgm S3 18 two := ⟨fun x hx y hy => by rw [(w3 _ (by omega)).1]; exact q2.1 x hx y hy, q2.2⟩
        have s2 : rgm S3 19 one := ⟨fun x hx y hy => by rw [(w3 _ (by omega)).2]; exact q1.1 x hx y hy, q1.2⟩
        refine hR n1 _ (by omega) ⟨two, one, frb_tr f2 (frb_mono f3 fun k hk => by omega), s1, s2, mst_swap hF hX hY pX pY yX yY hm hle st2 hh1 hh c2, fun w => hz2 w.1, hh1⟩
      · subst ex
        have a1 := (z3 i (Nat.le_refl _)).1
        have a2 := (z3 i (Nat.le_refl _)).2
        rw [a2] at e4
        rw [a1] at e5
        refine hR3 (by omega) _ ⟨by rw [li_1, nI_add], ?_, fun y hy => ?_, fun y hy => ?_⟩
        · dsimp only
          rw [e5, e4]
          exact frb_tr (frb_tr f3 (frb_bw (by omega))) (frb_bw (by omega))
        · dsimp only
          rw [e5, bw_at, bw_at, e4, bw_at, bw_at]
          by_cases w : y = i
          · rw [if_neg (by omega), if_pos ⟨rfl, w⟩, if_pos ⟨rfl, w⟩, w]
            exact ⟨rfl, rfl⟩
          · rw [if_neg (by omega), if_neg (fun z => w z.2), if_neg (fun z => w z.2), if_neg (by omega)]
            exact w3 y (by omega)
        · dsimp only
          rw [e5, bw_at, bw_at, e4, bw_at, bw_at, if_neg (by omega), if_neg (by omega), if_neg (by omega), if_neg (by omega)]
          exact z3 y (by omega)
    · -- a step
      rcases st2 with ⟨e1, e2, e3⟩ | ⟨d1, d2, hj, cm1, cm2⟩ | ⟨e1, _⟩ | ⟨e1, _, _⟩
      · exfalso
        subst e1 e2
        have u1 := @hgt_uni _ (PRr (Fin p)) _ _ _ hh1 (@xd_hgt _ (PRr (Fin p)) _ _ hY)
        have u2 := @hgt_uni _ (PRr (Fin p)) _ _ _ hh (@xd_hgt _ (PRr (Fin p)) _ _ hX)
        omega
      · have u1 := @hgt_uni _ (PRr (Fin p)) _ _ _ hh1 (@xd_hgt _ (PRr (Fin p)) _ _ hj.1)
        have u2 := @hgt_uni _ (PRr (Fin p)) _ _ _ hh (@xd_hgt _ (PRr (Fin p)) _ _ hj.2.1)
        have hl : d2 ≤ d1 := by omega
        obtain ⟨ya, yb, h1a, h1b, hab⟩ := jv_wide' hF hm (by omega) hj hl
        refine sp_takesOff hp g5 (Or.inl ⟨rfl, rfl⟩) q1 q2 hj.1 hj.2.1 hl h1a h1b hab (fun S3 one' f3 w3 hpm => ?_)
        obtain ⟨st3, hlow⟩ := mst_off hF hj cm1 cm2 hl hpm
        obtain ⟨μ', hμ'⟩ := hgt2_ex one'
        have := @hgt_le _ (PRr (Fin p)) _ _ _ hμ' hlow
        exact hR2 μ' _ (by omega) ⟨one', frb_tr f2 (frb_mono f3 fun k hk => by omega), w3, rgm_keep q2 f3 (by omega), st3, hμ'⟩
      · exact absurd e1 hz2
      · exfalso
        rw [e1] at hh1
        have := @hgt_pz _ (PRr (Fin p)) _ hh1
        omega
/-- times a row -/
theorem sp_meetsRows199 {p : Nat} [NeZero p] {S0 : St} {c : PR (Fin p)} {G : R2 (Fin p)} {post : St → Prop} (hp : pr p) (h5 : S0 0 5 = nI p) (hG : rgm S0 18 G) (hc : rwm S0 24 0 c.1) (hxc : xl c 2304) (hy : yl (m2 (c2 c) G) 15) (hpost : ∀ S', frb (fun k => k = 18 ∨ k = 23) S0 S' → rgm S' 18 (m2 (c2 c) G) → post S') : wp_heightOf 24 0 S0 (fun r_40 => wp_meetsRows_l199 post r_40 0 S0) := by
  have h97 := hp.2.1
  rw [show (0 : Int32) = nI 0 from li_0]
  refine sp_heightOf h97 hc hxc (show 0 + 2304 ≤ mlen 24 from Nat.le_refl _) (by omega) (fun nc hnc hhc => ?_)
  have hxm : ∀ x, xl (pr_mul c (G.1 x)) 16 := fun x => by
    have := hy x
    rw [c2_at] at this
    exact this
  unfold wp_meetsRows_l199
  refine wl_up 16 (fun x v => v.1 = nI x ∧ frb (fun k => k = 18 ∨ k = 23) S0 v.2 ∧ (∀ j, j < x → rwm v.2 18 (2304 * j) (pr_mul c (G.1 j)).1) ∧ ∀ j, x ≤ j → j < 16 → rwm v.2 18 (2304 * j) (G.1 j).1) 0 (by omega) ⟨rfl, frb_rfl _ _, fun j hj => absurd hj (by omega), fun j _ hj => hG.1 j hj⟩ ?_
  rintro x ⟨x2, S3⟩ hx ⟨hx2, f3, hlo, hhi⟩ R hR
  dsimp only at hx2 f3 hlo hhi
  subst hx2
  unfold wp_meetsRows_b199
  dsimp only
  rw [li_16, nI_leI (by omega) (by omega)]
  refine ⟨fun c1 => ?_, fun c1 => ?_⟩
  · refine hpost S3 f3 ⟨fun j hj => by rw [c2_at]; exact hlo j (by omega), fun j => xl_mono (hy j) (by omega), fun j hj => ?_⟩
    rw [c2_at]
    have : G.1 j = pz := hG.2.2 j (by omega)
    rw [this, pz_mul]
    rfl
  · unfold wp_meetsRows_l207
    refine wl_up 2304 (fun i v => v.1 = nI i ∧ frb (fun k => k = 23) S3 v.2 ∧ ∀ y, y < i → v.2 23 y = 0) 0 (by omega) ⟨rfl, frb_rfl _ _, fun y hy => absurd hy (by omega)⟩ ?_
    rintro i ⟨x3, S4⟩ hi ⟨hx3, f4, z4⟩ R2 hR2
    dsimp only at hx3 f4 z4
    subst hx3
    unfold wp_meetsRows_b207
    dsimp only
    rw [li_2304, nI_leI (by omega) (by omega)]
    refine ⟨fun c2' => ?_, fun c2' => ⟨i, by omega, rfl, fun S5 e5 x3 e3 => ?_⟩⟩
    · have r4 : rwm S4 18 (2304 * x) (G.1 x).1 := rwm_keep (hhi x (Nat.le_refl _) (by omega)) f4 (by omega)
      rw [pk_mul]
      refine sp_heightOf h97 r4 (hG.2.1 x) (show 2304 * x + 2304 ≤ 36864 by omega) (by omega) (fun no hno hho => ?_)
      have F4 : frb (fun k => k = 18 ∨ k = 23) S0 S4 := frb_tr f3 (frb_mono f4 fun k hk => Or.inr hk)
      have A4 : ∀ {S' : St}, frb (fun k => k = 23) S4 S' → rwm S' 24 0 c.1 ∧ rwm S' 18 (2304 * x) (G.1 x).1 ∧ S' 0 5 = nI p := fun {S'} f => ⟨rwm_keep (rwm_keep hc F4 (by omega)) f (by omega), rwm_keep r4 f (by omega), by rw [f 0 (by omega), F4 0 (by omega)]; exact h5⟩
      have hsum : ∀ I k, I < nc → k < no → I + k < 2304 := fun I k hI' hk' => by
        obtain ⟨a, ea⟩ : ∃ a, nc = a + 1 := ⟨nc - 1, by omega⟩
        obtain ⟨b, eb⟩ : ∃ b, no = b + 1 := ⟨no - 1, by omega⟩
        subst ea eb
        have hx := xd_mul (dm_fd (fdp hp)) (hgt_xd hhc) (hgt_xd hho)
        have : a + b < 16 := Classical.byContradiction fun w => hx.1 (hxm x _ (by omega))
        omega
      unfold wp_meetsRows_l243
      refine wl_up nc (fun I v => v.1 = nI I ∧ frb (fun k => k = 23) S4 v.2 ∧ rwm v.2 23 0 (fun j => pac c.1 (G.1 x).1 I j)) 0 (by omega) ⟨rfl, frb_rfl _ _, fun y hy => by dsimp only; rw [Nat.zero_add, z4 y (by omega), pac_0]; exact li_0⟩ ?_
      rintro I ⟨x4, S5⟩ hI' ⟨hx4, f5, w5⟩ R3 hR3
      dsimp only at hx4 f5 w5
      subst hx4
      unfold wp_meetsRows_b243
      dsimp only
      rw [hI_ltn (by omega) (by omega)]
      refine ⟨fun c3 => ?_, fun c3 => ?_⟩
      · have eI : I = nc := by omega
        subst eI
        have wv : rwm S5 23 0 (pr_mul c (G.1 x)).1 := rwm_cg w5 fun y _ => pac_mul hhc.1 y
        unfold wp_meetsRows_l320
        refine wl_up 2304 (fun i v => v.1 = nI i ∧ frb (fun k => k = 18) S5 v.2 ∧ (∀ y, y < i → v.2 18 (2304 * x + y) = nI ((pr_mul c (G.1 x)).1 y).val) ∧ ∀ y, (y < 2304 * x ∨ 2304 * x + 2304 ≤ y) → v.2 18 y = S5 18 y) 0 (by omega) ⟨rfl, frb_rfl _ _, fun y hy => absurd hy (by omega), fun y _ => rfl⟩ ?_
        rintro i' ⟨x4, S7⟩ hi' ⟨hx4, f7, c7, o7⟩ R4 hR4
        dsimp only at hx4 f7 c7 o7
        subst hx4
        unfold wp_meetsRows_b320
        dsimp only
        rw [li_2304, nI_leI (by omega) (by omega)]
        refine ⟨fun c4 x7 e7 => ?_, fun c4 => ?_⟩
        · subst e7
          have k7 : ∀ j, j < 16 → j ≠ x → ∀ h : Nat → Fin p, rwm S3 18 (2304 * j) h → rwm S7 18 (2304 * j) h := fun j hj hne h hr y hy => by
            rw [o7 _ (by omega), f5 18 (by omega), f4 18 (by omega)]
            exact hr y hy
          refine hR (by omega) _ ⟨by rw [li_1, nI_add], frb_tr F4 (frb_tr (frb_mono f5 fun k hk => Or.inr hk) (frb_mono f7 fun k hk => Or.inl hk)), fun j hj => ?_, fun j hj hj' => k7 j hj' (by omega) _ (hhi j (by omega) hj')⟩
          by_cases w : j = x
          · rw [w]
            exact fun y hy => c7 y (by omega)
          · exact k7 j (by omega) w _ (hlo j (by omega))
        · rw [pk_mul, nI_add]
          refine ⟨i', by omega, rfl, 2304 * x + i', by omega, rfl, fun S8 e8 x11 e11 => ?_⟩
          rw [rwm_at (rwm_keep wv f7 (by omega)) (by omega)] at e8
          subst e11
          refine hR4 (by omega) _ ⟨by rw [li_1, nI_add], ?_, fun y hy => ?_, fun y hy => ?_⟩
          · dsimp only
            rw [e8]
            exact frb_tr f7 (frb_bw rfl)
          · dsimp only
            rw [e8, bw_at]
            by_cases w : y = i'
            · rw [if_pos ⟨rfl, by omega⟩, w]
            · rw [if_neg (fun z => by have := z.2; omega)]; exact c7 y (by omega)
          · dsimp only
            rw [e8, bw_at, if_neg (fun z => by have := z.2; omega)]
            exact o7 y hy
      · unfold wp_meetsRows_l252
        refine wl_up no (fun k v => v.1 = nI k ∧ frb (fun k => k = 23) S4 v.2 ∧ rwm v.2 23 0 (fun j => pac c.1 (G.1 x).1 I j + pap c.1 (G.1 x).1 I k j)) 0 (by omega) ⟨rfl, f5, rwm_cg w5 fun y _ => by rw [pap_0]; grind⟩ ?_
        rintro k ⟨x5, S6⟩ hk' ⟨hx5, f6, w6⟩ R4 hR4
        dsimp only at hx5 f6 w6
        subst hx5
        obtain ⟨a6, o6, g6⟩ := A4 f6
        unfold wp_meetsRows_b252
        dsimp only
        rw [hI_ltn (by omega) (by omega)]
        refine ⟨fun c4 x10 e10 => ?_, fun c4 => ?_⟩
        · have ek : k = no := by omega
          subst ek
          subst e10
          exact hR3 (by omega) _ ⟨by rw [li_1, nI_add], f6, rwm_cg w6 fun y _ => by rw [pac_s hho.1]⟩
        · have hs := hsum I k (by omega) (by omega)
          rw [li_2304, pk_mul, nI_add, nI_add]
          refine ⟨I + k, by omega, rfl, I, by omega, rfl, 2304 * x + k, by omega, rfl, by rw [g6]; exact n_ne0 hp, I + k, by omega, rfl, fun S7 e7 x11 e11 => ?_⟩
          rw [g6, rwm_at w6 hs, rwm_at a6 (show I < 2304 by omega), o6 k (by omega), (pap_at _ _ _ _).1, nF_ma h97] at e7
          subst e11
          refine hR4 (by omega) _ ⟨by rw [li_1, nI_add], ?_, fun y hy => ?_⟩
          · dsimp only
            rw [e7]
            exact frb_tr f6 (frb_bw rfl)
          · dsimp only
            rw [e7, bw_at, Nat.zero_add]
            by_cases w : y = I + k
            · rw [if_pos ⟨rfl, w⟩, w, (pap_at _ _ _ _).2]
              congr 2
              grind
            · rw [if_neg (fun z => w z.2), rwm_at w6 hy, pap_ne w]
    · subst e3
      refine hR2 (by omega) _ ⟨by rw [li_1, nI_add], ?_, fun y hy => ?_⟩
      · dsimp only
        rw [e5]
        exact frb_tr f4 (frb_bw rfl)
      · dsimp only
        rw [e5, bw_at]
        by_cases w : y = i
        · rw [if_pos ⟨rfl, w⟩]
        · rw [if_neg (fun z => w z.2)]; exact z4 y (by omega)
