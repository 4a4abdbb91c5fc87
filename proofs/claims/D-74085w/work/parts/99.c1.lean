set_option maxRecDepth 100000
/-! contents, primitive parts, common divisors: they are one alone (plain mathematics) -/
def mon {F : Type} [Lean.Grind.CommRing F] (c : PR F) : Prop := c = pz ∨ ∃ d, xd c d ∧ c.1 d = 1
theorem pz_mul {F : Type} [Lean.Grind.CommRing F] (q : PR F) : pr_mul q pz = pz := by
  rw [pr_mul_comm]; exact pr_zero q
theorem dv_pz' {F : Type} [Lean.Grind.CommRing F] {c : PR F} (h : dv pz c) : c = pz := by
  obtain ⟨q, e⟩ := h
  rw [e, pz_mul]
/-- two that divide each other: a number apart -/
theorem dv_unit {F : Type} [Lean.Grind.CommRing F] (hF : fd F) {c c' : PR F} (h1 : dv c c') (h2 : dv c' c) : ∃ u : F, u ≠ 0 ∧ c' = pr_mul (pr_c u) c := by
  have hd := dm_fd hF
  by_cases hz : c = pz
  · rw [hz] at h1
    refine ⟨1, hF.1, ?_⟩
    rw [dv_pz' h1, hz, pz_mul]
  · obtain ⟨q, e1⟩ := h1
    obtain ⟨r, e2⟩ := h2
    obtain ⟨j, hj⟩ := ne_pz hz
    obtain ⟨d, _, hd1⟩ := xd_of hj
    have hz' : c' ≠ pz := fun w => hz (by rw [e2, w, pz_mul])
    obtain ⟨j', hj'⟩ := ne_pz hz'
    obtain ⟨d', _, hd2⟩ := xd_of hj'
    have hq : q ≠ pz := fun w => hz' (by rw [e1, w]; exact pr_zero c)
    have hr : r ≠ pz := fun w => hz (by rw [e2, w]; exact pr_zero c')
    obtain ⟨jq, hjq⟩ := ne_pz hq
    obtain ⟨dq, _, hdq⟩ := xd_of hjq
    obtain ⟨jr, hjr⟩ := ne_pz hr
    obtain ⟨dr, _, hdr⟩ := xd_of hjr
    have a1 := xd_mul hd hdq hd1
    have a2 := xd_mul hd hdr hd2
    rw [← e1] at a1
    rw [← e2] at a2
    have b1 := xd_uni a1 hd2
    have b2 := xd_uni a2 hd1
    have b3 : dq = 0 := by omega
    subst b3
    have eq := xl1_c hdq.2
    exact ⟨q.1 0, hdq.1, by rw [← eq]; exact e1⟩
theorem mon_dv {F : Type} [Lean.Grind.CommRing F] (hF : fd F) {c c' : PR F} (m1 : mon c) (m2 : mon c') (h1 : dv c c') (h2 : dv c' c) : c = c' := by
  obtain ⟨u, hu, e⟩ := dv_unit hF h1 h2
  rcases m1 with m1 | ⟨d, m1, l1⟩
  · rw [e, m1, pz_mul]
  · rcases m2 with m2 | ⟨d', m2, l2⟩
    · rw [m2] at h2
      rw [dv_pz' h2, m2]
    · have x1 : xd (pr_mul (pr_c u) c) d := ⟨by rw [pr_mul_c, l1]; intro w; apply hu; rw [← w]; grind, xl_cm m1.2⟩
      rw [← e] at x1
      have := xd_uni x1 m2
      subst this
      have l3 : c'.1 d = u * c.1 d := by rw [e, pr_mul_c]
      rw [l1, l2] at l3
      have hu1 : u = 1 := by rw [l3]; grind
      rw [e, hu1, pr_one]
def gcr {F : Type} [Lean.Grind.CommRing F] (G : R2 F) (c : PR F) : Prop := (∀ j, dv c (G.1 j)) ∧ (∃ s : Nat → PR F, @sg _ (PRr F) (fun j => pr_mul (s j) (G.1 j)) 16 = c) ∧ mon c
theorem gcr_uni {F : Type} [Lean.Grind.CommRing F] (hF : fd F) {G : R2 F} {c c' : PR F} (h : gcr G c) (h' : gcr G c') : c = c' := by
  obtain ⟨a1, ⟨s, a2⟩, a3⟩ := h
  obtain ⟨b1, ⟨t, b2⟩, b3⟩ := h'
  refine mon_dv hF a3 b3 ?_ ?_
  · rw [← b2]; exact dv_sg fun i _ => dv_mulL (a1 i) _
  · rw [← a2]; exact dv_sg fun i _ => dv_mulL (b1 i) _
theorem gcr_z {F : Type} [Lean.Grind.CommRing F] {G : R2 F} {c : PR F} (h : gcr G c) : c = pz ↔ G = z2 := by
  constructor
  · intro w
    refine @pr_ext _ (PRr F) _ _ fun i => ?_
    have := h.1 i
    rw [w] at this
    rw [dv_pz' this]
    exact (@pz_i _ (PRr F) i).symm
  · intro w
    obtain ⟨s, e⟩ := h.2.1
    rw [← e]
    refine @sg_0 _ (PRr F) _ _ fun i _ => ?_
    have : G.1 i = pz := by rw [w]; exact @pz_i _ (PRr F) i
    show pr_mul (s i) (G.1 i) = pz
    rw [this, pz_mul]
/-- a primitive part -/
def prm {F : Type} [Lean.Grind.CommRing F] (G G' : R2 F) : Prop := ∃ c, gcr G c ∧ ((c = pz ∧ G' = G) ∨ (c ≠ pz ∧ m2 (c2 c) G' = G))
theorem c2_ne {F : Type} [Lean.Grind.CommRing F] {c : PR F} (h : c ≠ pz) : c2 c ≠ z2 := @pr_c_ne _ (PRr F) c h
theorem m2_can {F : Type} [Lean.Grind.CommRing F] (hF : dm F) {c G H : R2 F} (hc : c ≠ z2) (e : m2 c G = m2 c H) : G = H := @pr_can _ (PRr F) (dm_PR hF) c hc G H e
theorem prm_uni {F : Type} [Lean.Grind.CommRing F] (hF : fd F) {G G' G'' : R2 F} (h : prm G G') (h' : prm G G'') : G' = G'' := by
  obtain ⟨c, a1, a2⟩ := h
  obtain ⟨c', b1, b2⟩ := h'
  have e := gcr_uni hF a1 b1
  subst e
  rcases a2 with ⟨z, a2⟩ | ⟨z, a2⟩
  · rcases b2 with ⟨_, b2⟩ | ⟨w, _⟩
    · rw [a2, b2]
    · exact absurd z w
  · rcases b2 with ⟨w, _⟩ | ⟨_, b2⟩
    · exact absurd w z
    · exact m2_can (dm_fd hF) (c2_ne z) (a2.trans b2.symm)
theorem prm_z {F : Type} [Lean.Grind.CommRing F] {G' : R2 F} (h : prm z2 G') : G' = z2 := by
  obtain ⟨c, a1, a2⟩ := h
  have e := (gcr_z a1).2 rfl
  rcases a2 with ⟨_, a2⟩ | ⟨z, _⟩
  · exact a2
  · exact absurd e z
theorem c2_at {F : Type} [Lean.Grind.CommRing F] (c : PR F) (G : R2 F) (j : Nat) : (m2 (c2 c) G).1 j = pr_mul c (G.1 j) := @pr_mul_c _ (PRr F) c G j
theorem prm_ne {F : Type} [Lean.Grind.CommRing F] (hF : fd F) {G G' : R2 F} (h : prm G G') (hG : G ≠ z2) : pm G' ∧ ∃ c, c ≠ pz ∧ gcr G c ∧ m2 (c2 c) G' = G := by
  obtain ⟨c, a1, a2⟩ := h
  rcases a2 with ⟨z, _⟩ | ⟨z, a2⟩
  · exact absurd ((gcr_z a1).1 z) hG
  · refine ⟨?_, c, z, a1, a2⟩
    obtain ⟨s, e⟩ := a1.2.1
    refine ⟨s, pr_can (dm_fd hF) z ?_⟩
    have e1 : pr_mul c (@sg _ (PRr F) (fun j => pr_mul (s j) (G'.1 j)) 16) = @sg _ (PRr F) (fun j => pr_mul (s j) (G.1 j)) 16 := by
      refine (@sg_L _ (PRr F) c _ 16).symm.trans (@sg_ext _ (PRr F) _ _ _ fun j _ => ?_)
      rw [← a2, c2_at]
      letI := PRr F
      show c * (s j * G'.1 j) = s j * (c * G'.1 j)
      grind
    rw [e1, e, pr_mul_comm, pr_one]
theorem xd_c2 {F : Type} [Lean.Grind.CommRing F] (hF : dm F) {c : PR F} (hc : c ≠ pz) {G : R2 F} {d : Nat} : xd2 (m2 (c2 c) G) d ↔ xd2 G d := by
  have z0 : ∀ j, (m2 (c2 c) G).1 j = pz ↔ G.1 j = pz := fun j => by
    rw [c2_at]
    exact ⟨fun w => (dm_pr hF _ _ w).resolve_left hc, fun w => by rw [w, pz_mul]⟩
  constructor
  · rintro ⟨h1, h2⟩
    exact ⟨fun w => h1 ((z0 d).2 w), fun i hi => (z0 i).1 (h2 i hi)⟩
  · rintro ⟨h1, h2⟩
    exact ⟨fun w => h1 ((z0 d).1 w), fun i hi => (z0 i).2 (h2 i hi)⟩
theorem xl_c2 {F : Type} [Lean.Grind.CommRing F] (hF : dm F) {c : PR F} (hc : c ≠ pz) {G : R2 F} {d : Nat} : xl2 (m2 (c2 c) G) d ↔ xl2 G d := by
  have z0 : ∀ j, (m2 (c2 c) G).1 j = pz ↔ G.1 j = pz := fun j => by
    rw [c2_at]
    exact ⟨fun w => (dm_pr hF _ _ w).resolve_left hc, fun w => by rw [w, pz_mul]⟩
  exact ⟨fun h i hi => (z0 i).1 (h i hi), fun h i hi => (z0 i).2 (h i hi)⟩
theorem pm_ne {F : Type} [Lean.Grind.CommRing F] (h1 : (1 : F) ≠ 0) {G : R2 F} (h : pm G) : G ≠ z2 := fun e => by
  obtain ⟨s, hs⟩ := h
  have : @sg _ (PRr F) (fun j => pr_mul (s j) (G.1 j)) 16 = pz := @sg_0 _ (PRr F) _ _ fun i _ => by
    have : G.1 i = pz := by rw [e]; exact @pz_i _ (PRr F) i
    show pr_mul (s i) (G.1 i) = pz
    rw [this, pz_mul]
  rw [this] at hs
  exact pr_c_ne h1 hs.symm
/-- a common divisor of two without content -/
def cmb {F : Type} [Lean.Grind.CommRing F] (G A B : R2 F) : Prop := ∃ (c : PR F) (P Q : R2 F), c ≠ pz ∧ m2 (c2 c) G = a2 (m2 P A) (m2 Q B)
def gsp {F : Type} [Lean.Grind.CommRing F] (A B G : R2 F) : Prop := pm G ∧ (∃ H, A = m2 G H) ∧ (∃ H, B = m2 G H) ∧ cmb G A B
theorem gsp_swap {F : Type} [Lean.Grind.CommRing F] {A B G : R2 F} (h : gsp A B G) : gsp B A G := by
  obtain ⟨h1, h2, h3, c, P, Q, h4, h5⟩ := h
  exact ⟨h1, h3, h2, c, Q, P, h4, by rw [h5]; exact (@PRr (PR F) (PRr F)).add_comm _ _⟩
theorem gsp_dv {F : Type} [Lean.Grind.CommRing F] (hF : fd F) {A B G G' : R2 F} (h : gsp A B G) (h' : gsp A B G') : ∃ H, G = m2 G' H := by
  obtain ⟨_, _, _, c, P, Q, hc, he⟩ := h
  obtain ⟨⟨s, hs⟩, ⟨H1, e1⟩, ⟨H2, e2⟩, _⟩ := h'
  obtain ⟨k, hk⟩ := ne_pz hc
  obtain ⟨d, _, hd⟩ := xd_of hk
  refine gauss hF d c G' G (a2 (m2 P H1) (m2 Q H2)) s 16 hd hs ?_
  show m2 (c2 c) G = m2 G' (a2 (m2 P H1) (m2 Q H2))
  rw [he, e1, e2]
  letI := PRr F
  letI := PRr (PR F)
  show P * (G' * H1) + Q * (G' * H2) = G' * (P * H1 + Q * H2)
  grind
theorem unit_1 {F : Type} [Lean.Grind.CommRing F] (hF : dm F) (h1 : (1 : F) ≠ 0) {a b : PR F} (e : pr_mul a b = pr_c 1) : ∃ u : F, u ≠ 0 ∧ a = pr_c u := by
  have ha : a ≠ pz := fun w => pr_c_ne h1 (by rw [← e, w]; exact pr_zero b)
  have hb : b ≠ pz := fun w => pr_c_ne h1 (by rw [← e, w, pz_mul])
  obtain ⟨j, hj⟩ := ne_pz ha
  obtain ⟨d, _, hd⟩ := xd_of hj
  obtain ⟨j', hj'⟩ := ne_pz hb
  obtain ⟨d', _, hd'⟩ := xd_of hj'
  have hx := xd_mul hF hd hd'
  rw [e] at hx
  have hz : d + d' = 0 := Classical.byContradiction fun q => hx.1 (if_neg q)
  have : d = 0 := by omega
  subst this
  exact ⟨a.1 0, hd.1, xl1_c hd.2⟩
theorem gsp_uni {F : Type} [Lean.Grind.CommRing F] (hF : fd F) {A B G G' : R2 F} (h : gsp A B G) (h' : gsp A B G') : ∃ u : F, u ≠ 0 ∧ G' = m2 (c2 (pr_c u)) G := by
  have hd := dm_fd hF
  obtain ⟨H, e1⟩ := gsp_dv hF h h'
  obtain ⟨H', e2⟩ := gsp_dv hF h' h
  have hG : G ≠ z2 := pm_ne hF.1 h.1
  have e3 : m2 G (m2 H' H) = m2 G (c2 (pr_c 1)) := by
    have : m2 G (c2 (pr_c 1)) = G := by
      refine Eq.trans (@pr_mul_comm _ (PRr F) _ _) (@pr_one _ (PRr F) G)
    rw [this]
    have : m2 G (m2 H' H) = m2 (m2 G H') H := (@pr_mul_assoc _ (PRr F) _ _ _).symm
    rw [this, ← e2]
    exact e1.symm
  have e4 := m2_can hd hG e3
  have h12 : (pr_c 1 : PR F) ≠ pz := pr_c_ne hF.1
  obtain ⟨a, ha, ea⟩ := @unit_1 _ (PRr F) (dm_PR hd) h12 H' H e4
  have e5 : m2 H H' = c2 (pr_c 1) := (@pr_mul_comm _ (PRr F) _ _).trans e4
  obtain ⟨b, hb, eb⟩ := @unit_1 _ (PRr F) (dm_PR hd) h12 H H' e5
  have e6 : pr_mul a b = pr_c 1 := by
    have : (m2 H' H).1 0 = (c2 (pr_c 1 : PR F)).1 0 := by rw [e4]
    rw [ea, eb] at this
    have h7 : (m2 (c2 a) (c2 b)).1 0 = pr_mul a b := c2_at a (c2 b) 0
    have h8 : (c2 (pr_c 1 : PR F)).1 0 = pr_c 1 := rfl
    exact h7.symm.trans (this.trans h8)
  obtain ⟨u, hu, eu⟩ := unit_1 hd hF.1 e6
  refine ⟨u, hu, ?_⟩
  rw [← eu]
  rw [e2, ea]
  exact @pr_mul_comm _ (PRr F) _ _
theorem cmb_stp {F : Type} [Lean.Grind.CommRing F] (hF : dm F) {A B one two one' : R2 F} {d1 d2 : Nat} (h : stp one two one' d1 d2) (h1 : cmb one A B) (h2 : cmb two A B) : cmb one' A B := by
  obtain ⟨e, he, h⟩ := h
  obtain ⟨c, P, Q, hc, h1⟩ := h1
  obtain ⟨c', P', Q', hc', h2⟩ := h2
  refine ⟨pr_mul e (pr_mul c c'), a2 (m2 (m2 (c2 c') (c2 (two.1 d2))) P) (n2 (m2 (m2 (c2 c) (m2 (c2 (one.1 d1)) (x2 (d1 - d2)))) P')), a2 (m2 (m2 (c2 c') (c2 (two.1 d2))) Q) (n2 (m2 (m2 (c2 c) (m2 (c2 (one.1 d1)) (x2 (d1 - d2)))) Q')), fun q => ?_, ?_⟩
  · rcases dm_pr hF _ _ q with z | z
    · exact he z
    · rcases dm_pr hF _ _ z with z | z
      · exact hc z
      · exact hc' z
  · have e1 : c2 (pr_mul e (pr_mul c c')) = m2 (c2 e) (m2 (c2 c) (c2 c')) := by
      have q1 : c2 (pr_mul e (pr_mul c c')) = m2 (c2 e) (c2 (pr_mul c c')) := @pc_mul _ (PRr F) _ _
      have q2 : c2 (pr_mul c c') = m2 (c2 c) (c2 c') := @pc_mul _ (PRr F) _ _
      rw [q1, q2]
    rw [e1]
    letI := PRr F
    letI := PRr (PR F)
    generalize c2 (two.1 d2) = a at *
    generalize m2 (c2 (one.1 d1)) (x2 (d1 - d2)) = b at *
    generalize c2 c = c at *
    generalize c2 c' = c' at *
    generalize c2 e = e at *
    have h1 : c * one = P * A + Q * B := h1
    have h2 : c' * two = P' * A + Q' * B := h2
    have h : e * one' = a * one + - (b * two) := h
    show e * (c * c') * one' = (c' * a * P + - (c * b * P')) * A + (c' * a * Q + - (c * b * Q')) * B
    grind
/-- of two rows -/
def gc2 {F : Type} [Lean.Grind.CommRing F] (a b c : PR F) : Prop := dv c a ∧ dv c b ∧ ∃ s t : PR F, c = pr_add (pr_mul s a) (pr_mul t b)
theorem gc2_dv {F : Type} [Lean.Grind.CommRing F] {a b c c' : PR F} (h : gc2 a b c) (h' : gc2 a b c') : dv c c' := by
  obtain ⟨h1, h2, _⟩ := h
  obtain ⟨_, _, s, t, e⟩ := h'
  rw [e]
  exact dv_add (dv_mulL h1 _) (dv_mulL h2 _)
/-- what two polynomials have in common, but for a number -/
def csp {F : Type} [Lean.Grind.CommRing F] (P Q W : R2 F) : Prop := ∃ (a b : PR F) (A B : R2 F) (c : PR F) (G : R2 F), gcr P a ∧ gcr Q b ∧ m2 (c2 a) A = P ∧ m2 (c2 b) B = Q ∧ gc2 a b c ∧ gsp A B G ∧ W = m2 (c2 c) G
theorem csp_uni {F : Type} [Lean.Grind.CommRing F] (hF : fd F) {P Q W W' : R2 F} (hP : P ≠ z2) (hQ : Q ≠ z2) (h : csp P Q W) (h' : csp P Q W') : ∃ u : F, u ≠ 0 ∧ W' = m2 (c2 (pr_c u)) W := by
  have hd := dm_fd hF
  obtain ⟨a, b, A, B, c, G, h1, h2, h3, h4, h5, h6, h7⟩ := h
  obtain ⟨a', b', A', B', c', G', k1, k2, k3, k4, k5, k6, k7⟩ := h'
  have ea := gcr_uni hF h1 k1
  have eb := gcr_uni hF h2 k2
  subst ea eb
  have za : a ≠ pz := fun w => hP ((gcr_z h1).1 w)
  have zb : b ≠ pz := fun w => hQ ((gcr_z h2).1 w)
  have eA : A = A' := m2_can hd (c2_ne za) (h3.trans k3.symm)
  have eB : B = B' := m2_can hd (c2_ne zb) (h4.trans k4.symm)
  subst eA eB
  obtain ⟨u, hu, e1⟩ := dv_unit hF (gc2_dv h5 k5) (gc2_dv k5 h5)
  obtain ⟨v, hv, e2⟩ := gsp_uni hF h6 k6
  refine ⟨u * v, fun w => ?_, ?_⟩
  · rcases hd _ _ w with z | z
    · exact hu z
    · exact hv z
  · rw [k7, h7, e1, e2]
    have q1 : c2 (pr_mul (pr_c u) c) = m2 (c2 (pr_c u)) (c2 c) := @pc_mul _ (PRr F) _ _
    have q2 : c2 (pr_c (u * v)) = m2 (c2 (pr_c u)) (c2 (pr_c v)) := by
      rw [pc_mul]; exact @pc_mul _ (PRr F) _ _
    rw [q1, q2]
    letI := PRr F
    letI := PRr (PR F)
    generalize c2 (pr_c u) = U
    generalize c2 (pr_c v) = V
    generalize c2 c = C
    show U * C * (V * G) = U * V * (C * G)
    grind
/-- its degrees -/
theorem csp_deg {F : Type} [Lean.Grind.CommRing F] (hF : fd F) {P Q W : R2 F} (hP : P ≠ z2) (h : csp P Q W) (hx : xl2 P 16) (hy : yl P 15) : xl2 W 16 ∧ yl W 15 ∧ W ≠ z2 := by
  have hd := dm_fd hF
  obtain ⟨a, b, A, B, c, G, h1, h2, h3, h4, h5, h6, h7⟩ := h
  obtain ⟨t, et⟩ := h5.1
  obtain ⟨H, eH⟩ := h6.2.1
  have e : P = m2 W (m2 (c2 t) H) := by
    rw [← h3, eH, h7, et]
    have q1 : c2 (pr_mul t c) = m2 (c2 t) (c2 c) := @pc_mul _ (PRr F) _ _
    rw [q1]
    letI := PRr F
    letI := PRr (PR F)
    generalize c2 t = T
    generalize c2 c = C
    show T * C * (G * H) = C * G * (T * H)
    grind
  have hW : W ≠ z2 := fun w => hP (by rw [e, w]; exact @pr_zero _ (PRr F) _)
  have hH : m2 (c2 t) H ≠ z2 := fun w => hP (by rw [e, w]; exact @pz_mul _ (PRr F) _)
  refine ⟨?_, ?_, hW⟩
  · obtain ⟨j, hj⟩ := @ne_pz _ (PRr F) _ hH
    obtain ⟨d, _, hdd⟩ := @xd_of _ (PRr F) _ _ hj
    have hx' : xl2 (m2 W (m2 (c2 t) H)) 16 := by rw [← e]; exact hx
    exact @xl_mono _ (PRr F) _ _ _ (@xl_div _ (PRr F) (dm_PR hd) _ _ _ _ hdd hx') (by omega)
  · intro j
    refine yd_fac hd W (m2 (c2 t) H) hH (fun i => ?_) j
    have : (m2 W (m2 (c2 t) H)).1 i = P.1 i := by rw [e]
    show xl ((m2 W (m2 (c2 t) H)).1 i) 16
    rw [this]
    exact hy i
