set_option maxRecDepth 100000
/-! rows of remainders of two polynomials in x over polynomials in y: degrees in y -/
abbrev R2 (F : Type) [Lean.Grind.CommRing F] : Type := @PR (PR F) (PRr F)
/-- without content -/
def pm {F : Type} [Lean.Grind.CommRing F] (G : R2 F) : Prop := ∃ s : Nat → PR F, @sg _ (PRr F) (fun j => pr_mul (s j) (G.1 j)) 16 = pr_c 1
/-- degree in y -/
def yl {F : Type} [Lean.Grind.CommRing F] (G : R2 F) (n : Nat) : Prop := ∀ j, xl (G.1 j) (n + 1)
abbrev xd2 {F : Type} [Lean.Grind.CommRing F] (G : R2 F) (d : Nat) : Prop := @xd _ (PRr F) G d
abbrev xl2 {F : Type} [Lean.Grind.CommRing F] (G : R2 F) (d : Nat) : Prop := @xl _ (PRr F) G d
noncomputable abbrev c2 {F : Type} [Lean.Grind.CommRing F] (a : PR F) : R2 F := @pr_c _ (PRr F) a
noncomputable abbrev m2 {F : Type} [Lean.Grind.CommRing F] (a b : R2 F) : R2 F := @pr_mul _ (PRr F) a b
noncomputable abbrev a2 {F : Type} [Lean.Grind.CommRing F] (a b : R2 F) : R2 F := @pr_add _ (PRr F) a b
noncomputable abbrev n2 {F : Type} [Lean.Grind.CommRing F] (a : R2 F) : R2 F := @pr_neg _ (PRr F) a
noncomputable abbrev z2 {F : Type} [Lean.Grind.CommRing F] : R2 F := @pz _ (PRr F)
noncomputable abbrev x2 {F : Type} [Lean.Grind.CommRing F] (t : Nat) : R2 F := @px _ (PRr F) t
def kin {F : Type} [Lean.Grind.CommRing F] (A B : R2 F) (n0 n1 : Nat) (one two : R2 F) (d1 d2 : Nat) : Prop := ∀ (i : Nat) (U V : R2 F), i < n0 → i < n1 → i < d2 → (U ≠ z2 ∨ V ≠ z2) → xl2 U (n1 - i) → xl2 V (n0 - i) → xl2 (a2 (m2 U A) (m2 V B)) (i + 1) → @cy _ (PRr F) i (a2 (m2 U A) (m2 V B)) one two d1 d2
/-- a multiple of A is a combination -/
def com {F : Type} [Lean.Grind.CommRing F] (A one two : R2 F) : Prop := ∃ (c : PR F) (P Q : R2 F), c ≠ pz ∧ m2 (c2 c) A = a2 (m2 P one) (m2 Q two)
/-- one step: the first loses its lead -/
def stp {F : Type} [Lean.Grind.CommRing F] (one two one' : R2 F) (d1 d2 : Nat) : Prop := ∃ e : PR F, e ≠ pz ∧ m2 (c2 e) one' = a2 (m2 (c2 (two.1 d2)) one) (n2 (m2 (m2 (c2 (one.1 d1)) (x2 (d1 - d2))) two))
def bo (N d : Nat) : Nat := max 15 (15 * (N - 2 * d))
def bt (N d : Nat) : Nat := max 15 (15 * (N + 2 - 2 * d))
/-- what holds all along -/
def jv {F : Type} [Lean.Grind.CommRing F] (A B : R2 F) (n0 n1 : Nat) (one two : R2 F) (d1 d2 : Nat) : Prop := xd2 one d1 ∧ xd2 two d2 ∧ pm one ∧ pm two ∧ kin A B n0 n1 one two d1 d2 ∧ com A one two ∧ com B one two ∧ d2 ≤ n0 ∧ d2 ≤ n1 ∧ yl two (bo (n0 + n1) d2) ∧
  ∃ ds s : Nat, ds ≤ 15 ∧ d2 ≤ ds ∧ d1 + s ≤ ds ∧ yl two (bt (n0 + n1) ds) ∧ yl one (bo (n0 + n1) ds + s * bt (n0 + n1) ds)
theorem yl_mono {F : Type} [Lean.Grind.CommRing F] {G : R2 F} {n m : Nat} (h : yl G n) (hm : n ≤ m) : yl G m := fun j => xl_mono (h j) (by omega)
theorem yl_div {F : Type} [Lean.Grind.CommRing F] (hF : dm F) {G : R2 F} {e : PR F} (he : e ≠ pz) {n : Nat} (h : yl (m2 (c2 e) G) n) : yl G n := fun j => by
  have q := h j
  have e1 : (m2 (c2 e) G).1 j = pr_mul (G.1 j) e := by
    rw [pr_mul_comm]
    exact @pr_mul_c _ (PRr F) e G j
  rw [e1] at q
  obtain ⟨k, hk⟩ := ne_pz he
  obtain ⟨d, _, hd⟩ := xd_of hk
  exact xl_mono (xl_div hF hd q) (by omega)
theorem yl_stp {F : Type} [Lean.Grind.CommRing F] (hF : dm F) {one two one' : R2 F} {d1 d2 n m : Nat} (h : stp one two one' d1 d2) (h1 : yl one n) (h2 : yl two m) : yl one' (n + m) := by
  obtain ⟨e, he, h⟩ := h
  refine yl_div hF he ?_
  rw [h]
  intro j
  refine xl_add ?_ (xl_neg ?_)
  · have : (m2 (c2 (two.1 d2)) one).1 j = pr_mul (two.1 d2) (one.1 j) := @pr_mul_c _ (PRr F) _ _ _
    rw [this]
    exact xl_mono (xl_mul (h2 d2) (h1 j)) (by omega)
  · have : (m2 (m2 (c2 (one.1 d1)) (x2 (d1 - d2))) two).1 j = pr_mul (one.1 d1) (if d1 - d2 ≤ j then two.1 (j - (d1 - d2)) else pz) := by
      have e1 : m2 (m2 (c2 (one.1 d1)) (x2 (d1 - d2))) two = m2 (c2 (one.1 d1)) (m2 (x2 (d1 - d2)) two) := @pr_mul_assoc _ (PRr F) _ _ _
      rw [e1]
      refine (@pr_mul_c _ (PRr F) _ _ _).trans ?_
      have e2 := @px_mul _ (PRr F) (d1 - d2) two j
      exact congrArg (fun z => pr_mul (one.1 d1) z) e2
    rw [this]
    refine xl_mono (xl_mul (h1 d1) (m := m) ?_) (by omega)
    by_cases hj : d1 - d2 ≤ j
    · rw [if_pos hj]
      exact h2 _
    · rw [if_neg hj]
      exact xl_pz _
theorem com_stp {F : Type} [Lean.Grind.CommRing F] (hF : dm F) {A one two one' : R2 F} {d1 d2 : Nat} (hd2 : xd2 two d2) (h : stp one two one' d1 d2) (hc : com A one two) : com A one' two := by
  obtain ⟨e, he, h⟩ := h
  obtain ⟨c, P, Q, hc, hc2⟩ := hc
  refine ⟨pr_mul (two.1 d2) c, m2 (c2 e) P, a2 (m2 (m2 (c2 (one.1 d1)) (x2 (d1 - d2))) P) (m2 (c2 (two.1 d2)) Q), fun q => ?_, ?_⟩
  · rcases dm_pr hF _ _ q with z | z
    · exact hd2.1 z
    · exact hc z
  · have hac : c2 (pr_mul (two.1 d2) c) = m2 (c2 (two.1 d2)) (c2 c) := @pc_mul _ (PRr F) _ _
    rw [hac]
    letI := PRr F
    letI := PRr (PR F)
    generalize c2 (two.1 d2) = a at *
    generalize m2 (c2 (one.1 d1)) (x2 (d1 - d2)) = b at *
    generalize c2 c = c at *
    generalize c2 e = e at *
    have hc2 : c * A = P * one + Q * two := hc2
    have h : e * one' = a * one + - (b * two) := h
    show a * c * A = e * P * one' + (b * P + a * Q) * two
    grind
theorem com_swap {F : Type} [Lean.Grind.CommRing F] {A one two : R2 F} (h : com A one two) : com A two one := by
  obtain ⟨c, P, Q, h1, h2⟩ := h
  exact ⟨c, Q, P, h1, by rw [h2]; exact (@PRr (PR F) (PRr F)).add_comm _ _⟩
theorem kin_stp {F : Type} [Lean.Grind.CommRing F] (hF : dm F) {A B one two one' : R2 F} {n0 n1 d1 d2 d1' : Nat} (h : kin A B n0 n1 one two d1 d2) (hd1 : xd2 one d1) (hd2 : xd2 two d2) (hs : stp one two one' d1 d2) (h1' : xl2 one' (d1' + 1)) : kin A B n0 n1 one' two d1' d2 := by
  intro i U V hi0 hi1 hi2 hn hU hV hT
  obtain ⟨e, he, hs⟩ := hs
  exact @cy_step _ (PRr F) (dm_PR hF) i (d1 - d2) _ one two one' d1 d2 d1' _ _ e (h i U V hi0 hi1 hi2 hn hU hV hT) hT hd2 hi2 hd2.1 he h1' hs
theorem jv_stp {F : Type} [Lean.Grind.CommRing F] (hF : dm F) {A B one two one' : R2 F} {n0 n1 d1 d2 d1' : Nat} (h : jv A B n0 n1 one two d1 d2) (hs : stp one two one' d1 d2) (hp : pm one') (h1' : xd2 one' d1') (hlt : d1' < d1) : jv A B n0 n1 one' two d1' d2 := by
  obtain ⟨h1, h2, h3, h4, h5, h6, h7, h8, h9, h10, ds, s, h11, h12, h13, h14, h15⟩ := h
  refine ⟨h1', h2, hp, h4, kin_stp hF h5 h1 h2 hs h1'.2, com_stp hF h2 hs h6, com_stp hF h2 hs h7, h8, h9, h10, ds, s + 1, h11, h12, by omega, h14, ?_⟩
  refine yl_mono (yl_stp hF hs h15 h14) ?_
  rw [Nat.add_mul]
  omega
/-- where the first has come below the second they change places -/
theorem jv_swap {F : Type} [Lean.Grind.CommRing F] (hF : fd F) {A B one two : R2 F} {n0 n1 d1 d2 : Nat} (hA : xl2 A (n0 + 1)) (hB : xl2 B (n1 + 1)) (hAy : yl A 15) (hBy : yl B 15) (h : jv A B n0 n1 one two d1 d2) (hlt : d1 < d2) : jv A B n0 n1 two one d2 d1 := by
  obtain ⟨h1, h2, h3, h4, h5, h6, h7, h8, h9, h10, ds, s, h11, h12, h13, h14, h15⟩ := h
  obtain ⟨U, V, hn, hU, hV, hT, hy⟩ := t_ex hF (i := d2 - 1) A B hA hB hAy hBy (by omega) (by omega)
  have hcy := h5 (d2 - 1) U V (by omega) (by omega) (by omega) hn hU hV hT
  obtain ⟨u, hs⟩ := h3
  obtain ⟨v, hv, he⟩ := @cy_end _ (PRr F) (dm_PR (dm_fd hF)) _ one two d1 d2 16 hlt hcy u hs
  have hy1 : yl one (15 * (n0 + n1 + 2 - 2 * d2)) := by
    refine yl_div (dm_fd hF) hv (fun j => ?_)
    have e1 : (m2 (c2 v) one).1 j = (a2 (m2 U A) (m2 V B)).1 j := by
      rw [he j]
      exact @pr_mul_c _ (PRr F) v one j
    rw [e1]
    have := hy j
    rw [show n0 + n1 - 2 * (d2 - 1) = n0 + n1 + 2 - 2 * d2 by omega] at this
    exact this
  refine ⟨h2, h1, h4, ⟨u, hs⟩, ?_, com_swap h6, com_swap h7, by omega, by omega, yl_mono hy1 ?_, d2, 0, by omega, by omega, by omega, yl_mono hy1 ?_, yl_mono h10 ?_⟩
  · intro i U V hi0 hi1 hi2 hn hU hV hT
    exact @cy_swap _ (PRr F) _ _ _ _ _ _ (h5 i U V hi0 hi1 (by omega) hn hU hV hT)
  · show _ ≤ max 15 (15 * (n0 + n1 - 2 * d1))
    have : 15 * (n0 + n1 + 2 - 2 * d2) ≤ 15 * (n0 + n1 - 2 * d1) := Nat.mul_le_mul_left _ (by omega)
    omega
  · show _ ≤ max 15 (15 * (n0 + n1 + 2 - 2 * d2))
    omega
  · omega
theorem bo_30 {N d : Nat} (h : N ≤ 30) : bo N d ≤ bo 30 d := by
  unfold bo
  have : 15 * (N - 2 * d) ≤ 15 * (30 - 2 * d) := Nat.mul_le_mul_left _ (by omega)
  omega
theorem bt_30 {N d : Nat} (h : N ≤ 30) : bt N d ≤ bt 30 d := by
  unfold bt
  have : 15 * (N + 2 - 2 * d) ≤ 15 * (30 + 2 - 2 * d) := Nat.mul_le_mul_left _ (by omega)
  omega
theorem bb_30 : ∀ d, d < 16 → bo 30 d + d * bt 30 d ≤ 2130 := by decide
/-- no place is passed -/
theorem jv_wide {F : Type} [Lean.Grind.CommRing F] {A B one two : R2 F} {n0 n1 d1 d2 : Nat} (hn0 : n0 ≤ 15) (hn1 : n1 ≤ 15) (h : jv A B n0 n1 one two d1 d2) (hle : d2 ≤ d1) (h0 : 0 < d2) : ∃ a b, yl one a ∧ yl two b ∧ a + b ≤ 2130 := by
  obtain ⟨h1, h2, h3, h4, h5, h6, h7, h8, h9, h10, ds, s, h11, h12, h13, h14, h15⟩ := h
  refine ⟨_, _, h15, h14, ?_⟩
  have e1 := bo_30 (N := n0 + n1) (d := ds) (by omega)
  have e2 := bt_30 (N := n0 + n1) (d := ds) (by omega)
  have e3 := bb_30 ds (by omega)
  have e4 : (s + 1) * bt (n0 + n1) ds ≤ ds * bt 30 ds := Nat.mul_le_mul (by omega) e2
  rw [Nat.add_mul, Nat.one_mul] at e4
  omega
/-- a unit in x that has no content has no y -/
theorem pm_0 {F : Type} [Lean.Grind.CommRing F] (hF : dm F) {G : R2 F} (hp : pm G) (hd : xl2 G 1) (h1 : (1 : F) ≠ 0) : yl G 0 := by
  obtain ⟨s, hs⟩ := hp
  have e : @sg _ (PRr F) (fun j => pr_mul (s j) (G.1 j)) 16 = pr_mul (s 0) (G.1 0) := @sg_1 _ (PRr F) _ _ 0 (by omega) (fun i _ hi => by
    have : G.1 i = pz := hd i (by omega)
    show pr_mul (s i) (G.1 i) = pz
    rw [this, pr_mul_comm]
    exact pr_zero _)
  rw [e] at hs
  have hG : G.1 0 ≠ pz := fun q => by
    rw [q, pr_mul_comm] at hs
    exact pr_c_ne h1 (hs.symm.trans (pr_zero _))
  have hs0 : s 0 ≠ pz := fun q => by
    rw [q] at hs
    exact pr_c_ne h1 (hs.symm.trans (pr_zero _))
  obtain ⟨k, hk⟩ := ne_pz hG
  obtain ⟨d, _, hdd⟩ := xd_of hk
  obtain ⟨k2, hk2⟩ := ne_pz hs0
  obtain ⟨d2, _, hdd2⟩ := xd_of hk2
  have hx := xd_mul hF hdd2 hdd
  rw [hs] at hx
  have hz : d2 + d = 0 := Classical.byContradiction fun q => hx.1 (if_neg q)
  intro j
  by_cases hj : j = 0
  · subst hj
    exact xl_mono hdd.2 (by omega)
  · have : G.1 j = pz := hd j (by omega)
    rw [this]
    exact xl_pz _
/-- the start -/
theorem jv_0 {F : Type} [Lean.Grind.CommRing F] (h01 : (1 : F) ≠ 0) {A B : R2 F} {n0 n1 : Nat} (hA : xd2 A n0) (hB : xd2 B n1) (hpA : pm A) (hpB : pm B) (hAy : yl A 15) (hBy : yl B 15) (hn : n0 ≤ 15) (hle : n1 ≤ n0) : jv A B n0 n1 A B n0 n1 := by
  have h1 : (pr_c 1 : PR F) ≠ pz := pr_c_ne h01
  have e1 : ∀ X : R2 F, m2 (c2 (pr_c 1)) X = X := fun X => @pr_one _ (PRr F) X
  refine ⟨hA, hB, hpA, hpB, fun i U V _ _ _ hn hU hV hT => ⟨pr_c 1, U, V, h1, hn, hU, hV, e1 _⟩, ⟨pr_c 1, c2 (pr_c 1), z2, h1, ?_⟩, ⟨pr_c 1, z2, c2 (pr_c 1), h1, ?_⟩, by omega, by omega, yl_mono hBy ?_, n0, 0, by omega, by omega, by omega, yl_mono hBy ?_, yl_mono hAy ?_⟩
  · letI := PRr F
    letI := PRr (PR F)
    show (1 : R2 F) * A = 1 * A + 0 * B
    grind
  · letI := PRr F
    letI := PRr (PR F)
    show (1 : R2 F) * B = 0 * A + 1 * B
    grind
  · unfold bo; omega
  · unfold bt; omega
  · unfold bo; omega
/-- what is left at last divides both -/
theorem com_end {F : Type} [Lean.Grind.CommRing F] (hF : fd F) {A two : R2 F} (hp : pm two) (h : com A z2 two) : ∃ H, A = m2 two H := by
  obtain ⟨c, P, Q, hc, he⟩ := h
  obtain ⟨k, hk⟩ := ne_pz hc
  obtain ⟨d, _, hd⟩ := xd_of hk
  obtain ⟨s, hs⟩ := hp
  refine gauss hF d c two A Q s 16 hd hs ?_
  have he : m2 (c2 c) A = a2 (m2 P z2) (m2 Q two) := he
  show m2 (c2 c) A = m2 two Q
  rw [he]
  letI := PRr F
  letI := PRr (PR F)
  show P * 0 + Q * two = two * Q
  grind
