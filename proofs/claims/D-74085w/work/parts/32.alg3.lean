set_option maxRecDepth 100000
/-! what a combination becomes along a row of remainders -/
/-- a multiple of T is a combination of two, small by their degrees -/
def cy {α : Type} [Lean.Grind.CommRing α] (i : Nat) (T one two : PR α) (d1 d2 : Nat) : Prop := ∃ (c : α) (U V : PR α), c ≠ 0 ∧ (U ≠ pz ∨ V ≠ pz) ∧ xl U (d2 - i) ∧ xl V (d1 - i) ∧ pr_mul (pr_c c) T = pr_add (pr_mul U one) (pr_mul V two)
theorem cy_swap {α : Type} [Lean.Grind.CommRing α] {i : Nat} {T one two : PR α} {d1 d2 : Nat} (h : cy i T one two d1 d2) : cy i T two one d2 d1 := by
  obtain ⟨c, U, V, h1, h2, h3, h4, h5⟩ := h
  refine ⟨c, V, U, h1, h2.symm, h4, h3, ?_⟩
  rw [h5]
  exact (PRr α).add_comm _ _
theorem cy_step {α : Type} [Lean.Grind.CommRing α] (hd : dm α) {i t : Nat} {T one two one' : PR α} {d1 d2 d1' : Nat} {a b e : α} (h : cy i T one two d1 d2) (hT : xl T (i + 1)) (h2 : xd two d2) (hi : i < d2) (ha : a ≠ 0) (he : e ≠ 0) (h1' : xl one' (d1' + 1))
    (hs : pr_mul (pr_c e) one' = pr_add (pr_mul (pr_c a) one) (pr_neg (pr_mul (pr_mul (pr_c b) (px t)) two))) : cy i T one' two d1' d2 := by
  obtain ⟨c, U, V, hc, hn, hU, hV, h5⟩ := h
  have hE : pr_mul (pr_c (a * c)) T = pr_add (pr_mul (pr_mul (pr_c e) U) one') (pr_mul (pr_add (pr_mul (pr_mul (pr_c b) (px t)) U) (pr_mul (pr_c a) V)) two) := by
    have hac : (pr_c (a * c) : PR α) = pr_mul (pr_c a) (pr_c c) := pr_ext fun k => by
      rw [pr_mul_c]
      show (if k = 0 then a * c else 0) = a * (if k = 0 then c else 0)
      split
      · rfl
      · grind
    rw [hac]
    letI := PRr α
    generalize (pr_c a : PR α) = A at *
    generalize (pr_c b : PR α) = B at *
    generalize (pr_c c : PR α) = C at *
    generalize (pr_c e : PR α) = E at *
    generalize (px t : PR α) = X at *
    have h5 : C * T = U * one + V * two := h5
    have hs : E * one' = A * one + - (B * X * two) := hs
    show A * C * T = E * U * one' + (B * X * U + A * V) * two
    grind
  have hU' : xl (pr_mul (pr_c e) U) (d2 - i) := xl_cm hU
  refine ⟨a * c, pr_mul (pr_c e) U, _, fun q => ?_, ?_, hU', ?_, hE⟩
  · rcases hd _ _ q with z | z
    · exact ha z
    · exact hc z
  · by_cases hu : U = pz
    · right
      intro q
      rw [hu] at q hn
      have hv : V ≠ pz := hn.resolve_left (fun z => z rfl)
      have q2 : pr_mul (pr_c a) V = pz := by
        have e0 : pr_mul (pr_mul (pr_c b) (px t)) (pz : PR α) = pz := (PRr α).mul_zero _
        rw [e0] at q
        rw [← q]
        letI := PRr α
        show _ = (0 : PR α) + _
        grind
      rcases dm_pr hd _ _ q2 with z | z
      · exact pr_c_ne ha z
      · exact hv z
    · left
      intro q
      rcases dm_pr hd _ _ q with z | z
      · exact pr_c_ne he z
      · exact hu z
  · have hx : xl (pr_mul (pr_add (pr_mul (pr_mul (pr_c b) (px t)) U) (pr_mul (pr_c a) V)) two) (max (i + 1) (d2 - i + d1')) := by
      have e2 : pr_mul (pr_add (pr_mul (pr_mul (pr_c b) (px t)) U) (pr_mul (pr_c a) V)) two = pr_add (pr_mul (pr_c (a * c)) T) (pr_neg (pr_mul (pr_mul (pr_c e) U) one')) := by
        rw [hE]
        letI := PRr α
        show _ = (_ + _ : PR α) + - _
        grind
      rw [e2]
      exact xl_add (xl_mono (xl_cm hT) (by omega)) (xl_neg (xl_mono (xl_mul hU' h1') (by omega)))
    have := xl_div hd h2 hx
    exact xl_mono this (by omega)
theorem cy_end {α : Type} [Lean.Grind.CommRing α] (hd : dm α) {T one two : PR α} {d1 d2 N : Nat} (h0 : d1 < d2) (h : cy (d2 - 1) T one two d1 d2) {s : Nat → α} (hs : sg (fun j => s j * one.1 j) N = 1) : ∃ v : α, v ≠ 0 ∧ ∀ j, T.1 j = v * one.1 j := by
  obtain ⟨c, U, V, hc, hn, hU, hV, h5⟩ := h
  have hV0 : V = pz := xl_0 (xl_mono hV (by omega))
  have hU1 := xl1_c (xl_mono hU (show d2 - (d2 - 1) ≤ 1 by omega))
  have hu : U.1 0 ≠ 0 := fun q => by
    rw [q] at hU1
    rcases hn with z | z
    · exact z hU1
    · exact z hV0
  have hj : ∀ j, c * T.1 j = U.1 0 * one.1 j := fun j => by
    have := congrArg (fun f : PR α => f.1 j) h5
    have e0 : (pr_mul V two).1 j = 0 := by
      rw [hV0]
      have : pr_mul (pz : PR α) two = pz := pr_zero two
      rw [this, pz_i]
    rw [hU1] at this
    have this : (pr_mul (pr_c c) T).1 j = (pr_mul (pr_c (U.1 0)) one).1 j + (pr_mul V two).1 j := this
    rw [pr_mul_c, pr_mul_c, e0] at this
    grind
  have hv : c * sg (fun j => s j * T.1 j) N = U.1 0 := by
    rw [← sg_L, sg_ext (g := fun j => U.1 0 * (s j * one.1 j)) (fun j _ => by
      have := hj j
      grind), sg_L, hs]
    grind
  refine ⟨sg (fun j => s j * T.1 j) N, fun q => hu ?_, fun j => ?_⟩
  · rw [← hv, q]; grind
  · refine dm_can hd hc ?_
    have := hj j
    grind
