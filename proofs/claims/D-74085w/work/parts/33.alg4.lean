set_option maxRecDepth 100000
/-! more unknowns than equations -/
theorem la_sol {F : Type} [Lean.Grind.CommRing F] (hF : fd F) (e : Nat) : ∀ (M : Nat → Nat → F), ∃ x : Nat → F, (∃ j, j ≤ e ∧ x j ≠ 0) ∧ ∀ k, k < e → sg (fun j => M k j * x j) (e + 1) = 0 := by
  induction e with
  | zero => exact fun M => ⟨fun _ => 1, ⟨0, Nat.le_refl 0, hF.1⟩, fun k hk => absurd hk (by omega)⟩
  | succ e ih =>
    intro M
    by_cases hz : ∀ j, j ≤ e + 1 → M e j = 0
    · obtain ⟨x, ⟨j, hj, hx⟩, h⟩ := ih M
      refine ⟨fun i => if i ≤ e then x i else 0, ⟨j, by omega, by show (if j ≤ e then x j else 0) ≠ 0; rw [if_pos hj]; exact hx⟩, fun k hk => ?_⟩
      show sg (fun j => M k j * (if j ≤ e then x j else 0)) (e + 1 + 1) = 0
      rw [sg_s, if_neg (by omega)]
      rw [sg_ext (g := fun j => M k j * x j) (fun i hi => by rw [if_pos (by omega)])]
      by_cases hk2 : k = e
      · subst hk2
        rw [sg_0 (fun i hi => by rw [hz i (by omega)]; grind)]; grind
      · rw [h k (by omega)]; grind
    · have hz : ∃ j, j ≤ e + 1 ∧ M e j ≠ 0 := Classical.byContradiction fun hc => hz fun j hj => Classical.byContradiction fun h2 => hc ⟨j, hj, h2⟩
      obtain ⟨q, hq, hM⟩ := hz
      obtain ⟨w, hw⟩ := hF.2 _ hM
      -- the pivot's column goes out: places j < q stay, the others come from one further
      let σ : Nat → Nat := fun j => if j < q then j else j + 1
      obtain ⟨x, ⟨j, hj, hx⟩, h⟩ := ih (fun k j => M k (σ j) - M e (σ j) * w * M k q)
      let y : F := - (w * sg (fun j => M e (σ j) * x j) (e + 1))
      let z : Nat → F := fun i => if i < q then x i else if i = q then y else x (i - 1)
      have hsum : ∀ G : Nat → F, sg (fun i => G i * z i) (e + 1 + 1) = sg (fun j => G (σ j) * x j) (e + 1) + G q * y := by
        intro G
        obtain ⟨r, hr⟩ : ∃ r, e + 1 = q + r := ⟨e + 1 - q, by omega⟩
        rw [hr, show q + r + 1 = q + (r + 1) by omega, sg_cat (fun i => G i * z i) q (r + 1), sg_cat (fun j => G (σ j) * x j) q r, sg_front]
        rw [sg_ext (f := fun i => G i * z i) (g := fun j => G (σ j) * x j) (n := q) (fun i hi => by
          show G i * (if i < q then x i else if i = q then y else x (i - 1)) = G (if i < q then i else i + 1) * x i
          rw [if_pos hi, if_pos hi])]
        rw [sg_ext (f := fun i => G (q + (i + 1)) * z (q + (i + 1))) (g := fun i => G (σ (q + i)) * x (q + i)) (n := r) (fun i hi => by
          show G (q + (i + 1)) * (if q + (i + 1) < q then x (q + (i + 1)) else if q + (i + 1) = q then y else x (q + (i + 1) - 1)) = G (if q + i < q then q + i else q + i + 1) * x (q + i)
          rw [if_neg (by omega), if_neg (by omega), if_neg (by omega), show q + (i + 1) - 1 = q + i by omega]
          rfl)]
        have e0 : z (q + 0) = y := by
          show (if q + 0 < q then x (q + 0) else if q + 0 = q then y else x (q + 0 - 1)) = y
          rw [if_neg (by omega), if_pos (by omega)]
        rw [e0, Nat.add_zero]; grind
      refine ⟨z, ?_, fun k hk => ?_⟩
      · by_cases hjq : j < q
        · exact ⟨j, by omega, by show (if j < q then x j else _) ≠ 0; rw [if_pos hjq]; exact hx⟩
        · exact ⟨j + 1, by omega, by show (if j + 1 < q then x (j + 1) else if j + 1 = q then y else x (j + 1 - 1)) ≠ 0; rw [if_neg (by omega), if_neg (by omega)]; exact hx⟩
      · rw [hsum]
        by_cases hk2 : k = e
        · subst hk2
          show _ + M k q * - (w * sg (fun j => M k (σ j) * x j) (k + 1)) = 0
          grind
        · have h3 := h k (by omega)
          have e3 : sg (fun j => (M k (σ j) - M e (σ j) * w * M k q) * x j) (e + 1) = sg (fun j => M k (σ j) * x j) (e + 1) + sg (fun j => (M e (σ j) * x j)) (e + 1) * - (w * M k q) := by
            rw [← sg_R, ← sg_add]
            exact sg_ext (fun i _ => by grind)
          rw [e3] at h3
          show _ + M k q * - (w * sg (fun j => M e (σ j) * x j) (e + 1)) = 0
          grind
/-- linear forms -/
def lf {F : Type} [Lean.Grind.CommRing F] (φ : (Nat → F) → F) : Prop := ∀ (x y : Nat → F) (c : F), φ (fun j => x j + c * y j) = φ x + c * φ y
theorem lf_at {F : Type} [Lean.Grind.CommRing F] (P : Prop) [Decidable P] (k : Nat) : lf (fun x : Nat → F => if P then x k else 0) := fun x y c => by
  by_cases h : P
  · simp only [if_pos h]
  · simp only [if_neg h]; grind
theorem lf_R {F : Type} [Lean.Grind.CommRing F] {φ : (Nat → F) → F} (h : lf φ) (c : F) : lf (fun x => φ x * c) := fun x y d => by
  show φ _ * c = φ x * c + d * (φ y * c)
  rw [h]; grind
theorem lf_add {F : Type} [Lean.Grind.CommRing F] {φ ψ : (Nat → F) → F} (h : lf φ) (h2 : lf ψ) : lf (fun x => φ x + ψ x) := fun x y d => by
  show φ _ + ψ _ = φ x + ψ x + d * (φ y + ψ y)
  rw [h, h2]; grind
theorem lf_sg {F : Type} [Lean.Grind.CommRing F] {φ : Nat → (Nat → F) → F} (h : ∀ i, lf (φ i)) (n : Nat) : lf (fun x => sg (fun i => φ i x) n) := fun x y d => by
  show sg (fun i => φ i _) n = sg (fun i => φ i x) n + d * sg (fun i => φ i y) n
  rw [← sg_L, ← sg_add]
  exact sg_ext (fun i _ => h i x y d)
theorem lf_0 {F : Type} [Lean.Grind.CommRing F] {φ : (Nat → F) → F} (h : lf φ) : φ (fun _ => 0) = 0 := by
  have := h (fun _ => 0) (fun _ => 0) (-1)
  have e : (fun (_ : Nat) => (0 : F) + -1 * 0) = fun _ => 0 := by funext j; grind
  rw [e] at this
  grind
theorem lf_sum {F : Type} [Lean.Grind.CommRing F] {φ : (Nat → F) → F} (h : lf φ) (x : Nat → F) (n : Nat) : φ (fun j => if j < n then x j else 0) = sg (fun j => φ (fun i => if i = j then 1 else 0) * x j) n := by
  induction n with
  | zero =>
    have e : (fun j => if j < 0 then x j else (0 : F)) = fun _ => 0 := by
      funext j
      rw [if_neg (by omega)]
    rw [e, sg_z]
    exact lf_0 h
  | succ n ih =>
    rw [sg_s, ← ih]
    have := h (fun j => if j < n then x j else 0) (fun i => if i = n then 1 else 0) (x n)
    have e : (fun j => (if j < n then x j else 0) + x n * (if j = n then (1 : F) else 0)) = fun j => if j < n + 1 then x j else 0 := by
      funext j
      by_cases h1 : j < n
      · rw [if_pos h1, if_neg (by omega), if_pos (by omega)]; grind
      · by_cases h2 : j = n
        · rw [if_neg h1, if_pos h2, if_pos (by omega), h2]; grind
        · rw [if_neg h1, if_neg h2, if_neg (by omega)]; grind
    rw [e] at this
    rw [this]; grind
theorem sg_co {F : Type} [Lean.Grind.CommRing F] (f : Nat → PR F) (n b : Nat) : (@sg (PR F) (PRr F) f n).1 b = sg (fun i => (f i).1 b) n := by
  induction n with
  | zero => exact pz_i b
  | succ n ih =>
    show (@sg (PR F) (PRr F) f n).1 b + (f n).1 b = _
    rw [ih]; rfl
def yp {F : Type} [Lean.Grind.CommRing F] (x : Nat → F) (o w : Nat) : PR F := ⟨fun b => if b < w then x (o + b) else 0, w, fun i hi => if_neg (by omega)⟩
def xp {F : Type} [Lean.Grind.CommRing F] (x : Nat → F) (s cnt w : Nat) : @PR (PR F) (PRr F) := ⟨fun a => if a < cnt then yp x ((s + a) * w) w else pz, cnt, fun i hi => if_neg (by omega)⟩
theorem xp_co {F : Type} [Lean.Grind.CommRing F] (x : Nat → F) (s cnt w a b : Nat) : ((xp x s cnt w).1 a).1 b = if a < cnt ∧ b < w then x ((s + a) * w + b) else 0 := by
  show ((if a < cnt then yp x ((s + a) * w) w else pz) : PR F).1 b = _
  by_cases h : a < cnt
  · rw [if_pos h]
    show (if b < w then _ else _) = _
    by_cases h2 : b < w
    · rw [if_pos h2, if_pos ⟨h, h2⟩]
    · rw [if_neg h2, if_neg (fun q => h2 q.2)]
  · rw [if_neg h, if_neg (fun q => h q.1)]
    exact pz_i b
theorem xp_lf {F : Type} [Lean.Grind.CommRing F] (A : @PR (PR F) (PRr F)) (s cnt w l b : Nat) : lf (fun x : Nat → F => ((@pr_mul (PR F) (PRr F) (xp x s cnt w) A).1 l).1 b) := by
  have e : (fun x : Nat → F => ((@pr_mul (PR F) (PRr F) (xp x s cnt w) A).1 l).1 b) = fun x => sg (fun a => sg (fun c => (if a < cnt ∧ c < w then x ((s + a) * w + c) else 0) * ((A.1 (l - a)).1 (b - c))) (b + 1)) (l + 1) := by
    funext x
    show (@sg (PR F) (PRr F) (fun a => pr_mul ((xp x s cnt w).1 a) (A.1 (l - a))) (l + 1)).1 b = _
    rw [sg_co]
    refine sg_ext (fun a _ => ?_)
    show sg (fun c => ((xp x s cnt w).1 a).1 c * (A.1 (l - a)).1 (b - c)) (b + 1) = _
    exact sg_ext (fun c _ => by rw [xp_co])
  rw [e]
  exact lf_sg (fun a => lf_sg (fun c => lf_R (lf_at _ _) _) _) _
theorem xl2_mul {F : Type} [Lean.Grind.CommRing F] {U A : @PR (PR F) (PRr F)} {m q : Nat} (hU : ∀ j, xl (U.1 j) (m + 1)) (hA : ∀ j, xl (A.1 j) (q + 1)) (l : Nat) : xl ((@pr_mul (PR F) (PRr F) U A).1 l) (m + q + 1) := by
  intro b hb
  show (@sg (PR F) (PRr F) (fun a => pr_mul (U.1 a) (A.1 (l - a))) (l + 1)).1 b = 0
  rw [sg_co]
  refine sg_0 (fun a _ => ?_)
  exact xl_mul (hU a) (hA (l - a)) b (by omega)
theorem t_ex {F : Type} [Lean.Grind.CommRing F] (hF : fd F) {q n0 n1 i : Nat} (A0 B0 : @PR (PR F) (PRr F)) (hA : @xl _ (PRr F) A0 (n0 + 1)) (hB : @xl _ (PRr F) B0 (n1 + 1)) (hAy : ∀ j, xl (A0.1 j) (q + 1)) (hBy : ∀ j, xl (B0.1 j) (q + 1)) (hi0 : i < n0) (hi1 : i < n1) :
    ∃ U V : @PR (PR F) (PRr F), (U ≠ @pz _ (PRr F) ∨ V ≠ @pz _ (PRr F)) ∧ @xl _ (PRr F) U (n1 - i) ∧ @xl _ (PRr F) V (n0 - i) ∧ @xl _ (PRr F) (@pr_add _ (PRr F) (@pr_mul _ (PRr F) U A0) (@pr_mul _ (PRr F) V B0)) (i + 1) ∧ ∀ j, xl ((@pr_add _ (PRr F) (@pr_mul _ (PRr F) U A0) (@pr_mul _ (PRr F) V B0)).1 j) (q * (n0 + n1 - 2 * i) + 1) := by
  obtain ⟨u, hu⟩ : ∃ u, n1 - i = u := ⟨_, rfl⟩
  obtain ⟨v, hv⟩ : ∃ v, n0 - i = v := ⟨_, rfl⟩
  obtain ⟨n, hn⟩ : ∃ n, u + v = n + 1 := ⟨u + v - 1, by omega⟩
  obtain ⟨m, hm⟩ : ∃ m, m = q * n := ⟨_, rfl⟩
  have he : (n + 1) * (m + 1) = n * (m + q + 1) + 1 := by
    rw [hm]
    grind
  let φ : Nat → (Nat → F) → F := fun k x => ((@pr_mul (PR F) (PRr F) (xp x 0 u (m + 1)) A0).1 (i + 1 + k / (m + q + 1))).1 (k % (m + q + 1)) + ((@pr_mul (PR F) (PRr F) (xp x u v (m + 1)) B0).1 (i + 1 + k / (m + q + 1))).1 (k % (m + q + 1))
  have hφ : ∀ k, lf (φ k) := fun k => lf_add (xp_lf A0 0 u (m + 1) _ _) (xp_lf B0 u v (m + 1) _ _)
  obtain ⟨x0, ⟨j, hj, hx⟩, hsol⟩ := la_sol hF (n * (m + q + 1)) (fun k j => φ k (fun i => if i = j then 1 else 0))
  obtain ⟨x, hxe⟩ : ∃ x : Nat → F, x = fun j => if j < n * (m + q + 1) + 1 then x0 j else 0 := ⟨_, rfl⟩
  have hz : ∀ k, k < n * (m + q + 1) → φ k x = 0 := fun k hk => by
    rw [hxe, lf_sum (hφ k)]
    exact hsol k hk
  have hUy : ∀ (s cnt j : Nat), xl ((xp x s cnt (m + 1)).1 j) (m + 1) := fun s cnt j b hb => by
    rw [xp_co, if_neg (by omega)]
  have hy : ∀ l, xl ((@pr_add _ (PRr F) (@pr_mul _ (PRr F) (xp x 0 u (m + 1)) A0) (@pr_mul _ (PRr F) (xp x u v (m + 1)) B0)).1 l) (m + q + 1) := fun l => xl_add (xl2_mul (hUy 0 u) hAy l) (xl2_mul (hUy u v) hBy l)
  have hUx : ∀ (s cnt : Nat), @xl _ (PRr F) (xp x s cnt (m + 1)) cnt := fun s cnt a ha => if_neg (by omega)
  refine ⟨xp x 0 u (m + 1), xp x u v (m + 1), ?_, by rw [hu]; exact hUx 0 u, by rw [hv]; exact hUx u v, ?_, fun l => ?_⟩
  · have hxj : x j ≠ 0 := by
      rw [hxe]
      show (if j < n * (m + q + 1) + 1 then x0 j else 0) ≠ 0
      rw [if_pos (by omega)]
      exact hx
    have hjw : j / (m + 1) < n + 1 := by
      rw [Nat.div_lt_iff_lt_mul (by omega), he]
      omega
    have hmod : j % (m + 1) < m + 1 := Nat.mod_lt _ (by omega)
    have hdm : j / (m + 1) * (m + 1) + j % (m + 1) = j := by
      rw [Nat.mul_comm]
      exact Nat.div_add_mod j (m + 1)
    by_cases hc : j / (m + 1) < u
    · left
      intro q0
      have q1 := xp_co x 0 u (m + 1) (j / (m + 1)) (j % (m + 1))
      rw [if_pos ⟨hc, hmod⟩, Nat.zero_add, hdm, q0] at q1
      refine hxj (q1.symm.trans ?_)
      have : (@pz (PR F) (PRr F)).1 (j / (m + 1)) = pz := @pz_i (PR F) (PRr F) _
      rw [this]
      exact pz_i _
    · right
      intro q0
      have q1 := xp_co x u v (m + 1) (j / (m + 1) - u) (j % (m + 1))
      rw [if_pos ⟨by omega, hmod⟩, show u + (j / (m + 1) - u) = j / (m + 1) by omega, hdm, q0] at q1
      refine hxj (q1.symm.trans ?_)
      have : (@pz (PR F) (PRr F)).1 (j / (m + 1) - u) = pz := @pz_i (PR F) (PRr F) _
      rw [this]
      exact pz_i _
  · intro l hl
    refine pr_ext fun b => ?_
    show ((@pr_add _ (PRr F) (@pr_mul _ (PRr F) (xp x 0 u (m + 1)) A0) (@pr_mul _ (PRr F) (xp x u v (m + 1)) B0)).1 l).1 b = (pz : PR F).1 b
    rw [pz_i]
    by_cases hb : m + q + 1 ≤ b
    · exact hy l b hb
    · by_cases hl2 : l < i + 1 + n
      · have hk : (l - (i + 1)) * (m + q + 1) + b < n * (m + q + 1) := by
          have : (l - (i + 1) + 1) * (m + q + 1) ≤ n * (m + q + 1) := Nat.mul_le_mul_right _ (by omega)
          rw [Nat.add_mul] at this
          omega
        have h0 := hz _ hk
        have e1 : ((l - (i + 1)) * (m + q + 1) + b) / (m + q + 1) = l - (i + 1) := by
          rw [Nat.add_comm, Nat.add_mul_div_right _ _ (by omega), Nat.div_eq_of_lt (by omega)]
          omega
        have e2 : ((l - (i + 1)) * (m + q + 1) + b) % (m + q + 1) = b := by
          rw [Nat.add_comm, Nat.add_mul_mod_self_right]
          exact Nat.mod_eq_of_lt (by omega)
        have h0 : ((@pr_mul (PR F) (PRr F) (xp x 0 u (m + 1)) A0).1 (i + 1 + ((l - (i + 1)) * (m + q + 1) + b) / (m + q + 1))).1 (((l - (i + 1)) * (m + q + 1) + b) % (m + q + 1)) + ((@pr_mul (PR F) (PRr F) (xp x u v (m + 1)) B0).1 (i + 1 + ((l - (i + 1)) * (m + q + 1) + b) / (m + q + 1))).1 (((l - (i + 1)) * (m + q + 1) + b) % (m + q + 1)) = 0 := h0
        rw [e1, e2, show i + 1 + (l - (i + 1)) = l by omega] at h0
        exact h0
      · have hT : @xl _ (PRr F) (@pr_add _ (PRr F) (@pr_mul _ (PRr F) (xp x 0 u (m + 1)) A0) (@pr_mul _ (PRr F) (xp x u v (m + 1)) B0)) (i + 1 + n) := @xl_add _ (PRr F) _ _ _ (@xl_mono _ (PRr F) _ _ _ (@xl_mul _ (PRr F) _ _ _ _ (hUx 0 u) hA) (by omega)) (@xl_mono _ (PRr F) _ _ _ (@xl_mul _ (PRr F) _ _ _ _ (hUx u v) hB) (by omega))
        have := hT l (by omega)
        rw [this]
        exact pz_i b
  · have h3 : q * (n0 + n1 - 2 * i) + 1 = m + q + 1 := by
      rw [hm, show n0 + n1 - 2 * i = n + 1 by omega, Nat.mul_add]
      omega
    rw [h3]
    exact hy l
