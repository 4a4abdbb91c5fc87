set_option maxRecDepth 100000
/-! degrees; domains -/
def xl {α : Type} [Lean.Grind.CommRing α] (f : PR α) (n : Nat) : Prop := ∀ i, n ≤ i → f.1 i = 0
def xd {α : Type} [Lean.Grind.CommRing α] (f : PR α) (d : Nat) : Prop := f.1 d ≠ 0 ∧ xl f (d + 1)
def dm (α : Type) [Lean.Grind.CommRing α] : Prop := ∀ a b : α, a * b = 0 → a = 0 ∨ b = 0
def fd (α : Type) [Lean.Grind.CommRing α] : Prop := (1 : α) ≠ 0 ∧ ∀ a : α, a ≠ 0 → ∃ b : α, a * b = 1
def pz {α : Type} [Lean.Grind.CommRing α] : PR α := pr_c 0
theorem pz_i {α : Type} [Lean.Grind.CommRing α] (i : Nat) : (pz : PR α).1 i = 0 := by
  show (if i = 0 then (0 : α) else 0) = 0
  rw [ite_self]
theorem xl_mono {α : Type} [Lean.Grind.CommRing α] {f : PR α} {n m : Nat} (h : xl f n) (hm : n ≤ m) : xl f m := fun i hi => h i (by omega)
theorem xl_0 {α : Type} [Lean.Grind.CommRing α] {f : PR α} (h : xl f 0) : f = pz := pr_ext fun i => by rw [pz_i]; exact h i (by omega)
theorem xl_pz {α : Type} [Lean.Grind.CommRing α] (n : Nat) : xl (pz : PR α) n := fun i _ => pz_i i
theorem xl_add {α : Type} [Lean.Grind.CommRing α] {f g : PR α} {n : Nat} (hf : xl f n) (hg : xl g n) : xl (pr_add f g) n := fun i hi => by
  show f.1 i + g.1 i = 0
  rw [hf i hi, hg i hi]; grind
theorem xl_neg {α : Type} [Lean.Grind.CommRing α] {f : PR α} {n : Nat} (hf : xl f n) : xl (pr_neg f) n := fun i hi => by
  show - f.1 i = 0
  rw [hf i hi]; grind
theorem xl_mul {α : Type} [Lean.Grind.CommRing α] {f g : PR α} {n m : Nat} (hf : xl f n) (hg : xl g (m + 1)) : xl (pr_mul f g) (n + m) := fun k hk => by
  refine sg_0 (fun i hi => ?_)
  by_cases h : n ≤ i
  · rw [hf i h]; grind
  · rw [hg (k - i) (by omega)]; grind
theorem xl_c {α : Type} [Lean.Grind.CommRing α] (a : α) : xl (pr_c a) 1 := fun i hi => if_neg (by omega)
theorem xl_cm {α : Type} [Lean.Grind.CommRing α] {a : α} {f : PR α} {n : Nat} (h : xl f n) : xl (pr_mul (pr_c a) f) n := fun i hi => by
  rw [pr_mul_c, h i hi]; grind
theorem lead_mul {α : Type} [Lean.Grind.CommRing α] {f g : PR α} {d e : Nat} (hf : xl f (d + 1)) (hg : xl g (e + 1)) : (pr_mul f g).1 (d + e) = f.1 d * g.1 e := by
  show sg (fun i => f.1 i * g.1 (d + e - i)) (d + e + 1) = _
  rw [sg_1 (k := d) (by omega) (fun i hi hn => ?_)]
  · rw [show d + e - d = e by omega]
  · by_cases h : d < i
    · rw [hf i (by omega)]; grind
    · rw [hg (d + e - i) (by omega)]; grind
theorem xd_of {α : Type} [Lean.Grind.CommRing α] {f : PR α} {j : Nat} (hj : f.1 j ≠ 0) : ∃ d, j ≤ d ∧ xd f d := by
  obtain ⟨n, hn⟩ := f.2
  have key : ∀ m, ∀ j, f.1 j ≠ 0 → n - j ≤ m → ∃ d, j ≤ d ∧ xd f d := by
    intro m
    induction m with
    | zero =>
      intro j hj hm
      exact absurd (hn j (by omega)) hj
    | succ m ih =>
      intro j hj hm
      by_cases h : ∃ k, j < k ∧ f.1 k ≠ 0
      · obtain ⟨k, hk, hk2⟩ := h
        obtain ⟨d, hd, hx⟩ := ih k hk2 (by omega)
        exact ⟨d, by omega, hx⟩
      · refine ⟨j, Nat.le_refl _, hj, fun i hi => ?_⟩
        by_cases h2 : f.1 i = 0
        · exact h2
        · exact absurd ⟨i, by omega, h2⟩ h
  exact key (n - j) j hj (Nat.le_refl _)
theorem ne_pz {α : Type} [Lean.Grind.CommRing α] {f : PR α} (h : f ≠ pz) : ∃ j, f.1 j ≠ 0 := Classical.byContradiction fun hc => h (pr_ext fun i => by
  rw [pz_i]
  exact Classical.byContradiction fun h2 => hc ⟨i, h2⟩)
theorem xd_ne {α : Type} [Lean.Grind.CommRing α] {f : PR α} {d : Nat} (h : xd f d) : f ≠ pz := fun e => h.1 (by rw [e]; exact pz_i d)
theorem xd_uni {α : Type} [Lean.Grind.CommRing α] {f : PR α} {d e : Nat} (h : xd f d) (h2 : xd f e) : d = e := by
  rcases Nat.lt_trichotomy d e with q | q | q
  · exact absurd (h.2 e q) h2.1
  · exact q
  · exact absurd (h2.2 d q) h.1
theorem dm_fd {α : Type} [Lean.Grind.CommRing α] (h : fd α) : dm α := fun a b hab => Classical.byContradiction fun hc => by
  have h1 : a ≠ 0 := fun e => hc (Or.inl e)
  obtain ⟨c, hcc⟩ := h.2 a h1
  refine hc (Or.inr ?_)
  have : b = c * (a * b) := by grind
  rw [this, hab]; grind
theorem dm_pr {α : Type} [Lean.Grind.CommRing α] (h : dm α) (f g : PR α) (hfg : pr_mul f g = pz) : f = pz ∨ g = pz := Classical.byContradiction fun hc => by
  have h1 : f ≠ pz := fun e => hc (Or.inl e)
  have h2 : g ≠ pz := fun e => hc (Or.inr e)
  obtain ⟨j, hj⟩ := ne_pz h1
  obtain ⟨d, _, hd⟩ := xd_of hj
  obtain ⟨k, hk⟩ := ne_pz h2
  obtain ⟨e, _, he⟩ := xd_of hk
  have q := lead_mul hd.2 he.2
  rw [hfg, pz_i] at q
  rcases h _ _ q.symm with z | z
  · exact hd.1 z
  · exact he.1 z
theorem dm_PR {α : Type} [Lean.Grind.CommRing α] (h : dm α) : @dm (PR α) (PRr α) := fun f g hfg => dm_pr h f g hfg
theorem xd_mul {α : Type} [Lean.Grind.CommRing α] (h : dm α) {f g : PR α} {d e : Nat} (hf : xd f d) (hg : xd g e) : xd (pr_mul f g) (d + e) := by
  refine ⟨fun q => ?_, ?_⟩
  · rw [lead_mul hf.2 hg.2] at q
    rcases h _ _ q with z | z
    · exact hf.1 z
    · exact hg.1 z
  · have := xl_mul hf.2 hg.2
    exact xl_mono this (by omega)
/-- a factor's degree out of a product's -/
theorem xl_div {α : Type} [Lean.Grind.CommRing α] (h : dm α) {f g : PR α} {e n : Nat} (hg : xd g e) (hfg : xl (pr_mul f g) n) : xl f (n - e) := fun i hi => Classical.byContradiction fun hc => by
  obtain ⟨d, hd, hx⟩ := xd_of hc
  exact (xd_mul h hx hg).1 (hfg (d + e) (by omega))
theorem pr_c_ne {α : Type} [Lean.Grind.CommRing α] {a : α} (h : a ≠ 0) : pr_c a ≠ pz := fun e => h (by
  have := congrArg (fun f : PR α => f.1 0) e
  exact this)
theorem xl1_c {α : Type} [Lean.Grind.CommRing α] {f : PR α} (h : xl f 1) : f = pr_c (f.1 0) := pr_ext fun i => by
  show f.1 i = if i = 0 then f.1 0 else 0
  by_cases e : i = 0
  · rw [if_pos e, e]
  · rw [if_neg e]; exact h i (by omega)
/-- X^t -/
def px {α : Type} [Lean.Grind.CommRing α] (t : Nat) : PR α := ⟨fun i => if i = t then 1 else 0, t + 1, fun i hi => if_neg (by omega)⟩
theorem px_mul {α : Type} [Lean.Grind.CommRing α] (t : Nat) (f : PR α) (k : Nat) : (pr_mul (px t) f).1 k = if t ≤ k then f.1 (k - t) else 0 := by
  show sg (fun i => (if i = t then (1 : α) else 0) * f.1 (k - i)) (k + 1) = _
  by_cases h : t ≤ k
  · rw [if_pos h, sg_1 (k := t) (by omega) (fun i _ hi => by rw [if_neg hi]; grind), if_pos rfl]; grind
  · rw [if_neg h]
    exact sg_0 (fun i hi => by rw [if_neg (by omega)]; grind)
/-- nothing but 0 goes into 0 by a number -/
theorem pr_can {α : Type} [Lean.Grind.CommRing α] (h : dm α) {c : PR α} (hc : c ≠ pz) {f g : PR α} (e : pr_mul c f = pr_mul c g) : f = g := by
  letI := PRr α
  have e : c * f = c * g := e
  have : c * (f - g) = 0 := by grind
  rcases dm_pr h c (f - g) this with z | z
  · exact absurd z hc
  · have z : f - g = 0 := z
    grind
theorem dm_can {α : Type} [Lean.Grind.CommRing α] (h : dm α) {c a b : α} (hc : c ≠ 0) (e : c * a = c * b) : a = b := by
  have : c * (a - b) = 0 := by grind
  rcases h c (a - b) this with z | z
  · exact absurd z hc
  · grind
