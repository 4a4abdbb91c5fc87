set_option maxRecDepth 100000
/-! finite sums and polynomials over a ring (plain mathematics) -/
def sg {α : Type} [Lean.Grind.CommRing α] (f : Nat → α) : Nat → α
  | 0 => 0
  | n + 1 => sg f n + f n
theorem sg_s {α : Type} [Lean.Grind.CommRing α] (f : Nat → α) (n : Nat) : sg f (n + 1) = sg f n + f n := rfl
theorem sg_z {α : Type} [Lean.Grind.CommRing α] (f : Nat → α) : sg f 0 = 0 := rfl
theorem sg_ext {α : Type} [Lean.Grind.CommRing α] {f g : Nat → α} {n : Nat} (h : ∀ i, i < n → f i = g i) : sg f n = sg g n := by
  induction n with
  | zero => rfl
  | succ n ih => rw [sg_s, sg_s, ih (fun i hi => h i (Nat.lt_succ_of_lt hi)), h n (Nat.lt_succ_self n)]
theorem sg_add {α : Type} [Lean.Grind.CommRing α] (f g : Nat → α) (n : Nat) : sg (fun i => f i + g i) n = sg f n + sg g n := by
  induction n with
  | zero => rw [sg_z, sg_z, sg_z]; grind
  | succ n ih => rw [sg_s, sg_s, sg_s, ih]; grind
theorem sg_neg {α : Type} [Lean.Grind.CommRing α] (f : Nat → α) (n : Nat) : sg (fun i => - f i) n = - sg f n := by
  induction n with
  | zero => rw [sg_z, sg_z]; grind
  | succ n ih => rw [sg_s, sg_s, ih]; grind
theorem sg_L {α : Type} [Lean.Grind.CommRing α] (c : α) (f : Nat → α) (n : Nat) : sg (fun i => c * f i) n = c * sg f n := by
  induction n with
  | zero => rw [sg_z, sg_z]; grind
  | succ n ih => rw [sg_s, sg_s, ih]; grind
theorem sg_R {α : Type} [Lean.Grind.CommRing α] (c : α) (f : Nat → α) (n : Nat) : sg (fun i => f i * c) n = sg f n * c := by
  induction n with
  | zero => rw [sg_z, sg_z]; grind
  | succ n ih => rw [sg_s, sg_s, ih]; grind
theorem sg_0 {α : Type} [Lean.Grind.CommRing α] {f : Nat → α} {n : Nat} (h : ∀ i, i < n → f i = 0) : sg f n = 0 := by
  induction n with
  | zero => rfl
  | succ n ih => rw [sg_s, ih (fun i hi => h i (Nat.lt_succ_of_lt hi)), h n (Nat.lt_succ_self n)]; grind
theorem sg_1 {α : Type} [Lean.Grind.CommRing α] {f : Nat → α} {n k : Nat} (hk : k < n) (h : ∀ i, i < n → i ≠ k → f i = 0) : sg f n = f k := by
  induction n with
  | zero => omega
  | succ n ih =>
    rw [sg_s]
    by_cases e : k = n
    · subst e
      rw [sg_0 (fun i hi => h i (by omega) (by omega))]; grind
    · rw [ih (by omega) (fun i hi hn => h i (by omega) hn), h n (by omega) (by omega)]; grind
theorem sg_cat {α : Type} [Lean.Grind.CommRing α] (f : Nat → α) (n m : Nat) : sg f (n + m) = sg f n + sg (fun i => f (n + i)) m := by
  induction m with
  | zero => rw [sg_z]; show sg f n = _; grind
  | succ m ih => show sg f (n + m) + f (n + m) = _; rw [ih, sg_s]; grind
theorem sg_front {α : Type} [Lean.Grind.CommRing α] (f : Nat → α) (n : Nat) : sg f (n + 1) = f 0 + sg (fun i => f (i + 1)) n := by
  induction n with
  | zero => rw [sg_s, sg_z, sg_z]; grind
  | succ n ih => rw [sg_s, ih, sg_s]; grind
theorem sg_rev {α : Type} [Lean.Grind.CommRing α] (f : Nat → α) (n : Nat) : sg f (n + 1) = sg (fun i => f (n - i)) (n + 1) := by
  induction n generalizing f with
  | zero => rfl
  | succ n ih =>
    rw [sg_front f (n + 1), ih (fun i => f (i + 1)), sg_s (fun i => f (n + 1 - i)) (n + 1)]
    rw [sg_ext (f := fun i => f (n + 1 - i)) (g := fun i => f (n - i + 1)) (n := n + 1) (fun i hi => by congr 1; omega)]
    rw [Nat.sub_self]; grind
theorem sg_tri {α : Type} [Lean.Grind.CommRing α] (f : Nat → Nat → α) (n : Nat) : sg (fun i => sg (f i) (n + 1 - i)) (n + 1) = sg (fun k => sg (fun i => f i (k - i)) (k + 1)) (n + 1) := by
  induction n with
  | zero => rfl
  | succ n ih =>
    rw [sg_s (fun k => sg (fun i => f i (k - i)) (k + 1)), ← ih, sg_s (fun i => sg (f i) (n + 1 + 1 - i))]
    rw [sg_ext (f := fun i => sg (f i) (n + 1 + 1 - i)) (g := fun i => sg (f i) (n + 1 - i) + f i (n + 1 - i)) (n := n + 1) (fun i hi => by
      show sg (f i) (n + 1 + 1 - i) = _
      rw [show n + 1 + 1 - i = (n + 1 - i) + 1 by omega]; rfl)]
    rw [sg_add, sg_s (fun i => f i (n + 1 - i)) (n + 1), show n + 1 + 1 - (n + 1) = 0 + 1 by omega, sg_s (f (n + 1)) 0, sg_z, Nat.sub_self]
    grind
theorem sg_swap {α : Type} [Lean.Grind.CommRing α] (f : Nat → Nat → α) (n m : Nat) : sg (fun i => sg (f i) m) n = sg (fun j => sg (fun i => f i j) n) m := by
  induction n with
  | zero => rw [sg_z]; exact (sg_0 (fun i _ => rfl)).symm
  | succ n ih =>
    rw [sg_s, ih, ← sg_add]
    rfl
/-- polynomials -/
def PR (α : Type) [Lean.Grind.CommRing α] : Type := {f : Nat → α // ∃ n, ∀ i, n ≤ i → f i = 0}
theorem pr_ext {α : Type} [Lean.Grind.CommRing α] {f g : PR α} (h : ∀ i, f.1 i = g.1 i) : f = g := Subtype.ext (funext h)
def pr_c {α : Type} [Lean.Grind.CommRing α] (a : α) : PR α := ⟨fun i => if i = 0 then a else 0, 1, fun i hi => if_neg (by omega)⟩
def pr_add {α : Type} [Lean.Grind.CommRing α] (f g : PR α) : PR α := ⟨fun i => f.1 i + g.1 i, by
  obtain ⟨n, hn⟩ := f.2
  obtain ⟨m, hm⟩ := g.2
  refine ⟨n + m, fun i hi => ?_⟩
  show f.1 i + g.1 i = 0
  rw [hn i (by omega), hm i (by omega)]; grind⟩
def pr_neg {α : Type} [Lean.Grind.CommRing α] (f : PR α) : PR α := ⟨fun i => - f.1 i, by
  obtain ⟨n, hn⟩ := f.2
  refine ⟨n, fun i hi => ?_⟩
  show - f.1 i = 0
  rw [hn i (by omega)]; grind⟩
def pr_mul {α : Type} [Lean.Grind.CommRing α] (f g : PR α) : PR α := ⟨fun k => sg (fun i => f.1 i * g.1 (k - i)) (k + 1), by
  obtain ⟨n, hn⟩ := f.2
  obtain ⟨m, hm⟩ := g.2
  refine ⟨n + m, fun k hk => sg_0 (fun i hi => ?_)⟩
  by_cases h : n ≤ i
  · rw [hn i h]; grind
  · rw [hm (k - i) (by omega)]; grind⟩
def pr_pow {α : Type} [Lean.Grind.CommRing α] (f : PR α) : Nat → PR α
  | 0 => pr_c 1
  | n + 1 => pr_mul (pr_pow f n) f
theorem pr_mul_c {α : Type} [Lean.Grind.CommRing α] (a : α) (f : PR α) (k : Nat) : (pr_mul (pr_c a) f).1 k = a * f.1 k := by
  show sg (fun i => (if i = 0 then a else 0) * f.1 (k - i)) (k + 1) = _
  rw [sg_1 (k := 0) (by omega) (fun i _ hi => by rw [if_neg hi]; grind)]
  rw [if_pos rfl, Nat.sub_zero]
theorem pr_mul_comm {α : Type} [Lean.Grind.CommRing α] (f g : PR α) : pr_mul f g = pr_mul g f := by
  apply pr_ext
  intro k
  show sg (fun i => f.1 i * g.1 (k - i)) (k + 1) = sg (fun i => g.1 i * f.1 (k - i)) (k + 1)
  rw [sg_rev]
  refine sg_ext (fun i hi => ?_)
  rw [show k - (k - i) = i by omega]; grind
theorem pr_mul_assoc {α : Type} [Lean.Grind.CommRing α] (f g h : PR α) : pr_mul (pr_mul f g) h = pr_mul f (pr_mul g h) := by
  apply pr_ext
  intro n
  show sg (fun k => sg (fun i => f.1 i * g.1 (k - i)) (k + 1) * h.1 (n - k)) (n + 1) = sg (fun i => f.1 i * sg (fun j => g.1 j * h.1 (n - i - j)) (n - i + 1)) (n + 1)
  have e1 := sg_tri (fun i j => f.1 i * (g.1 j * h.1 (n - i - j))) n
  rw [sg_ext (f := fun i => f.1 i * sg (fun j => g.1 j * h.1 (n - i - j)) (n - i + 1)) (g := fun i => sg (fun j => f.1 i * (g.1 j * h.1 (n - i - j))) (n + 1 - i)) (fun i hi => by
    show f.1 i * _ = _
    rw [← sg_L, show n - i + 1 = n + 1 - i by omega])]
  rw [e1]
  refine sg_ext (fun k hk => ?_)
  show sg (fun i => f.1 i * g.1 (k - i)) (k + 1) * h.1 (n - k) = _
  rw [← sg_R]
  refine sg_ext (fun i hi => ?_)
  show f.1 i * g.1 (k - i) * h.1 (n - k) = f.1 i * (g.1 (k - i) * h.1 (n - i - (k - i)))
  rw [show n - i - (k - i) = n - k by omega]; grind
theorem pr_dist {α : Type} [Lean.Grind.CommRing α] (f g h : PR α) : pr_mul f (pr_add g h) = pr_add (pr_mul f g) (pr_mul f h) := by
  apply pr_ext
  intro n
  show sg (fun i => f.1 i * (g.1 (n - i) + h.1 (n - i))) (n + 1) = sg (fun i => f.1 i * g.1 (n - i)) (n + 1) + sg (fun i => f.1 i * h.1 (n - i)) (n + 1)
  rw [← sg_add]
  exact sg_ext (fun i _ => by grind)
theorem pr_one {α : Type} [Lean.Grind.CommRing α] (f : PR α) : pr_mul (pr_c 1) f = f := by
  apply pr_ext
  intro k
  rw [pr_mul_c]; grind
theorem pr_zero {α : Type} [Lean.Grind.CommRing α] (f : PR α) : pr_mul (pr_c 0) f = pr_c 0 := by
  apply pr_ext
  intro k
  rw [pr_mul_c]
  show _ = if k = 0 then (0 : α) else 0
  rw [ite_self]; grind
noncomputable abbrev PRr (α : Type) [Lean.Grind.CommRing α] : Lean.Grind.CommRing (PR α) where
  add := pr_add
  mul := pr_mul
  natCast := ⟨fun n => pr_c (OfNat.ofNat n)⟩
  ofNat := fun n => ⟨pr_c (OfNat.ofNat n)⟩
  nsmul := ⟨fun n f => pr_mul (pr_c (OfNat.ofNat n)) f⟩
  npow := ⟨fun f n => pr_pow f n⟩
  neg := pr_neg
  sub := fun f g => pr_add f (pr_neg g)
  intCast := ⟨fun i => pr_c (Lean.Grind.Ring.intCast.intCast i)⟩
  zsmul := ⟨fun i f => pr_mul (pr_c (Lean.Grind.Ring.intCast.intCast i)) f⟩
  add_zero := fun f => pr_ext fun i => by
    show f.1 i + (if i = 0 then (0 : α) else 0) = f.1 i
    rw [ite_self]; grind
  add_comm := fun f g => pr_ext fun i => by show f.1 i + g.1 i = g.1 i + f.1 i; grind
  add_assoc := fun f g h => pr_ext fun i => by show f.1 i + g.1 i + h.1 i = f.1 i + (g.1 i + h.1 i); grind
  mul_assoc := pr_mul_assoc
  mul_comm := pr_mul_comm
  mul_one := fun f => (pr_mul_comm f _).trans (pr_one f)
  one_mul := pr_one
  left_distrib := pr_dist
  right_distrib := fun f g h => by
    show pr_mul (pr_add f g) h = pr_add (pr_mul f h) (pr_mul g h)
    rw [pr_mul_comm, pr_dist, pr_mul_comm h f, pr_mul_comm h g]
  zero_mul := pr_zero
  mul_zero := fun f => (pr_mul_comm f _).trans (pr_zero f)
  pow_zero := fun f => rfl
  pow_succ := fun f n => rfl
  ofNat_succ := fun n => pr_ext fun i => by
    show (if i = 0 then (OfNat.ofNat (n + 1) : α) else 0) = (if i = 0 then (OfNat.ofNat n : α) else 0) + (if i = 0 then (1 : α) else 0)
    rw [Lean.Grind.Semiring.ofNat_succ]
    split
    · rfl
    · grind
  ofNat_eq_natCast := fun n => rfl
  nsmul_eq_natCast_mul := fun n f => rfl
  neg_add_cancel := fun f => pr_ext fun i => by
    show - f.1 i + f.1 i = (if i = 0 then (0 : α) else 0)
    rw [ite_self]; grind
  sub_eq_add_neg := fun f g => rfl
  neg_zsmul := fun i f => pr_ext fun k => by
    show (pr_mul (pr_c (Lean.Grind.Ring.intCast.intCast (-i))) f).1 k = - (pr_mul (pr_c (Lean.Grind.Ring.intCast.intCast i)) f).1 k
    rw [pr_mul_c, pr_mul_c]
    have e : (Lean.Grind.Ring.intCast.intCast (-i) : α) = - (Lean.Grind.Ring.intCast.intCast i : α) := Lean.Grind.Ring.intCast_neg i
    rw [e]; grind
  zsmul_natCast_eq_nsmul := fun n f => by
    show pr_mul (pr_c (Lean.Grind.Ring.intCast.intCast (n : Int))) f = pr_mul (pr_c (OfNat.ofNat n)) f
    have e : (Lean.Grind.Ring.intCast.intCast (n : Int) : α) = (OfNat.ofNat n : α) := Lean.Grind.Ring.intCast_ofNat n
    rw [e]
  intCast_ofNat := fun n => by
    show pr_c (Lean.Grind.Ring.intCast.intCast (n : Int)) = pr_c (OfNat.ofNat n)
    have e : (Lean.Grind.Ring.intCast.intCast (n : Int) : α) = (OfNat.ofNat n : α) := Lean.Grind.Ring.intCast_ofNat n
    rw [e]
  intCast_neg := fun i => pr_ext fun k => by
    show (if k = 0 then (Lean.Grind.Ring.intCast.intCast (-i) : α) else 0) = - (if k = 0 then (Lean.Grind.Ring.intCast.intCast i : α) else 0)
    have e : (Lean.Grind.Ring.intCast.intCast (-i) : α) = - (Lean.Grind.Ring.intCast.intCast i : α) := Lean.Grind.Ring.intCast_neg i
    rw [e]
    split
    · rfl
    · grind
