set_option maxRecDepth 100000
/-! numbers by a prime as a field; products as they are gathered -/
theorem fin_ma {p : Nat} [NeZero p] (a b c : Fin p) : (c + a * b).val = (c.val + a.val * b.val) % p := by
  rw [Fin.val_add, Fin.val_mul, Nat.add_mod_mod]
theorem fin_ms {p : Nat} [NeZero p] (a b c : Fin p) : (c - a * b).val = (c.val + (p - a.val) * b.val) % p := by
  rw [Fin.val_sub, Fin.val_mul, Nat.add_comm, Nat.add_mod, Nat.add_mod c.val ((p - a.val) * b.val)]
  congr 2
  have hp : 0 < p := Nat.pos_of_ne_zero (NeZero.ne p)
  have h1 := Nat.mod_lt (a.val * b.val) hp
  have h2 := Nat.div_add_mod (a.val * b.val) p
  refine md_can (C := a.val * b.val) (s := a.val * b.val / p + 1) (t := b.val) ?_ ?_
  · rw [Nat.mul_add, Nat.mul_one]; omega
  · rw [← Nat.add_mul, Nat.sub_add_cancel (Nat.le_of_lt a.isLt)]
theorem nF_lt {p : Nat} (hp : p ≤ 97) (a b : Fin p) : a.val < 97 ∧ a.val * b.val < 9409 := ⟨by have := a.isLt; omega, mul97 (by have := a.isLt; omega) (by have := b.isLt; omega)⟩
theorem nF_ma {p : Nat} [NeZero p] (hp : p ≤ 97) (a b c : Fin p) : jrem (nI c.val + nI a.val * nI b.val) (nI p) = nI (c + a * b).val := by
  have h1 := nF_lt hp a b
  have h2 := nF_lt hp c c
  have h0 : 0 < p := Nat.pos_of_ne_zero (NeZero.ne p)
  rw [pk_mul, nI_add, n_rem (by omega) h0 (by omega), fin_ma]
theorem nF_mm {p : Nat} [NeZero p] (hp : p ≤ 97) (a b : Fin p) : jrem (nI a.val * nI b.val) (nI p) = nI (a * b).val := by
  have h1 := nF_lt hp a b
  have h0 : 0 < p := Nat.pos_of_ne_zero (NeZero.ne p)
  rw [pk_mul, n_rem (by omega) h0 (by omega), Fin.val_mul]
theorem nF_ms {p : Nat} [NeZero p] (hp : p ≤ 97) (a b c : Fin p) : jrem (nI c.val + (nI p - nI a.val) * nI b.val) (nI p) = nI (c - a * b).val := by
  have h2 := nF_lt hp c c
  have h3 := nF_lt hp b b
  have h0 : 0 < p := Nat.pos_of_ne_zero (NeZero.ne p)
  have h4 : (p - a.val) * b.val ≤ 97 * 97 := Nat.mul_le_mul (by omega) (by omega)
  rw [pk_sub (Nat.le_of_lt a.isLt), pk_mul, nI_add, n_rem (by omega) h0 (by omega), fin_ms]
theorem nF_0 {p : Nat} [NeZero p] (a : Fin p) (hp : p ≤ 97) : nI a.val = 0 ↔ a = 0 := by
  have h2 := nF_lt hp a a
  rw [li_0, nI_eq (by omega) (by omega)]
  exact ⟨fun h => Fin.ext h, fun h => by rw [h]; rfl⟩
/-- the inverse -/
def fiv {p : Nat} [NeZero p] (a : Fin p) : Fin p := Fin.ofNat p (iv p a.val)
theorem fpos {p : Nat} [NeZero p] {a : Fin p} (h : a ≠ 0) : 0 < a.val := Nat.pos_of_ne_zero fun q => h (Fin.ext q)
theorem fiv_v {p : Nat} [NeZero p] (hp : pr p) {a : Fin p} (h : a ≠ 0) : (fiv a).val = iv p a.val := Nat.mod_eq_of_lt (iv_ok hp (fpos h) a.isLt).2.1
theorem fin_1 {p : Nat} [NeZero p] (hp : pr p) : (1 : Fin p).val = 1 := Nat.mod_eq_of_lt (show 1 < p by have := hp.1; omega)
theorem fiv_ok {p : Nat} [NeZero p] (hp : pr p) {a : Fin p} (h : a ≠ 0) : a * fiv a = 1 := Fin.ext (by
  rw [Fin.val_mul, fiv_v hp h, fin_1 hp, Nat.mul_comm]
  exact (iv_ok hp (fpos h) a.isLt).1)
theorem fin_10 {p : Nat} [NeZero p] (hp : pr p) : (1 : Fin p) ≠ 0 := fun e => by
  have := congrArg Fin.val e
  rw [fin_1 hp] at this
  exact absurd this (by show ¬ 1 = 0; omega)
theorem fdp {p : Nat} [NeZero p] (hp : pr p) : fd (Fin p) := ⟨fin_10 hp, fun a h => ⟨fiv a, fiv_ok hp h⟩⟩
theorem fiv_ne {p : Nat} [NeZero p] (hp : pr p) {a : Fin p} (h : a ≠ 0) : fiv a ≠ 0 := fun e => by
  have := fiv_ok hp h
  rw [e] at this
  have h2 : a * 0 = 0 := by grind
  rw [h2] at this
  exact fin_10 hp this.symm
/-- heights: one more than the degree; 0 of nothing -/
def hgt {F : Type} [Lean.Grind.CommRing F] (a : PR F) (n : Nat) : Prop := xl a n ∧ (n = 0 ∨ a.1 (n - 1) ≠ 0)
theorem hgt_0 {F : Type} [Lean.Grind.CommRing F] {a : PR F} (h : hgt a 0) : a = pz := xl_0 h.1
theorem hgt_pz {F : Type} [Lean.Grind.CommRing F] {n : Nat} (h : hgt (pz : PR F) n) : n = 0 := h.2.resolve_right fun q => q (pz_i _)
theorem hgt_xd {F : Type} [Lean.Grind.CommRing F] {a : PR F} {d : Nat} (h : hgt a (d + 1)) : xd a d := ⟨h.2.resolve_left (by omega), h.1⟩
theorem xd_hgt {F : Type} [Lean.Grind.CommRing F] {a : PR F} {d : Nat} (h : xd a d) : hgt a (d + 1) := ⟨h.2, Or.inr h.1⟩
theorem hgt_uni {F : Type} [Lean.Grind.CommRing F] {a : PR F} {n m : Nat} (h : hgt a n) (h2 : hgt a m) : n = m := by
  cases n with
  | zero =>
    rw [hgt_0 h] at h2
    exact (hgt_pz h2).symm
  | succ n =>
    cases m with
    | zero =>
      rw [hgt_0 h2] at h
      exact hgt_pz h
    | succ m => rw [xd_uni (hgt_xd h) (hgt_xd h2)]
theorem hgt_ex {F : Type} [Lean.Grind.CommRing F] (a : PR F) : ∃ n, hgt a n := by
  by_cases h : a = pz
  · exact ⟨0, by rw [h]; exact xl_pz 0, Or.inl rfl⟩
  · obtain ⟨j, hj⟩ := ne_pz h
    obtain ⟨d, _, hd⟩ := xd_of hj
    exact ⟨d + 1, xd_hgt hd⟩
theorem hgt_le {F : Type} [Lean.Grind.CommRing F] {a : PR F} {n m : Nat} (h : hgt a n) (h2 : xl a m) : n ≤ m := by
  rcases h.2 with z | z
  · omega
  · exact Classical.byContradiction fun q => z (h2 (n - 1) (by omega))
/-- the number told for a height -/
def hI (n : Nat) : Int32 := nI n + (-1)
theorem hI_s (m : Nat) : hI (m + 1) = nI m := by
  unfold hI
  rw [z_nI, z_m1, z_add, z_nI]
  congr 1
  omega
theorem hI_0 : hI 0 = -1 := by decide
theorem hI_z (n : Nat) : hI n = zI ((n : Int) - 1) := by
  unfold hI
  rw [z_nI, z_m1, z_add]
  rfl
theorem hI_eq0 {n : Nat} (h : n < 2 ^ 31) : hI n = -1 ↔ n = 0 := by
  rw [hI_z, z_m1, z_eq (by omega) (by omega)]
  omega
theorem hI_lt0 {n : Nat} (h : n < 2 ^ 31) : hI n < 0 ↔ n = 0 := by
  rw [hI_z, z_0, z_lt (by omega) (by omega)]
  omega
theorem hI_ltn {n d : Nat} (h : n < 2 ^ 31) (hd : d < 2 ^ 31) : hI n < nI d ↔ n ≤ d := by
  rw [hI_z, z_nI, z_lt (by omega) (by omega)]
  omega
theorem hI_nle {n d : Nat} (h : n < 2 ^ 31) (hd : d < 2 ^ 31) : nI d ≤ hI n ↔ d < n := by
  rw [hI_z, z_nI, z_le (by omega) (by omega)]
  omega
theorem hI_eqn {n d : Nat} (h : n < 2 ^ 31) (hd : d < 2 ^ 31) : hI n = nI d ↔ n = d + 1 := by
  rw [hI_z, z_nI, z_eq (by omega) (by omega)]
  omega
theorem hI_lth {n m : Nat} (h : n < 2 ^ 31) (hm : m < 2 ^ 31) : hI n < hI m ↔ n < m := by
  rw [hI_z, hI_z, z_lt (by omega) (by omega)]
  omega
theorem hI_leh {n m : Nat} (h : n < 2 ^ 31) (hm : m < 2 ^ 31) : hI n ≤ hI m ↔ n ≤ m := by
  rw [hI_z, hI_z, z_le (by omega) (by omega)]
  omega
/-- products as they are gathered: full rows below I; of row I so many -/
def pac {F : Type} [Lean.Grind.CommRing F] (A R : Nat → F) (I j : Nat) : F := sg (fun i => if i ≤ j then A i * R (j - i) else 0) I
def pap {F : Type} [Lean.Grind.CommRing F] (A R : Nat → F) (I k j : Nat) : F := if I ≤ j ∧ j < I + k then A I * R (j - I) else 0
theorem sg_cut {F : Type} [Lean.Grind.CommRing F] {f : Nat → F} {n m : Nat} (h : n ≤ m) (h0 : ∀ i, n ≤ i → i < m → f i = 0) : sg f m = sg f n := by
  induction m with
  | zero => rw [show n = 0 by omega]
  | succ m ih =>
    by_cases e : n = m + 1
    · rw [e]
    · rw [sg_s, h0 m (by omega) (by omega), ih (by omega) (fun i a b => h0 i a (by omega))]; grind
theorem pac_mul {F : Type} [Lean.Grind.CommRing F] {A R : PR F} {n : Nat} (h : xl A n) (j : Nat) : pac A.1 R.1 n j = (pr_mul A R).1 j := by
  unfold pac
  show _ = sg (fun i => A.1 i * R.1 (j - i)) (j + 1)
  have e1 : sg (fun i => if i ≤ j then A.1 i * R.1 (j - i) else 0) (n + (j + 1)) = sg (fun i => if i ≤ j then A.1 i * R.1 (j - i) else 0) n := sg_cut (by omega) (fun i a b => by
    by_cases w : i ≤ j
    · rw [if_pos w, h i a]; grind
    · rw [if_neg w])
  have e2 : sg (fun i => if i ≤ j then A.1 i * R.1 (j - i) else 0) (n + (j + 1)) = sg (fun i => if i ≤ j then A.1 i * R.1 (j - i) else 0) (j + 1) := sg_cut (by omega) (fun i a b => if_neg (by omega))
  rw [← e1, e2]
  exact sg_ext fun i hi => if_pos (by omega)
theorem pac_0 {F : Type} [Lean.Grind.CommRing F] (A R : Nat → F) (j : Nat) : pac A R 0 j = 0 := rfl
theorem pap_0 {F : Type} [Lean.Grind.CommRing F] (A R : Nat → F) (I j : Nat) : pap A R I 0 j = 0 := if_neg (by omega)
theorem pac_s {F : Type} [Lean.Grind.CommRing F] {A : Nat → F} {R : PR F} {I n j : Nat} (h : xl R n) : pac A R.1 (I + 1) j = pac A R.1 I j + pap A R.1 I n j := by
  show pac A R.1 I j + (if I ≤ j then A I * R.1 (j - I) else 0) = _
  congr 1
  unfold pap
  by_cases w : I ≤ j
  · rw [if_pos w]
    by_cases w2 : j < I + n
    · rw [if_pos ⟨w, w2⟩]
    · rw [if_neg (fun z => w2 z.2), h (j - I) (by omega)]; grind
  · rw [if_neg w, if_neg (fun z => w z.1)]
theorem pap_at {F : Type} [Lean.Grind.CommRing F] (A R : Nat → F) (I k : Nat) : pap A R I k (I + k) = 0 ∧ pap A R I (k + 1) (I + k) = A I * R k := by
  unfold pap
  refine ⟨if_neg (by omega), ?_⟩
  rw [if_pos (by omega), show I + k - I = k by omega]
theorem pap_ne {F : Type} [Lean.Grind.CommRing F] {A R : Nat → F} {I k j : Nat} (h : j ≠ I + k) : pap A R I (k + 1) j = pap A R I k j := by
  unfold pap
  by_cases w : I ≤ j ∧ j < I + k
  · rw [if_pos w, if_pos (by omega)]
  · rw [if_neg w, if_neg (by omega)]
/-- what a divisor leaves below its degree is nothing -/
theorem dv_low {F : Type} [Lean.Grind.CommRing F] (hF : dm F) {b c : PR F} {d : Nat} (h : dv b c) (hb : xd b d) (hc : xl c d) : c = pz := Classical.byContradiction fun hz => by
  obtain ⟨q, e⟩ := h
  have hq : q ≠ pz := fun w => hz (by rw [e, w]; exact pr_zero b)
  obtain ⟨j, hj⟩ := ne_pz hq
  obtain ⟨d', _, hd'⟩ := xd_of hj
  have hx := xd_mul hF hd' hb
  rw [← e] at hx
  exact hx.1 (hc _ (by omega))
/-- a lead is taken off: a less t times X^s times b -/
def tof {F : Type} [Lean.Grind.CommRing F] (a b : PR F) (t : F) (s : Nat) : PR F := pr_add a (pr_neg (pr_mul (pr_c t) (pr_mul (px s) b)))
theorem tof_at {F : Type} [Lean.Grind.CommRing F] (a b : PR F) (t : F) (s i : Nat) : (tof a b t s).1 i = a.1 i - t * (if s ≤ i then b.1 (i - s) else 0) := by
  show a.1 i + - ((pr_mul (pr_c t) (pr_mul (px s) b)).1 i) = _
  rw [pr_mul_c, px_mul]; grind
theorem tof_eq {F : Type} [Lean.Grind.CommRing F] {a0 a b q : PR F} {t : F} {s : Nat} (h : a0 = pr_add (pr_mul q b) a) : a0 = pr_add (pr_mul (pr_add q (pr_mul (pr_c t) (px s))) b) (tof a b t s) := by
  rw [h]
  unfold tof
  letI := PRr F
  generalize pr_c t = t
  generalize (px s : PR F) = x
  show q * b + a = (q + t * x) * b + (a + - (t * (x * b)))
  grind
theorem tof_xl {F : Type} [Lean.Grind.CommRing F] {a b : PR F} {t : F} {d m : Nat} (ha : xl a (m + 1)) (hb : xl b (d + 1)) (hm : d ≤ m) (ht : t * b.1 d = a.1 m) : xl (tof a b t (m - d)) m := fun i hi => by
  rw [tof_at, if_pos (by omega)]
  by_cases e : i = m
  · rw [e, show m - (m - d) = d by omega, ht]; grind
  · rw [ha i (by omega), hb (i - (m - d)) (by omega)]; grind
/-- the same, so far -/
theorem tof_part {F : Type} [Lean.Grind.CommRing F] {a b : PR F} {t : F} {d s : Nat} (hb : xl b (d + 1)) (i : Nat) : (if s ≤ i ∧ i < s + (d + 1) then a.1 i - t * b.1 (i - s) else a.1 i) = (tof a b t s).1 i := by
  rw [tof_at]
  by_cases w : s ≤ i
  · rw [if_pos w]
    by_cases w2 : i < s + (d + 1)
    · rw [if_pos ⟨w, w2⟩]
    · rw [if_neg (fun z => w2 z.2), hb (i - s) (by omega)]; grind
  · rw [if_neg w, if_neg (fun z => w z.1)]; grind
