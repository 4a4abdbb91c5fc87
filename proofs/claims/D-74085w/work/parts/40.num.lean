set_option maxRecDepth 100000
/-! numbers; loops -/
theorem li_0 : (0 : Int32) = nI 0 := rfl
theorem li_1 : (1 : Int32) = nI 1 := rfl
theorem li_2 : (2 : Int32) = nI 2 := rfl
theorem li_3 : (3 : Int32) = nI 3 := rfl
theorem li_4 : (4 : Int32) = nI 4 := rfl
theorem li_5 : (5 : Int32) = nI 5 := rfl
theorem li_6 : (6 : Int32) = nI 6 := rfl
theorem li_7 : (7 : Int32) = nI 7 := rfl
theorem li_8 : (8 : Int32) = nI 8 := rfl
theorem li_9 : (9 : Int32) = nI 9 := rfl
theorem li_10 : (10 : Int32) = nI 10 := rfl
theorem li_11 : (11 : Int32) = nI 11 := rfl
theorem li_12 : (12 : Int32) = nI 12 := rfl
theorem li_13 : (13 : Int32) = nI 13 := rfl
theorem li_14 : (14 : Int32) = nI 14 := rfl
theorem li_15 : (15 : Int32) = nI 15 := rfl
theorem li_16 : (16 : Int32) = nI 16 := rfl
theorem li_17 : (17 : Int32) = nI 17 := rfl
theorem li_18 : (18 : Int32) = nI 18 := rfl
theorem li_20 : (20 : Int32) = nI 20 := rfl
theorem li_24 : (24 : Int32) = nI 24 := rfl
theorem li_31 : (31 : Int32) = nI 31 := rfl
theorem li_32 : (32 : Int32) = nI 32 := rfl
theorem li_43 : (43 : Int32) = nI 43 := rfl
theorem li_45 : (45 : Int32) = nI 45 := rfl
theorem li_48 : (48 : Int32) = nI 48 := rfl
theorem li_53 : (53 : Int32) = nI 53 := rfl
theorem li_57 : (57 : Int32) = nI 57 := rfl
theorem li_59 : (59 : Int32) = nI 59 := rfl
theorem li_60 : (60 : Int32) = nI 60 := rfl
theorem li_61 : (61 : Int32) = nI 61 := rfl
theorem li_63 : (63 : Int32) = nI 63 := rfl
theorem li_64 : (64 : Int32) = nI 64 := rfl
theorem li_72 : (72 : Int32) = nI 72 := rfl
theorem li_97 : (97 : Int32) = nI 97 := rfl
theorem li_98 : (98 : Int32) = nI 98 := rfl
theorem li_122 : (122 : Int32) = nI 122 := rfl
theorem li_255 : (255 : Int32) = nI 255 := rfl
theorem li_256 : (256 : Int32) = nI 256 := rfl
theorem li_500 : (500 : Int32) = nI 500 := rfl
theorem li_700 : (700 : Int32) = nI 700 := rfl
theorem li_2303 : (2303 : Int32) = nI 2303 := rfl
theorem li_2304 : (2304 : Int32) = nI 2304 := rfl
theorem li_4095 : (4095 : Int32) = nI 4095 := rfl
theorem li_4096 : (4096 : Int32) = nI 4096 := rfl
theorem li_10000 : (10000 : Int32) = nI 10000 := rfl
theorem li_24576 : (24576 : Int32) = nI 24576 := rfl
theorem li_32768 : (32768 : Int32) = nI 32768 := rfl
theorem li_36864 : (36864 : Int32) = nI 36864 := rfl
theorem li_65536 : (65536 : Int32) = nI 65536 := rfl
theorem n_rem {a d : Nat} (ha : a < 2 ^ 31) (h0 : 0 < d) (hd : d < 2 ^ 31) : jrem (nI a) (nI d) = nI (a % d) := pk_rem ha h0 hd
theorem n_div {a d : Nat} (ha : a < 2 ^ 31) (h0 : 0 < d) (hd : d < 2 ^ 31) : nI a / nI d = nI (a / d) := pk_div ha h0 hd
theorem n_tb (n : Nat) : (nI n).toBitVec = BitVec.ofNat 32 n := rfl
theorem n_ofB {x : Int32} {n : Nat} (h : x.toBitVec = BitVec.ofNat 32 n) : x = nI n := Int32.toBitVec_inj.1 h
theorem n_and (a b : Nat) : nI a &&& nI b = nI (a &&& b) := n_ofB (by
  rw [Int32.toBitVec_and, n_tb, n_tb]
  apply BitVec.eq_of_toNat_eq
  rw [BitVec.toNat_and, BitVec.toNat_ofNat, BitVec.toNat_ofNat, BitVec.toNat_ofNat, Nat.and_mod_two_pow])
theorem n_or (a b : Nat) : nI a ||| nI b = nI (a ||| b) := n_ofB (by
  rw [Int32.toBitVec_or, n_tb, n_tb]
  apply BitVec.eq_of_toNat_eq
  rw [BitVec.toNat_or, BitVec.toNat_ofNat, BitVec.toNat_ofNat, BitVec.toNat_ofNat, Nat.or_mod_two_pow])
theorem n_31 {k : Nat} (h : k < 32) : nI k &&& 31 = nI k := by
  rw [li_31, n_and, show (31 : Nat) = 2 ^ 5 - 1 from rfl, Nat.and_two_pow_sub_one_eq_mod, Nat.mod_eq_of_lt h]
theorem n_sm {k : Nat} (h : k < 32) : ((nI k).toBitVec.smod 32).toNat = k := by
  have : ∀ k, k < 32 → ((nI k).toBitVec.smod 32).toNat = k := by decide
  exact this k h
theorem n_shr {a k : Nat} (ha : a < 2 ^ 31) (h : k < 32) : jshr (nI a) (nI k) = nI (a / 2 ^ k) := by
  unfold jshr
  rw [n_31 h]
  exact pk_shrN ha (nI k) k (n_sm h)
theorem n_shl {a k : Nat} (h : k < 32) (ha : a * 2 ^ k < 2 ^ 32) : jshl (nI a) (nI k) = nI (a * 2 ^ k) := by
  unfold jshl
  rw [n_31 h]
  exact pk_shlN (nI k) k (n_sm h) ha
theorem n_ex {n i : Nat} {P : Nat → Prop} (hi : i < 2 ^ 31) (hn : n ≤ 2 ^ 31) : (∃ j, j < n ∧ nI i = nI j ∧ P j) ↔ (i < n ∧ P i) := by
  constructor
  · rintro ⟨j, h1, h2, h3⟩
    have := (nI_eq hi (by omega)).1 h2
    subst this
    exact ⟨h1, h3⟩
  · rintro ⟨h1, h2⟩
    exact ⟨i, h1, rfl, h2⟩
theorem n_m1 {n : Nat} (h : n < 2 ^ 31) : ¬ nI n = -1 := fun e => by
  have := congrArg Int32.toInt e
  rw [nI_toInt h] at this
  have e2 : (-1 : Int32).toInt = -1 := rfl
  rw [e2] at this
  omega
theorem n_m2 {n : Nat} (h : n < 2 ^ 31) : ¬ nI n = -2 := fun e => by
  have := congrArg Int32.toInt e
  rw [nI_toInt h] at this
  have e2 : (-2 : Int32).toInt = -2 := rfl
  rw [e2] at this
  omega
theorem n_rg {x : Int32} {n : Nat} (hn : n < 2 ^ 31) (h : ¬ x < nI 0) (h5 : ¬ nI n < x) : ∃ j : Nat, j ≤ n ∧ x = nI j := by
  obtain ⟨j, hj, rfl⟩ := nI_of h
  exact ⟨j, Nat.le_of_not_lt fun q => h5 ((nI_ltI hn hj).2 q), rfl⟩
theorem bw_at (S : St) (k i : Nat) (v : Int32) (k' i' : Nat) : bw S k i v k' i' = if k' = k ∧ i' = i then v else S k' i' := by
  show (if k' = k then (fun j => if j = i then v else S k j) else S k') i' = _
  by_cases h : k' = k
  · subst h
    by_cases h2 : i' = i
    · simp [h2]
    · simp [h2]
  · simp [h]
/-! loops -/
theorem wl_n {V : Type} {body : (V → Prop) → V → Prop} {v : V} (J : Nat → V → Prop) (n : Nat) (h0 : J n v) (hs : ∀ n v, J n v → ∀ R : V → Prop, (∀ m v', m < n → J m v' → R v') → body R v) : wLoop body v := ⟨J, n, h0, fun n v hj => hs n v hj _ (fun m v' hm hj' => ⟨m, hm, hj'⟩)⟩
theorem wl_up {V : Type} {body : (V → Prop) → V → Prop} {v : V} (N : Nat) (J : Nat → V → Prop) (i0 : Nat) (hi : i0 ≤ N) (h0 : J i0 v) (hs : ∀ i v, i ≤ N → J i v → ∀ R : V → Prop, (i < N → ∀ v', J (i + 1) v' → R v') → body R v) : wLoop body v :=
  wl_n (fun n v => ∃ i, i ≤ N ∧ n = N - i ∧ J i v) (N - i0) ⟨i0, hi, rfl, h0⟩ (fun n v ⟨i, h1, h2, h3⟩ R hR => hs i v h1 h3 R (fun hlt v' hv' => hR (N - (i + 1)) v' (by omega) ⟨i + 1, hlt, rfl, hv'⟩))
/-- sums of numbers -/
def ns (f : Nat → Nat) : Nat → Nat
  | 0 => 0
  | n + 1 => ns f n + f n
def cn (f : Nat → Nat) (n : Nat) : Nat := ns (fun i => if f i = 0 then 0 else 1) n
theorem ns_s (f : Nat → Nat) (n : Nat) : ns f (n + 1) = ns f n + f n := rfl
theorem ns_z (f : Nat → Nat) : ns f 0 = 0 := rfl
theorem cn_s (f : Nat → Nat) (n : Nat) : cn f (n + 1) = cn f n + (if f n = 0 then 0 else 1) := rfl
theorem ns_ext {f g : Nat → Nat} {n : Nat} (h : ∀ i, i < n → f i = g i) : ns f n = ns g n := by
  induction n with
  | zero => rfl
  | succ n ih => rw [ns_s, ns_s, ih (fun i hi => h i (by omega)), h n (by omega)]
theorem ns_le {f g : Nat → Nat} {n : Nat} (h : ∀ i, i < n → f i ≤ g i) : ns f n ≤ ns g n := by
  induction n with
  | zero => exact Nat.le_refl _
  | succ n ih => rw [ns_s, ns_s]; exact Nat.add_le_add (ih (fun i hi => h i (by omega))) (h n (by omega))
theorem ns_const (c n : Nat) : ns (fun _ => c) n = n * c := by
  induction n with
  | zero => rw [Nat.zero_mul]; rfl
  | succ n ih => rw [ns_s, ih, Nat.add_mul, Nat.one_mul]
theorem cn_le (f : Nat → Nat) (n : Nat) : cn f n ≤ n := by
  induction n with
  | zero => exact Nat.le_refl _
  | succ n ih => rw [cn_s]; split <;> omega
theorem cn_ext {f g : Nat → Nat} {n : Nat} (h : ∀ i, i < n → (f i = 0 ↔ g i = 0)) : cn f n = cn g n := ns_ext fun i hi => by
  by_cases q : f i = 0
  · rw [if_pos q, if_pos ((h i hi).1 q)]
  · rw [if_neg q, if_neg (fun z => q ((h i hi).2 z))]
theorem ns_add (f g : Nat → Nat) (n : Nat) : ns (fun i => f i + g i) n = ns f n + ns g n := by
  induction n with
  | zero => rfl
  | succ n ih => rw [ns_s, ns_s, ns_s, ih]; omega
theorem ns_0 {f : Nat → Nat} {n : Nat} (h : ∀ i, i < n → f i = 0) : ns f n = 0 := by
  induction n with
  | zero => rfl
  | succ n ih => rw [ns_s, ih (fun i hi => h i (by omega)), h n (by omega)]
theorem ns_1 {f : Nat → Nat} {n k : Nat} (hk : k < n) (h : ∀ i, i < n → i ≠ k → f i = 0) : ns f n = f k := by
  induction n with
  | zero => omega
  | succ n ih =>
    rw [ns_s]
    by_cases e : k = n
    · subst e
      rw [ns_0 (fun i hi => h i (by omega) (by omega)), Nat.zero_add]
    · rw [ih (by omega) (fun i hi hn => h i (by omega) hn), h n (by omega) (by omega)]; rfl
theorem ns_swap (f : Nat → Nat → Nat) (n m : Nat) : ns (fun i => ns (f i) m) n = ns (fun j => ns (fun i => f i j) n) m := by
  induction n with
  | zero => rw [ns_z]; exact (ns_0 (fun i _ => rfl)).symm
  | succ n ih =>
    rw [ns_s, ih, ← ns_add]
    rfl
theorem ns_L (c : Nat) (f : Nat → Nat) (n : Nat) : ns (fun i => c * f i) n = c * ns f n := by
  induction n with
  | zero => rfl
  | succ n ih => rw [ns_s, ns_s, ih, Nat.mul_add]
theorem ns_R (c : Nat) (f : Nat → Nat) (n : Nat) : ns (fun i => f i * c) n = ns f n * c := by
  induction n with
  | zero => rw [ns_z, ns_z, Nat.zero_mul]
  | succ n ih => rw [ns_s, ns_s, ih, Nat.add_mul]
theorem ns_mod {f g : Nat → Nat} {p n : Nat} (h : ∀ i, i < n → f i % p = g i % p) : ns f n % p = ns g n % p := by
  induction n with
  | zero => rfl
  | succ n ih => rw [ns_s, ns_s, Nat.add_mod, ih (fun i hi => h i (by omega)), h n (by omega), ← Nat.add_mod]
theorem ns_pos {f : Nat → Nat} {n k : Nat} (hk : k < n) (h : 0 < f k) : 0 < ns f n := by
  induction n with
  | zero => omega
  | succ n ih =>
    rw [ns_s]
    by_cases e : k = n
    · subst e; omega
    · have := ih (by omega); omega
theorem cn_0 {f : Nat → Nat} {n : Nat} (h : cn f n = 0) (i : Nat) (hi : i < n) : f i = 0 := Classical.byContradiction fun q => by
  have := ns_pos (f := fun i => if f i = 0 then 0 else 1) hi (by rw [if_neg q]; omega)
  have h : ns (fun i => if f i = 0 then 0 else 1) n = 0 := h
  omega
theorem cn_z {f : Nat → Nat} {n : Nat} (h : ∀ i, i < n → f i = 0) : cn f n = 0 := ns_0 fun i hi => if_pos (h i hi)
