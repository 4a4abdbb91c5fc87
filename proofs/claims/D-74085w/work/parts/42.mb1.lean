set_option maxRecDepth 100000
/-! the Model's small methods -/
def zI (z : Int) : Int32 := Int32.ofInt z
theorem z_nI (n : Nat) : nI n = zI (n : Int) := by
  show Int32.ofNat n = Int32.ofInt (n : Int)
  exact (Int32.ofInt_eq_ofNat).symm
theorem z_toInt {z : Int} (h1 : -2147483648 ≤ z) (h2 : z < 2147483648) : (zI z).toInt = z := Int32.toInt_ofInt_of_le h1 h2
theorem z_add (a b : Int) : zI a + zI b = zI (a + b) := (Int32.ofInt_add a b).symm
theorem z_sub (a b : Int) : zI a - zI b = zI (a - b) := (Int32.ofInt_sub a b).symm
theorem z_le {a b : Int} (h1 : -2147483648 ≤ a ∧ a < 2147483648) (h2 : -2147483648 ≤ b ∧ b < 2147483648) : zI a ≤ zI b ↔ a ≤ b := by
  rw [Int32.le_iff_toInt_le, z_toInt h1.1 h1.2, z_toInt h2.1 h2.2]
theorem z_lt {a b : Int} (h1 : -2147483648 ≤ a ∧ a < 2147483648) (h2 : -2147483648 ≤ b ∧ b < 2147483648) : zI a < zI b ↔ a < b := by
  rw [Int32.lt_iff_toInt_lt, z_toInt h1.1 h1.2, z_toInt h2.1 h2.2]
theorem z_eq {a b : Int} (h1 : -2147483648 ≤ a ∧ a < 2147483648) (h2 : -2147483648 ≤ b ∧ b < 2147483648) : zI a = zI b ↔ a = b := by
  rw [← Int32.toInt_inj, z_toInt h1.1 h1.2, z_toInt h2.1 h2.2]
theorem z_m1 : (-1 : Int32) = zI (-1) := rfl
theorem z_m2 : (-2 : Int32) = zI (-2) := rfl
theorem z_0 : (0 : Int32) = zI 0 := rfl
theorem n_1a : (1 : Int32) &&& 1 = 1 := rfl
theorem n_0a : (0 : Int32) &&& 1 = 0 := rfl
theorem sp_in {x lo hi : Int32} {S : St} {post : Int32 → Prop} (h0 : (x < lo ∨ hi < x) → post 0) (h1 : ¬ x < lo → ¬ hi < x → post 1) : wp_in x lo hi S post := by
  unfold wp_in
  exact ⟨fun c => h0 (Or.inl c), fun c => ⟨fun d => h0 (Or.inr d), fun d => h1 c d⟩⟩
/-- a number in a range -/
def inr (x : Int32) (n : Nat) : Prop := ∃ j : Nat, j ≤ n ∧ x = nI j
theorem sp_inr {x hi : Int32} {n : Nat} {S : St} {post : Int32 → Prop} (hh : hi = nI n) (hn : n < 2 ^ 31) (h0 : ¬ inr x n → post 0) (h1 : ∀ j, j ≤ n → x = nI j → post 1) : wp_in x 0 hi S post := by
  subst hh
  refine sp_in (fun c => h0 fun ⟨j, hj, e⟩ => ?_) (fun c d => ?_)
  · subst e
    rcases c with c | c
    · exact nI_pos (by omega) c
    · exact nI_nlt hj hn c
  · obtain ⟨j, hj, e⟩ := n_rg hn c d
    exact h1 j hj e
theorem sp_exponent {k u : Nat} {S : St} {post : Int32 → Prop} (hk : k < 2 ^ 31) (hu : u < 7) (h : post (nI (ex k u))) : wp_exponent (nI k) (nI u) S post := by
  unfold wp_exponent
  rw [li_4, pk_mul, n_shr hk (by omega), li_15, n_and, show (15 : Nat) = 2 ^ 4 - 1 from rfl, Nat.and_two_pow_sub_one_eq_mod, Nat.pow_mul]
  exact h
theorem sp_degreeOf {k : Nat} {S : St} {post : Int32 → Prop} (hk : k < 2 ^ 31) (h : post (nI (dg k))) : wp_degreeOf (nI k) S post := by
  unfold wp_degreeOf
  rw [li_0, li_1, li_2]
  refine sp_exponent hk (by omega) (sp_exponent hk (by omega) (sp_exponent hk (by omega) ?_))
  rw [nI_add, nI_add]
  exact h
theorem n_or_add {x e k : Nat} (hx : x < 2 ^ k) : x ||| e * 2 ^ k = x + e * 2 ^ k := by
  rw [Nat.or_comm, Nat.mul_comm, ← Nat.two_pow_add_eq_or_of_lt hx, Nat.add_comm]
theorem sp_keyOf {x y z : Nat} {S : St} {post : Int32 → Prop} (hx : x < 16) (hy : y < 16) (hz : z < 16) (h : post (nI (x + 16 * y + 256 * z))) : wp_keyOf (nI x) (nI y) (nI z) S post := by
  unfold wp_keyOf
  rw [li_4, li_8, n_shl (by omega) (by omega), n_shl (by omega) (by omega), n_or, n_or_add (by omega), n_or, n_or_add (by omega)]
  rw [show x + y * 2 ^ 4 + z * 2 ^ 8 = x + 16 * y + 256 * z by omega]
  exact h
theorem sp_coef {r k : Nat} {S : St} {post : Int32 → Prop} (hr : r < 8) (hk : k < 4096) (h : post (S 1 (4096 * r + k))) : wp_coef (nI r) (nI k) S post := by
  unfold wp_coef
  refine ⟨4096 * r + k, by omega, ?_, h⟩
  rw [li_4096, pk_mul, nI_add]
theorem pow16 (u : Nat) : (2 : Nat) ^ (4 * u) = 16 ^ u := by rw [Nat.pow_mul]
theorem mod_s (k u : Nat) : k % 16 ^ (u + 1) = k % 16 ^ u + ex k u * 16 ^ u := by
  unfold ex
  rw [Nat.pow_succ, Nat.mod_mul, Nat.mul_comm (16 ^ u)]
theorem sp_sum {k t : Nat} {S : St} {post : Int32 → Prop} (hk : k < 4096) (ht : t < 4096) (h1 : gs k t → post (nI (k + t))) (h0 : ¬ gs k t → post (-1)) : wp_sum (nI k) (nI t) S post := by
  unfold wp_sum wp_sum_l4
  refine wl_up 3 (fun u v => v = (nI (k % 16 ^ u + t % 16 ^ u), nI u) ∧ ∀ i, i < u → ex k i + ex t i < 16) 0 (by omega) ⟨by rw [Nat.pow_zero, Nat.mod_one, Nat.mod_one]; rfl, fun i hi => absurd hi (by omega)⟩ ?_
  rintro u v hu ⟨rfl, hs⟩ R hR
  unfold wp_sum_b4
  refine ⟨fun c => ?_, fun c => ?_⟩
  · rw [li_3, nI_leI (by omega) (by omega)] at c
    have : u = 3 := by omega
    subst this
    have := h1 hs
    rw [show (16 : Nat) ^ 3 = 4096 from rfl, Nat.mod_eq_of_lt hk, Nat.mod_eq_of_lt ht]
    exact this
  · rw [li_3, nI_leI (by omega) (by omega)] at c
    refine sp_exponent (by omega) (by omega) (sp_exponent (by omega) (by omega) ?_)
    intro x4 e4
    rw [nI_add] at e4
    subst e4
    have l1 := ex_lt k u
    have l2 := ex_lt t u
    refine ⟨fun d => ?_, fun d => ?_⟩
    · rw [li_15, nI_leI (by omega) (by omega)] at d
      intro x2 e2 x3 e3
      subst e2 e3
      refine hR (by omega) _ ⟨?_, fun i hi => ?_⟩
      · have hp : 0 < 16 ^ u := Nat.pow_pos (by omega)
        have m1 := Nat.mod_lt k hp
        have m2 := Nat.mod_lt t hp
        have hlow : k % 16 ^ u + t % 16 ^ u < 16 ^ u := by
          have : u = 0 ∨ u = 1 ∨ u = 2 := by omega
          rcases this with e | e | e
          · subst e; rw [Nat.pow_zero, Nat.mod_one, Nat.mod_one]; omega
          · subst e
            have := hs 0 (by omega)
            rw [ex_0, ex_0] at this
            omega
          · subst e
            have q0 := hs 0 (by omega)
            have q1 := hs 1 (by omega)
            rw [ex_0, ex_0] at q0
            rw [ex_1, ex_1] at q1
            omega
        rw [li_1, nI_add, li_4, pk_mul, n_shl (by omega) (by
          have : u = 0 ∨ u = 1 ∨ u = 2 := by omega
          rcases this with e | e | e <;> subst e <;> omega), n_or, n_or_add (by rw [pow16]; exact hlow), mod_s, mod_s, pow16, Nat.add_mul]
        congr 2
        omega
      · by_cases e : i = u
        · subst e; omega
        · exact hs i (by omega)
    · rw [li_15, nI_leI (by omega) (by omega)] at d
      refine h0 fun q => ?_
      have := q u (by omega)
      omega
/-- inverses -/
def iv (p c : Nat) : Nat := ((List.range p).find? (fun i => i * c % p == 1)).getD 0
def pr (p : Nat) : Prop := 2 ≤ p ∧ p ≤ 97 ∧ ∀ k, 2 ≤ k → k < p → p % k ≠ 0
def prb (p : Nat) : Bool := decide (2 ≤ p) && (List.range p).all (fun k => decide (k < 2) || decide (p % k ≠ 0))
theorem iv_ck : ∀ p, p < 98 → prb p = true → ∀ c, c < p → 0 < c → iv p c * c % p = 1 ∧ iv p c < p := by decide +kernel
theorem pr_b {p : Nat} (h : pr p) : prb p = true := by
  unfold prb
  rw [Bool.and_eq_true, List.all_eq_true]
  refine ⟨decide_eq_true h.1, fun k hk => ?_⟩
  rw [List.mem_range] at hk
  by_cases q : k < 2
  · rw [decide_eq_true q]; rfl
  · rw [decide_eq_true (h.2.2 k (by omega) hk), Bool.or_true]
theorem iv_ok {p c : Nat} (h : pr p) (h0 : 0 < c) (hc : c < p) : iv p c * c % p = 1 ∧ iv p c < p ∧ 0 < iv p c := by
  obtain ⟨q1, q2⟩ := iv_ck p (by have := h.2.1; omega) (pr_b h) c hc h0
  refine ⟨q1, q2, Nat.pos_of_ne_zero fun e => ?_⟩
  rw [e, Nat.zero_mul, Nat.zero_mod] at q1
  omega
theorem iv_uni {p c i : Nat} (h : pr p) (h0 : 0 < c) (hc : c < p) (hi : i < p) (e : i * c % p = 1) : i = iv p c := by
  obtain ⟨q1, q2, _⟩ := iv_ok h h0 hc
  have h2 := h.1
  have e1 : i * (iv p c * c) % p = i := by
    rw [Nat.mul_mod, q1, Nat.mul_one, Nat.mod_mod, Nat.mod_eq_of_lt hi]
  have e2 : iv p c * (i * c) % p = iv p c := by
    rw [Nat.mul_mod, e, Nat.mul_one, Nat.mod_mod, Nat.mod_eq_of_lt q2]
  exact e1.symm.trans ((congrArg (fun z => z % p) (Nat.mul_left_comm i (iv p c) c)).trans e2)
theorem sp_inverse {p c : Nat} {S : St} {post : Int32 → Prop} (hp : pr p) (hS : S 0 5 = nI p) (h0 : 0 < c) (hc : c < p) (h : post (nI (iv p c))) : wp_inverse (nI c) S post := by
  obtain ⟨q1, q2, q3⟩ := iv_ok hp h0 hc
  have h97 := hp.2.1
  unfold wp_inverse wp_inverse_l2
  refine wl_up (iv p c) (fun i v => v = nI i ∧ 0 < i) 1 q3 ⟨rfl, by omega⟩ ?_
  rintro i v hi ⟨rfl, hi0⟩ R hR
  unfold wp_inverse_b2
  have hb : i * c < 97 * 97 := Nat.mul_lt_mul'' (by omega) (by omega)
  rw [hS, pk_mul, n_rem (by omega) (by omega) (by omega), li_1, nI_eq (by have := Nat.mod_lt (i * c) (show 0 < p by omega); omega) (by omega)]
  refine ⟨fun z => ?_, fun d => ?_, fun d => ?_⟩
  · rw [li_0, nI_eq (by omega) (by omega)] at z; omega
  · rw [iv_uni hp h0 hc (by omega) d]; exact h
  · intro x e
    subst e
    have hne : i ≠ iv p c := fun z => d (by rw [z]; exact q1)
    refine hR (by omega) _ ⟨by rw [nI_add], by omega⟩
