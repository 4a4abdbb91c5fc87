set_option maxRecDepth 100000
/-! the Model's tables -/
def tb (S : St) (r : Nat) (f : Nat → Nat) : Prop := ∀ k, k < 4096 → S 1 (4096 * r + k) = nI (f k) ∧ f k < 97
theorem sp_termsOf {r : Nat} {f : Nat → Nat} {S : St} {post : Int32 → Prop} (hr : r < 8) (ht : tb S r f) (h : post (nI (cn f 4096))) : wp_termsOf (nI r) S post := by
  unfold wp_termsOf wp_termsOf_l4
  refine wl_up 4096 (fun i v => v = (nI (cn f i), nI i)) 0 (by omega) rfl ?_
  rintro i v hi rfl R hR
  unfold wp_termsOf_b4
  rw [li_4096, nI_leI (by omega) (by omega)]
  refine ⟨fun c => ?_, fun c => ?_⟩
  · rw [show i = 4096 by omega]; exact h
  · refine sp_coef hr (by omega) ?_
    obtain ⟨e, hb⟩ := ht i (by omega)
    unfold wp_termsOf_j28
    rw [e, li_0, nI_eq (by omega) (by omega)]
    refine ⟨fun d => ?_, fun d => ?_⟩
    · intro x2 e2 x3 e3
      subst e2 e3
      refine hR (by omega) _ ?_
      rw [cn_s, if_pos d, nI_add, li_1, nI_add]
    · intro x2 e2 x3 e3
      subst e2 e3
      refine hR (by omega) _ ?_
      rw [cn_s, if_neg d, li_1, nI_add, nI_add]
theorem sp_isZero {r : Nat} {f : Nat → Nat} {S : St} {post : Int32 → Prop} (hr : r < 8) (ht : tb S r f) (h0 : cn f 4096 ≠ 0 → post 0) (h1 : cn f 4096 = 0 → post 1) : wp_isZero (nI r) S post := by
  unfold wp_isZero
  refine sp_termsOf hr ht ?_
  have := cn_le f 4096
  rw [li_0, nI_eq (by omega) (by omega)]
  exact ⟨h0, h1⟩
theorem sp_notZero {f : Nat → Nat → Nat} {S : St} {post : Int32 → Prop} (ht : ∀ r, r < 8 → tb S r (f r)) (h : post (nI (cn (fun r => cn (f r) 4096) 8))) : wp_notZero S post := by
  unfold wp_notZero wp_notZero_l4
  refine wl_up 8 (fun i v => v = (nI (cn (fun r => cn (f r) 4096) i), nI i)) 0 (by omega) rfl ?_
  rintro i v hi rfl R hR
  unfold wp_notZero_b4
  rw [li_8, nI_leI (by omega) (by omega)]
  refine ⟨fun c => ?_, fun c => ?_⟩
  · rw [show i = 8 by omega]; exact h
  · unfold wp_notZero_j26
    refine sp_isZero (by omega) (ht i (by omega)) (fun d => ⟨fun _ => ?_, fun q => absurd rfl q⟩) (fun d => ⟨fun q => absurd q (by decide), fun _ => ?_⟩)
    · intro x2 e2 x3 e3
      subst e2 e3
      refine hR (by omega) _ ?_
      rw [cn_s, if_neg d, li_1, nI_add, nI_add]
    · intro x2 e2 x3 e3
      subst e2 e3
      refine hR (by omega) _ ?_
      rw [cn_s, if_pos d, li_0, nI_add, li_1, nI_add]
/-- along: all exponents, the first ahead -/
def alg (o : Nat → Nat) (S : St) (al : Nat → Nat) : Prop := (∀ i, i < 4096 → S 4 i = nI (al i) ∧ al i < 4096) ∧ (∀ i j, i < j → j < 4096 → o (al j) < o (al i)) ∧ ∀ k, k < 4096 → ∃ i, i < 4096 ∧ al i = k
/-- what is ahead of all -/
def led (o f : Nat → Nat) (k : Nat) : Prop := k < 4096 ∧ f k ≠ 0 ∧ ∀ l, l < 4096 → f l ≠ 0 → l ≠ k → o l < o k
theorem alg_led {o f : Nat → Nat} {S : St} {al : Nat → Nat} {i : Nat} (ha : alg o S al) (hi : i < 4096) (h0 : ∀ j, j < i → f (al j) = 0) (h1 : f (al i) ≠ 0) : led o f (al i) := by
  refine ⟨(ha.1 i hi).2, h1, fun l hl hf hne => ?_⟩
  obtain ⟨j, hj, rfl⟩ := ha.2.2 l hl
  have hji : i < j := by
    rcases Nat.lt_trichotomy j i with q | q | q
    · exact absurd (h0 j q) hf
    · subst q; exact absurd rfl hne
    · exact q
  exact ha.2.1 i j hji hj
theorem led_uni {o f : Nat → Nat} {k l : Nat} (h : led o f k) (h2 : led o f l) : k = l := Classical.byContradiction fun q => by
  have e1 := h.2.2 l h2.1 h2.2.1 (fun z => q z.symm)
  have e2 := h2.2.2 k h.1 h.2.1 q
  omega
theorem led_row {o f : Nat → Nat} {n : Nat} {a : Nat → Nat} (h : isr o f n a) (hn : 0 < n) : led o f (a 0) := ⟨(h.1 0 hn).1, (h.1 0 hn).2, fun l hl hf hne => by
  obtain ⟨i, hi, rfl⟩ := h.2.2 l hl hf
  exact h.2.1 0 i (Nat.pos_of_ne_zero fun q => hne (by rw [q])) hi⟩
theorem sp_leadOf {r : Nat} {o f al : Nat → Nat} {S : St} {post : Int32 → Prop} (hr : r < 8) (ht : tb S r f) (ha : alg o S al) (h0 : (∀ k, k < 4096 → f k = 0) → post (-1)) (h1 : ∀ k, led o f k → post (nI k)) : wp_leadOf (nI r) S post := by
  unfold wp_leadOf wp_leadOf_l2
  refine wl_up 4096 (fun i v => v = nI i ∧ ∀ j, j < i → f (al j) = 0) 0 (by omega) ⟨rfl, fun j hj => absurd hj (by omega)⟩ ?_
  rintro i v hi ⟨rfl, hz⟩ R hR
  unfold wp_leadOf_b2
  rw [li_4096, nI_leI (by omega) (by omega)]
  refine ⟨fun c => h0 fun k hk => ?_, fun c => ?_⟩
  · obtain ⟨j, hj, rfl⟩ := ha.2.2 k hk
    exact hz j (by omega)
  · refine ⟨i, by omega, rfl, ?_⟩
    obtain ⟨e1, l1⟩ := ha.1 i (by omega)
    rw [e1]
    refine sp_coef hr l1 ?_
    obtain ⟨e, hb⟩ := ht _ l1
    rw [e, li_0, nI_eq (by omega) (by omega)]
    refine ⟨fun d => ?_, fun d => ⟨i, by omega, rfl, ?_⟩⟩
    · intro x ex
      subst ex
      refine hR (by omega) _ ⟨by rw [li_1, nI_add], fun j hj => ?_⟩
      by_cases q : j = i
      · rw [q]; exact d
      · exact hz j (by omega)
    · rw [e1]
      exact h1 _ (alg_led ha (by omega) hz d)
/-- the most of something over the terms; -2: none -/
def mx (g f : Nat → Nat) : Nat → Int
  | 0 => -2
  | n + 1 => if f n = 0 then mx g f n else max (mx g f n) (g n)
theorem mx_s (g f : Nat → Nat) (n : Nat) : mx g f (n + 1) = if f n = 0 then mx g f n else max (mx g f n) (g n) := rfl
theorem mx_b {g f : Nat → Nat} {B : Nat} (hB : ∀ k, g k ≤ B) (n : Nat) : -2 ≤ mx g f n ∧ mx g f n ≤ B := by
  induction n with
  | zero => exact ⟨Int.le_refl _, by show (-2 : Int) ≤ B; omega⟩
  | succ n ih =>
    rw [mx_s]
    have := hB n
    split
    · exact ih
    · omega
theorem mx_le {g f : Nat → Nat} {n : Nat} {k : Nat} (hk : k < n) (hf : f k ≠ 0) : (g k : Int) ≤ mx g f n := by
  induction n with
  | zero => omega
  | succ n ih =>
    rw [mx_s]
    by_cases e : k = n
    · subst e; rw [if_neg hf]; omega
    · have := ih (by omega)
      split
      · exact this
      · omega
theorem mx_ex {g f : Nat → Nat} {n : Nat} : mx g f n = -2 ∨ ∃ k, k < n ∧ f k ≠ 0 ∧ mx g f n = g k := by
  induction n with
  | zero => exact Or.inl rfl
  | succ n ih =>
    rw [mx_s]
    split
    · rcases ih with q | ⟨k, h1, h2, h3⟩
      · exact Or.inl q
      · exact Or.inr ⟨k, by omega, h2, h3⟩
    · rename_i hf
      rcases ih with q | ⟨k, h1, h2, h3⟩
      · exact Or.inr ⟨n, by omega, hf, by omega⟩
      · by_cases hc : mx g f n ≤ g n
        · exact Or.inr ⟨n, by omega, hf, by omega⟩
        · exact Or.inr ⟨k, by omega, h2, by omega⟩
theorem sp_degreeBy {r u : Nat} {f : Nat → Nat} {S : St} {post : Int32 → Prop} (hr : r < 8) (hu : u < 3) (ht : tb S r f) (h : post (zI (mx (fun k => ex k u) f 4096))) : wp_degreeBy (nI r) (nI u) S post := by
  have hB : ∀ k, ex k u ≤ 15 := fun k => by have := ex_lt k u; omega
  unfold wp_degreeBy wp_degreeBy_l6
  refine wl_up 4096 (fun i v => v = (zI (mx (fun k => ex k u) f i), nI i)) 0 (by omega) rfl ?_
  rintro i v hi rfl R hR
  unfold wp_degreeBy_b6
  rw [li_4096, nI_leI (by omega) (by omega)]
  refine ⟨fun c => ?_, fun c => ?_⟩
  · rw [show i = 4096 by omega]; exact h
  · refine sp_coef hr (by omega) ?_
    obtain ⟨e, hb⟩ := ht i (by omega)
    unfold wp_degreeBy_j41
    have b1 := mx_b (f := f) hB i
    have b2 := hB i
    rw [e, li_0, nI_eq (by omega) (by omega)]
    refine ⟨fun d => ?_, fun d => sp_exponent (by omega) (by omega) ?_⟩
    · intro x3 e3
      subst e3
      refine hR (by omega) _ ?_
      rw [mx_s, if_pos d, li_1, nI_add]
    · rw [z_nI (ex i u), z_le (by omega) (by omega)]
      refine ⟨fun q => ?_, fun q => sp_exponent (by omega) (by omega) ?_⟩
      · intro x3 e3
        subst e3
        refine hR (by omega) _ ?_
        rw [mx_s, if_neg d, li_1, nI_add, show max (mx (fun k => ex k u) f i) (ex i u : Int) = mx (fun k => ex k u) f i by omega]
      · intro x3 e3
        subst e3
        refine hR (by omega) _ ?_
        rw [mx_s, if_neg d, li_1, nI_add, show max (mx (fun k => ex k u) f i) (ex i u : Int) = ex i u by omega, z_nI (ex i u)]
