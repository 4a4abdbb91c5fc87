set_option maxRecDepth 100000
/-! exponents, orders, rows of terms -/
def ex (k u : Nat) : Nat := k / 16 ^ u % 16
def dg (k : Nat) : Nat := ex k 0 + ex k 1 + ex k 2
def lx (k a b c : Nat) : Nat := 256 * ex k a + 16 * ex k b + ex k c
def ok (h a b k : Nat) : Nat := if h = 0 then lx k a b (3 - a - b) else if h = 1 then 4096 * dg k + lx k a b (3 - a - b) else 4096 * dg k + 4095 - lx k (3 - a - b) b a
def vo (h a b : Nat) : Prop := h < 3 ∧ a < 3 ∧ b < 3 ∧ a ≠ b
theorem ex_lt (k u : Nat) : ex k u < 16 := Nat.mod_lt _ (by decide)
theorem ex_0 (k : Nat) : ex k 0 = k % 16 := by unfold ex; rw [Nat.pow_zero, Nat.div_one]
theorem ex_1 (k : Nat) : ex k 1 = k / 16 % 16 := rfl
theorem ex_2 (k : Nat) : ex k 2 = k / 256 % 16 := rfl
theorem ex_sum {k : Nat} (h : k < 4096) : k = ex k 0 + 16 * ex k 1 + 256 * ex k 2 := by rw [ex_0, ex_1, ex_2]; omega
theorem ex_mk {x y z : Nat} (hx : x < 16) (hy : y < 16) (hz : z < 16) : ex (x + 16 * y + 256 * z) 0 = x ∧ ex (x + 16 * y + 256 * z) 1 = y ∧ ex (x + 16 * y + 256 * z) 2 = z := by rw [ex_0, ex_1, ex_2]; omega
theorem ex_ext {k l : Nat} (hk : k < 4096) (hl : l < 4096) (h : ∀ u, u < 3 → ex k u = ex l u) : k = l := by
  rw [ex_sum hk, ex_sum hl, h 0 (by omega), h 1 (by omega), h 2 (by omega)]
theorem vo_cases {h a b : Nat} (v : vo h a b) : (a = 0 ∧ b = 1 ∧ 3 - a - b = 2) ∨ (a = 0 ∧ b = 2 ∧ 3 - a - b = 1) ∨ (a = 1 ∧ b = 0 ∧ 3 - a - b = 2) ∨ (a = 1 ∧ b = 2 ∧ 3 - a - b = 0) ∨ (a = 2 ∧ b = 0 ∧ 3 - a - b = 1) ∨ (a = 2 ∧ b = 1 ∧ 3 - a - b = 0) := by
  obtain ⟨_, h2, h3, h4⟩ := v
  omega
/-- three numbers' order key -/
def o3 (h x y z : Nat) : Nat := if h = 0 then 256 * x + 16 * y + z else if h = 1 then 4096 * (x + y + z) + (256 * x + 16 * y + z) else 4096 * (x + y + z) + 4095 - (256 * z + 16 * y + x)
theorem ok_o3 {h a b : Nat} (v : vo h a b) (k : Nat) : ok h a b k = o3 h (ex k a) (ex k b) (ex k (3 - a - b)) := by
  unfold ok o3 lx dg
  rcases vo_cases v with ⟨e1, e2, e3⟩ | ⟨e1, e2, e3⟩ | ⟨e1, e2, e3⟩ | ⟨e1, e2, e3⟩ | ⟨e1, e2, e3⟩ | ⟨e1, e2, e3⟩ <;> rw [e3] <;> subst e1 <;> subst e2 <;> (split; rfl; split; omega; omega)
theorem o3_inj {h x y z x' y' z' : Nat} (hx : x < 16) (hy : y < 16) (hz : z < 16) (hx' : x' < 16) (hy' : y' < 16) (hz' : z' < 16) (e : o3 h x y z = o3 h x' y' z') : x = x' ∧ y = y' ∧ z = z' := by
  unfold o3 at e
  split at e
  · omega
  · split at e
    · omega
    · omega
theorem o3_lt {h x y z : Nat} (hx : x < 16) (hy : y < 16) (hz : z < 16) : o3 h x y z < 262144 := by
  unfold o3
  split
  · omega
  · split
    · omega
    · omega
theorem ok_lt {h a b : Nat} (v : vo h a b) (k : Nat) : ok h a b k < 262144 := by
  rw [ok_o3 v]
  exact o3_lt (ex_lt _ _) (ex_lt _ _) (ex_lt _ _)
theorem vo_all {h a b : Nat} (v : vo h a b) {P : Nat → Prop} (h1 : P a) (h2 : P b) (h3 : P (3 - a - b)) (u : Nat) (hu : u < 3) : P u := by
  have : u = a ∨ u = b ∨ u = 3 - a - b := by
    obtain ⟨_, h2, h3, h4⟩ := v
    omega
  rcases this with e | e | e
  · rw [e]; exact h1
  · rw [e]; exact h2
  · rw [e]; exact h3
theorem ok_inj {h a b : Nat} (v : vo h a b) {k l : Nat} (hk : k < 4096) (hl : l < 4096) (e : ok h a b k = ok h a b l) : k = l := by
  rw [ok_o3 v, ok_o3 v] at e
  obtain ⟨e1, e2, e3⟩ := o3_inj (ex_lt _ _) (ex_lt _ _) (ex_lt _ _) (ex_lt _ _) (ex_lt _ _) (ex_lt _ _) e
  exact ex_ext hk hl (vo_all v (P := fun u => ex k u = ex l u) e1 e2 e3)
/-- exponents together go -/
def gs (k t : Nat) : Prop := ∀ u, u < 3 → ex k u + ex t u < 16
theorem gs_ex {k t : Nat} (hk : k < 4096) (ht : t < 4096) (h : gs k t) : k + t < 4096 ∧ ∀ u, u < 3 → ex (k + t) u = ex k u + ex t u := by
  have h0 := h 0 (by omega)
  have h1 := h 1 (by omega)
  have h2 := h 2 (by omega)
  have e1 := ex_sum hk
  have e2 := ex_sum ht
  have hs : k + t = (ex k 0 + ex t 0) + 16 * (ex k 1 + ex t 1) + 256 * (ex k 2 + ex t 2) := by omega
  refine ⟨by omega, fun u hu => ?_⟩
  obtain ⟨q0, q1, q2⟩ := ex_mk h0 h1 h2
  rw [← hs] at q0 q1 q2
  have : u = 0 ∨ u = 1 ∨ u = 2 := by omega
  rcases this with e | e | e
  · rw [e]; exact q0
  · rw [e]; exact q1
  · rw [e]; exact q2
theorem o3_add {h x y z x' y' z' u v w : Nat} (hx : x + u < 16) (hy : y + v < 16) (hz : z + w < 16) (hx' : x' + u < 16) (hy' : y' + v < 16) (hz' : z' + w < 16) (e : o3 h x y z < o3 h x' y' z') : o3 h (x + u) (y + v) (z + w) < o3 h (x' + u) (y' + v) (z' + w) := by
  unfold o3 at *
  split at e
  · rename_i q
    rw [if_pos q, if_pos q]; omega
  · rename_i q
    rw [if_neg q, if_neg q]
    split at e
    · rename_i q
      rw [if_pos q, if_pos q]; omega
    · rename_i q
      rw [if_neg q, if_neg q]; omega
theorem ok_add {h a b : Nat} (v : vo h a b) {k l t : Nat} (hk : k < 4096) (hl : l < 4096) (ht : t < 4096) (g1 : gs k t) (g2 : gs l t) (e : ok h a b k < ok h a b l) : ok h a b (k + t) < ok h a b (l + t) := by
  have w : ∀ u, u < 3 → True := fun _ _ => trivial
  have h3 : a < 3 ∧ b < 3 ∧ 3 - a - b < 3 := by
    obtain ⟨_, h2, h3, h4⟩ := v
    omega
  rw [ok_o3 v, ok_o3 v] at *
  have e1 := (gs_ex hk ht g1).2
  have e2 := (gs_ex hl ht g2).2
  rw [e1 a h3.1, e1 b h3.2.1, e1 _ h3.2.2, e2 a h3.1, e2 b h3.2.1, e2 _ h3.2.2]
  exact o3_add (g1 a h3.1) (g1 b h3.2.1) (g1 _ h3.2.2) (g2 a h3.1) (g2 b h3.2.1) (g2 _ h3.2.2) e
/-- a row of the terms of a table, the first ahead -/
def isr (o f : Nat → Nat) (n : Nat) (a : Nat → Nat) : Prop := (∀ i, i < n → a i < 4096 ∧ f (a i) ≠ 0) ∧ (∀ i j, i < j → j < n → o (a j) < o (a i)) ∧ ∀ k, k < 4096 → f k ≠ 0 → ∃ i, i < n ∧ a i = k
theorem ns_enum (a : Nat → Nat) (g : Nat → Nat) (N : Nat) (n : Nat) (h1 : ∀ i, i < n → a i < N) (h2 : ∀ i j, i < j → j < n → a i ≠ a j) (P : Nat → Prop) [∀ k, Decidable (P k)] (hP : ∀ k, k < N → (P k ↔ ∃ i, i < n ∧ a i = k)) : ns (fun i => g (a i)) n = ns (fun k => if P k then g k else 0) N := by
  induction n generalizing P with
  | zero =>
    rw [ns_z]
    refine (ns_0 (fun i hi => if_neg fun q => ?_)).symm
    obtain ⟨j, hj, _⟩ := (hP i hi).1 q
    omega
  | succ n ih =>
    have hd : ∀ k, Decidable (∃ i, i < n ∧ a i = k) := fun k => Classical.propDecidable _
    rw [ns_s, ih (fun i hi => h1 i (by omega)) (fun i j hi hj => h2 i j hi (by omega)) (fun k => ∃ i, i < n ∧ a i = k) (fun k _ => Iff.rfl)]
    have e1 : g (a n) = ns (fun k => if k = a n then g k else 0) N := by
      rw [ns_1 (h1 n (by omega)) (fun i _ hi => if_neg hi), if_pos rfl]
    rw [e1, ← ns_add]
    refine ns_ext (fun k hk => ?_)
    by_cases q : k = a n
    · rw [if_neg (fun ⟨i, hi, he⟩ => h2 i n hi (by omega) (by omega)), if_pos q, if_pos ((hP k hk).2 ⟨n, by omega, q.symm⟩)]; omega
    · by_cases q2 : ∃ i, i < n ∧ a i = k
      · obtain ⟨i, hi, he⟩ := q2
        rw [if_pos ⟨i, hi, he⟩, if_neg q, if_pos ((hP k hk).2 ⟨i, by omega, he⟩)]; omega
      · rw [if_neg q2, if_neg q, if_neg (fun z => ?_)]
        obtain ⟨i, hi, he⟩ := (hP k hk).1 z
        by_cases e5 : i = n
        · subst e5; exact q he.symm
        · exact q2 ⟨i, by omega, he⟩
theorem isr_ne {o f : Nat → Nat} {n : Nat} {a : Nat → Nat} (h : isr o f n a) {i j : Nat} (hi : i < j) (hj : j < n) : a i ≠ a j := fun e => by
  have := h.2.1 i j hi hj
  rw [e] at this
  omega
theorem isr_sum {o f : Nat → Nat} {n : Nat} {a : Nat → Nat} (h : isr o f n a) (g : Nat → Nat) : ns (fun i => g (a i)) n = ns (fun k => if f k = 0 then 0 else g k) 4096 := by
  rw [ns_enum a g 4096 n (fun i hi => (h.1 i hi).1) (fun i j hi hj => isr_ne h hi hj) (fun k => ¬ f k = 0) (fun k hk => ⟨fun q => h.2.2 k hk q, fun ⟨i, hi, he⟩ => he ▸ (h.1 i hi).2⟩)]
  refine ns_ext (fun k _ => ?_)
  by_cases q : f k = 0
  · rw [if_neg (fun z => z q), if_pos q]
  · rw [if_pos q, if_neg q]
theorem isr_cn {o f : Nat → Nat} {n : Nat} {a : Nat → Nat} (h : isr o f n a) : n = cn f 4096 := by
  have := isr_sum h (fun _ => 1)
  rw [ns_const, Nat.mul_one] at this
  exact this
theorem isr_uni {o f : Nat → Nat} {n m : Nat} {a b : Nat → Nat} (h : isr o f n a) (h2 : isr o f m b) : n = m ∧ ∀ i, i < n → a i = b i := by
  have hn : n = m := (isr_cn h).trans (isr_cn h2).symm
  subst hn
  refine ⟨rfl, fun i => ?_⟩
  induction i using Nat.strongRecOn with
  | ind i ih =>
    intro hi
    obtain ⟨j, hj, ej⟩ := h2.2.2 (a i) (h.1 i hi).1 (h.1 i hi).2
    obtain ⟨k, hk, ek⟩ := h.2.2 (b i) (h2.1 i hi).1 (h2.1 i hi).2
    rcases Nat.lt_trichotomy j i with q | q | q
    · exact absurd ((ih j q hj).trans ej) (isr_ne h q hi)
    · rw [← ej, q]
    · rcases Nat.lt_trichotomy k i with q2 | q2 | q2
      · exact absurd ((ih k q2 hk).symm.trans ek) (isr_ne h2 q2 hi)
      · rw [← ek, q2]
      · have e1 := h2.2.1 i j q hj
        have e2 := h.2.1 i k q2 hk
        rw [ej] at e1
        rw [ek] at e2
        omega
theorem isr_ext {o f g : Nat → Nat} {n : Nat} {a : Nat → Nat} (h : isr o f n a) (hfg : ∀ k, k < 4096 → (f k = 0 ↔ g k = 0)) : isr o g n a := ⟨fun i hi => ⟨(h.1 i hi).1, fun q => (h.1 i hi).2 ((hfg _ (h.1 i hi).1).2 q)⟩, h.2.1, fun k hk hg => h.2.2 k hk (fun q => hg ((hfg k hk).1 q))⟩
