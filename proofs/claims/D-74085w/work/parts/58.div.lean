set_option maxRecDepth 100000
/-! division, in plain numbers -/
noncomputable def ldk (o f : Nat → Nat) : Nat := @Classical.epsilon Nat ⟨0⟩ (led o f)
theorem ldk_of {o f : Nat → Nat} {k : Nat} (h : led o f k) : ldk o f = k := led_uni (Classical.epsilon_spec (p := led o f) ⟨k, h⟩) h
def bit (s d : Nat) : Prop := s / 2 ^ d % 2 = 1
noncomputable def fst8 (P : Nat → Prop) : Nat := @Classical.epsilon Nat ⟨0⟩ (fun n => (n = 8 ∨ (n < 8 ∧ P n)) ∧ ∀ m, m < n → ¬ (m < 8 ∧ P m))
theorem fst8_spec (P : Nat → Prop) : (fst8 P = 8 ∨ (fst8 P < 8 ∧ P (fst8 P))) ∧ ∀ m, m < fst8 P → ¬ (m < 8 ∧ P m) := by
  refine Classical.epsilon_spec (p := fun n => (n = 8 ∨ (n < 8 ∧ P n)) ∧ ∀ m, m < n → ¬ (m < 8 ∧ P m)) ?_
  obtain ⟨n, h1, h2⟩ := nat_min (P := fun n => n = 8 ∨ (n < 8 ∧ P n)) ⟨8, Or.inl rfl⟩
  exact ⟨n, h1, fun m hm q => h2 m hm (Or.inr q)⟩
theorem fst8_no {P : Nat → Prop} (h : ∀ d, d < 8 → ¬ P d) : fst8 P = 8 := by
  rcases (fst8_spec P).1 with q | ⟨q1, q2⟩
  · exact q
  · exact absurd q2 (h _ q1)
theorem fst8_yes {P : Nat → Prop} {d : Nat} (hd : d < 8) (h : P d) (hm : ∀ m, m < d → ¬ P m) : fst8 P = d := by
  obtain ⟨h1, h2⟩ := fst8_spec P
  rcases Nat.lt_trichotomy (fst8 P) d with q | q | q
  · rcases h1 with z | ⟨_, z⟩
    · omega
    · exact absurd z (hm _ q)
  · exact q
  · exact absurd ⟨hd, h⟩ (h2 d q)
/-- one place of a table -/
def up (f : Nat → Nat) (k v : Nat) : Nat → Nat := fun j => if j = k then v else f j
theorem up_at (f : Nat → Nat) (k v j : Nat) : up f k v j = if j = k then v else f j := rfl
theorem up_eq (f : Nat → Nat) (k v : Nat) : up f k v k = v := if_pos rfl
theorem up_ne {f : Nat → Nat} {k v j : Nat} (h : j ≠ k) : up f k v j = f j := if_neg h
theorem cn_up {f : Nat → Nat} {k v n : Nat} (hk : k < n) : cn (up f k v) n + (if f k = 0 then 0 else 1) = cn f n + (if v = 0 then 0 else 1) := by
  induction n with
  | zero => omega
  | succ n ih =>
    rw [cn_s, cn_s]
    by_cases e : k = n
    · subst e
      rw [up_eq]
      have : cn (up f k v) k = cn f k := cn_ext fun i hi => by rw [up_ne (by omega)]
      rw [this]; omega
    · have := ih (by omega)
      rw [up_ne (show n ≠ k by omega)]; omega
/-- left, rest, quotients, steps, most -/
abbrev DS : Type := (Nat → Nat) × (Nat → Nat) × (Nat → Nat → Nat) × Nat × Nat
def dL (s : DS) : Nat → Nat := s.1
def dR (s : DS) : Nat → Nat := s.2.1
def dQ (s : DS) : Nat → Nat → Nat := s.2.2.1
def dS (s : DS) : Nat := s.2.2.2.1
def dM (s : DS) : Nat := s.2.2.2.2
/-- what the lead is taken off by -/
noncomputable def dD (o : Nat → Nat) (reg : Nat → Nat → Nat) (set : Nat) (s : DS) : Nat := fst8 (fun d => bit set d ∧ gi (ldk o (reg d)) (ldk o (dL s)))
noncomputable def dC (p : Nat) (o : Nat → Nat) (reg : Nat → Nat → Nat) (s : DS) (d : Nat) : Nat := dL s (ldk o (dL s)) * iv p (reg d (ldk o (reg d))) % p
/-- a lead that goes to the rest -/
noncomputable def dst0 (o : Nat → Nat) (s : DS) : DS := (up (dL s) (ldk o (dL s)) 0, up (dR s) (ldk o (dL s)) (dL s (ldk o (dL s))), dQ s, dS s + 1, dM s)
noncomputable def dlf (p : Nat) (o : Nat → Nat) (reg : Nat → Nat → Nat) (s : DS) (d : Nat) : Nat → Nat := sm p (dL s) (reg d) (p - dC p o reg s d) (ldk o (dL s) - ldk o (reg d))
noncomputable def dst1 (p : Nat) (o : Nat → Nat) (reg : Nat → Nat → Nat) (s : DS) (d : Nat) : DS := (dlf p o reg s d, dR s, fun e => if e = d then up (dQ s d) (ldk o (dL s) - ldk o (reg d)) (dC p o reg s d) else dQ s e, dS s + 1, max (dM s) (cn (dlf p o reg s d) 4096))
/-- whether there is room for the step -/
def dok0 (o : Nat → Nat) (s : DS) : Prop := cn (dR (dst0 o s)) 4096 ≤ 60
def dok1 (p : Nat) (o : Nat → Nat) (reg : Nat → Nat → Nat) (s : DS) (d : Nat) : Prop := ¬ ovf (reg d) 1 (ldk o (dL s) - ldk o (reg d)) ∧ cn (dlf p o reg s d) 4096 ≤ 60 ∧ cn (dQ (dst1 p o reg s d) d) 4096 ≤ 60
/-- the whole: with room, an end; 'none': no room -/
noncomputable def drun (p : Nat) (o : Nat → Nat) (reg : Nat → Nat → Nat) (set : Nat) : Nat → DS → Option DS
  | 0, _ => none
  | n + 1, s => @ite _ (cn (dL s) 4096 = 0) _ (some s) (@ite _ (dS s = 500) _ none (@ite _ (dD o reg set s = 8) _ (@ite _ (dok0 o s) (Classical.propDecidable _) (drun p o reg set n (dst0 o s)) none) (@ite _ (dok1 p o reg s (dD o reg set s)) (Classical.propDecidable _) (drun p o reg set n (dst1 p o reg s (dD o reg set s))) none)))
/-- what holds all along -/
def dinv (p : Nat) (o : Nat → Nat) (reg : Nat → Nat → Nat) (set : Nat) (s : DS) : Prop := (∀ k, k < 4096 → dL s k < p) ∧ (∀ k, k < 4096 → dR s k < p) ∧ (∀ d k, d < 8 → k < 4096 → dQ s d k < p) ∧ cn (dL s) 4096 ≤ 60 ∧ cn (dR s) 4096 ≤ 60 ∧ (∀ d, d < 8 → cn (dQ s d) 4096 ≤ 60) ∧ dS s ≤ 500 ∧ dM s ≤ 60 ∧ (∀ k l, k < 4096 → l < 4096 → dR s k ≠ 0 → dL s l ≠ 0 → o l < o k) ∧ (∀ d t, d < 8 → t < 4096 → dQ s d t ≠ 0 → gs t (ldk o (reg d)) ∧ bit set d ∧ ∀ l, l < 4096 → dL s l ≠ 0 → o l < o (t + ldk o (reg d)))
/-- divisors -/
def dvs (p : Nat) (o : Nat → Nat) (reg : Nat → Nat → Nat) (set : Nat) : Prop := ∀ d, d < 8 → (∀ k, k < 4096 → reg d k < p) ∧ (bit set d → led o (reg d) (ldk o (reg d)))
theorem dC_pos {p : Nat} {a b : Nat} (hp : pr p) (ha : 0 < a) (hap : a < p) (hb : 0 < b) (hbp : b < p) : 0 < a * iv p b % p ∧ a * iv p b % p < p ∧ (a + (p - a * iv p b % p) * b) % p = 0 := by
  obtain ⟨i1, i2, i3⟩ := iv_ok hp hb hbp
  have h2 := hp.1
  have hlt := Nat.mod_lt (a * iv p b) (show 0 < p by omega)
  have e1 : (a * iv p b % p) * b % p = a := by
    rw [Nat.mod_mul_mod, Nat.mul_assoc, Nat.mul_mod, i1, Nat.mul_one, Nat.mod_mod, Nat.mod_eq_of_lt hap]
  have hc : a * iv p b % p * b + (p - a * iv p b % p) * b = p * b := by
    rw [← Nat.add_mul]
    congr 1
    omega
  refine ⟨Nat.pos_of_ne_zero fun q => ?_, hlt, ?_⟩
  · rw [q, Nat.zero_mul, Nat.zero_mod] at e1
    omega
  · have e2 : (a + (p - a * iv p b % p) * b) % p = (a * iv p b % p * b + (p - a * iv p b % p) * b) % p := by
      rw [Nat.add_mod, ← e1, Nat.mod_mod, ← Nat.add_mod, e1]
    rw [e2, hc, Nat.mul_mod_right]
/-- behind a step the lead has come down -/
theorem dlf_lt {p h a b set : Nat} {reg : Nat → Nat → Nat} {s : DS} {d : Nat} (hp : pr p) (v : vo h a b) (hd : d < 8) (hr : ∀ k, k < 4096 → reg d k < p) (hld : led (ok h a b) (reg d) (ldk (ok h a b) (reg d))) (hL : ∀ k, k < 4096 → dL s k < p) (hl : led (ok h a b) (dL s) (ldk (ok h a b) (dL s))) (hg : gi (ldk (ok h a b) (reg d)) (ldk (ok h a b) (dL s))) (hno : ¬ ovf (reg d) 1 (ldk (ok h a b) (dL s) - ldk (ok h a b) (reg d))) (m : Nat) (hm : m < 4096) (hne : dlf p (ok h a b) reg s d m ≠ 0) : ok h a b m < ok h a b (ldk (ok h a b) (dL s)) := by
  obtain ⟨g1, g2, g3⟩ := gi_sub hld.1 hl.1 hg
  generalize hk : ldk (ok h a b) (dL s) = k at *
  generalize hq : ldk (ok h a b) (reg d) = q at *
  have hrq := hr q hld.1
  have hLk := hL k hl.1
  have hc := dC_pos hp (Nat.pos_of_ne_zero hl.2.1) hLk (Nat.pos_of_ne_zero hld.2.1) hrq
  have hC : dC p (ok h a b) reg s d = dL s k * iv p (reg d q) % p := by unfold dC; rw [hk, hq]
  have hdl : ∀ m, dlf p (ok h a b) reg s d m = (dL s m + (p - dC p (ok h a b) reg s d) * sh (reg d) (k - q) m) % p := fun m => by unfold dlf sm; rw [hk, hq]
  rw [hdl, hC] at hne
  have hkq : k - q < 4096 := by have := hl.1; omega
  by_cases e : m = k
  · refine absurd ?_ hne
    have gg : gs q (k - q) := fun u hu => by
      have := g2 u hu
      omega
    have e3 : sh (reg d) (k - q) k = reg d q := by
      have := sh_at (f := reg d) hld.1 hkq gg
      rwa [show q + (k - q) = k by omega] at this
    rw [e, e3]
    exact hc.2.2
  · by_cases z : dL s m = 0
    · have z2 : sh (reg d) (k - q) m ≠ 0 := fun z2 => hne (by rw [z, z2]; exact Nat.zero_mod _)
      have gm : gi (k - q) m := Classical.byContradiction fun gn => z2 (sh_no gn)
      obtain ⟨f1, f2, f3⟩ := gi_sub hkq hm gm
      rw [sh_yes gm] at z2
      have hneq : m - (k - q) ≠ q := fun w => e (by omega)
      have hlt := hld.2.2 (m - (k - q)) (by omega) z2 hneq
      have gg : gs q (k - q) := fun u hu => by
        have := g2 u hu
        omega
      have := ok_add v (by omega) hld.1 hkq f2 gg hlt
      rwa [show m - (k - q) + (k - q) = m by omega, show q + (k - q) = k by omega] at this
    · exact hl.2.2 m hm z e
theorem dinv_0 {p h a b set : Nat} {reg : Nat → Nat → Nat} {s : DS} (hp : pr p) (v : vo h a b) (hi : dinv p (ok h a b) reg set s) (hl : led (ok h a b) (dL s) (ldk (ok h a b) (dL s))) (h5 : dS s ≠ 500) (hok : dok0 (ok h a b) s) : dinv p (ok h a b) reg set (dst0 (ok h a b) s) ∧ cn (dR (dst0 (ok h a b) s)) 4096 = cn (dR s) 4096 + 1 ∧ cn (dL (dst0 (ok h a b) s)) 4096 + 1 = cn (dL s) 4096 := by
  obtain ⟨i1, i2, i3, i4, i5, i6, i7, i8, i9, i10⟩ := hi
  have h2 := hp.1
  have eL : dL (dst0 (ok h a b) s) = up (dL s) (ldk (ok h a b) (dL s)) 0 := rfl
  have eR : dR (dst0 (ok h a b) s) = up (dR s) (ldk (ok h a b) (dL s)) (dL s (ldk (ok h a b) (dL s))) := rfl
  have hR0 : dR s (ldk (ok h a b) (dL s)) = 0 := Classical.byContradiction fun q => by
    have := i9 _ _ hl.1 hl.1 q hl.2.1
    omega
  have c1 := cn_up (f := dR s) (v := dL s (ldk (ok h a b) (dL s))) hl.1
  rw [if_pos hR0, if_neg hl.2.1] at c1
  have c2 := cn_up (f := dL s) (v := 0) hl.1
  rw [if_neg hl.2.1, if_pos rfl] at c2
  have lt' : ∀ l, l < 4096 → dL (dst0 (ok h a b) s) l ≠ 0 → dL s l ≠ 0 ∧ ok h a b l < ok h a b (ldk (ok h a b) (dL s)) := fun l hl4 hz => by
    rw [eL] at hz
    by_cases e : l = ldk (ok h a b) (dL s)
    · rw [e, up_eq] at hz
      exact absurd rfl hz
    · rw [up_ne e] at hz
      exact ⟨hz, hl.2.2 l hl4 hz e⟩
  refine ⟨⟨fun k hk => ?_, fun k hk => ?_, i3, ?_, hok, i6, ?_, i8, fun k l hk hl4 hz1 hz2 => ?_, fun d t hd ht hz => ?_⟩, ?_, ?_⟩
  · rw [eL, up_at]
    split
    · omega
    · exact i1 k hk
  · rw [eR, up_at]
    split
    · exact i1 _ hl.1
    · exact i2 k hk
  · rw [eL]; omega
  · show dS s + 1 ≤ 500; omega
  · obtain ⟨z1, z2⟩ := lt' l hl4 hz2
    rw [eR] at hz1
    by_cases e : k = ldk (ok h a b) (dL s)
    · rw [e]; exact z2
    · rw [up_ne e] at hz1
      exact i9 k l hk hl4 hz1 z1
  · obtain ⟨q1, q2, q3⟩ := i10 d t hd ht hz
    exact ⟨q1, q2, fun l hl4 hz => q3 l hl4 (lt' l hl4 hz).1⟩
  · rw [eR]; omega
  · rw [eL]; omega
theorem dinv_1 {p h a b set : Nat} {reg : Nat → Nat → Nat} {s : DS} {d : Nat} (hp : pr p) (v : vo h a b) (hv : dvs p (ok h a b) reg set) (hi : dinv p (ok h a b) reg set s) (hl : led (ok h a b) (dL s) (ldk (ok h a b) (dL s))) (h5 : dS s ≠ 500) (hd : d < 8) (hb : bit set d) (hg : gi (ldk (ok h a b) (reg d)) (ldk (ok h a b) (dL s))) (hok : dok1 p (ok h a b) reg s d) : dinv p (ok h a b) reg set (dst1 p (ok h a b) reg s d) := by
  obtain ⟨i1, i2, i3, i4, i5, i6, i7, i8, i9, i10⟩ := hi
  obtain ⟨o1, o2, o3⟩ := hok
  have h2 := hp.1
  obtain ⟨hr, hld⟩ := hv d hd
  have hld := hld hb
  have lt' := fun m hm hne => dlf_lt (set := set) hp v hd hr hld i1 hl hg o1 m hm hne
  obtain ⟨g1, g2, g3⟩ := gi_sub hld.1 hl.1 hg
  have eL : dL (dst1 p (ok h a b) reg s d) = dlf p (ok h a b) reg s d := rfl
  have eQ : ∀ e, dQ (dst1 p (ok h a b) reg s d) e = if e = d then up (dQ s d) (ldk (ok h a b) (dL s) - ldk (ok h a b) (reg d)) (dC p (ok h a b) reg s d) else dQ s e := fun e => rfl
  have low : ∀ l, l < 4096 → dlf p (ok h a b) reg s d l ≠ 0 → ∀ x, (∀ m, m < 4096 → dL s m ≠ 0 → ok h a b m < x) → ok h a b l < x := fun l hl4 hz x hx => by
    have e1 := lt' l hl4 hz
    have e2 := hx _ hl.1 hl.2.1
    omega
  refine ⟨fun k hk => Nat.mod_lt _ (by omega), i2, fun e k he hk => ?_, o2, i5, fun e he => ?_, ?_, ?_, fun k l hk hl4 hz1 hz2 => ?_, fun e t he ht hz => ?_⟩
  · rw [eQ]
    by_cases q : e = d
    · rw [if_pos q, up_at]
      split
      · exact Nat.mod_lt _ (by omega)
      · exact i3 d k hd hk
    · rw [if_neg q]; exact i3 e k he hk
  · by_cases q : e = d
    · rw [q]; exact o3
    · rw [eQ, if_neg q]; exact i6 e he
  · show dS s + 1 ≤ 500; omega
  · show max (dM s) _ ≤ 60; omega
  · exact low l hl4 hz2 _ (fun m hm hz => i9 k m hk hm hz1 hz)
  · rw [eQ] at hz
    by_cases q : e = d
    · rw [if_pos q] at hz
      by_cases q2 : t = ldk (ok h a b) (dL s) - ldk (ok h a b) (reg d)
      · refine ⟨by rw [q, q2]; exact g2, by rw [q]; exact hb, fun l hl4 hz2 => ?_⟩
        rw [q, q2, show ldk (ok h a b) (dL s) - ldk (ok h a b) (reg d) + ldk (ok h a b) (reg d) = ldk (ok h a b) (dL s) by omega]
        exact lt' l hl4 hz2
      · rw [up_ne q2] at hz
        obtain ⟨w1, w2, w3⟩ := i10 d t hd ht hz
        rw [q]
        exact ⟨w1, w2, fun l hl4 hz2 => low l hl4 hz2 _ w3⟩
    · rw [if_neg q] at hz
      obtain ⟨w1, w2, w3⟩ := i10 e t he ht hz
      exact ⟨w1, w2, fun l hl4 hz2 => low l hl4 hz2 _ w3⟩
/-- a new quotient's place is free -/
theorem dq_free {p h a b set : Nat} {reg : Nat → Nat → Nat} {s : DS} {d : Nat} (hv : dvs p (ok h a b) reg set) (hi : dinv p (ok h a b) reg set s) (hl : led (ok h a b) (dL s) (ldk (ok h a b) (dL s))) (hd : d < 8) (hb : bit set d) (hg : gi (ldk (ok h a b) (reg d)) (ldk (ok h a b) (dL s))) : dQ s d (ldk (ok h a b) (dL s) - ldk (ok h a b) (reg d)) = 0 := Classical.byContradiction fun q => by
  obtain ⟨g1, g2, g3⟩ := gi_sub ((hv d hd).2 hb).1 hl.1 hg
  have := (hi.2.2.2.2.2.2.2.2.2 d _ hd (by have := hl.1; omega) q).2.2 _ hl.1 hl.2.1
  rw [show ldk (ok h a b) (dL s) - ldk (ok h a b) (reg d) + ldk (ok h a b) (reg d) = ldk (ok h a b) (dL s) by omega] at this
  omega
