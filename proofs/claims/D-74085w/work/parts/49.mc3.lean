set_option maxRecDepth 100000
theorem cn_mono (f : Nat → Nat) {i j : Nat} (h : i ≤ j) : cn f i ≤ cn f j := by
  induction j with
  | zero => rw [show i = 0 by omega]; exact Nat.le_refl _
  | succ j ih =>
    by_cases e : i = j + 1
    · rw [e]; exact Nat.le_refl _
    · have := ih (by omega)
      rw [cn_s]; omega
theorem cn_pick (f : Nat → Nat) {k n : Nat} (h : k < cn f n) : ∃ i, i < n ∧ f i ≠ 0 ∧ cn f i = k := by
  induction n with
  | zero => exact absurd h (Nat.not_lt_zero _)
  | succ n ih =>
    rw [cn_s] at h
    by_cases q : k < cn f n
    · obtain ⟨i, h1, h2, h3⟩ := ih q
      exact ⟨i, by omega, h2, h3⟩
    · by_cases z : f n = 0
      · rw [if_pos z] at h; omega
      · rw [if_neg z] at h
        exact ⟨n, by omega, z, by omega⟩
theorem cn_pos (f : Nat → Nat) {i j : Nat} (h : i < j) (hf : f i ≠ 0) : cn f i < cn f j := by
  have := cn_mono f (show i + 1 ≤ j by omega)
  rw [cn_s, if_neg hf] at this
  omega
/-- the row of a table along an order -/
theorem al_row {o f al : Nat → Nat} {S : St} (ha : alg o S al) : ∃ b, isr o f (cn (fun i => f (al i)) 4096) b ∧ ∀ i, i < 4096 → f (al i) ≠ 0 → b (cn (fun i => f (al i)) i) = al i := by
  have hch : ∀ k, ∃ x, k < cn (fun i => f (al i)) 4096 → ∃ i, i < 4096 ∧ f (al i) ≠ 0 ∧ cn (fun i => f (al i)) i = k ∧ x = al i := fun k => by
    by_cases h : k < cn (fun i => f (al i)) 4096
    · obtain ⟨i, h1, h2, h3⟩ := cn_pick _ h
      exact ⟨al i, fun _ => ⟨i, h1, h2, h3, rfl⟩⟩
    · exact ⟨0, fun q => absurd q h⟩
  obtain ⟨b, hb⟩ := Classical.axiomOfChoice hch
  have huni : ∀ i j, f (al i) ≠ 0 → f (al j) ≠ 0 → cn (fun i => f (al i)) i = cn (fun i => f (al i)) j → i = j := fun i j h1 h2 e => by
    rcases Nat.lt_trichotomy i j with q | q | q
    · have := cn_pos (fun i => f (al i)) q h1
      omega
    · exact q
    · have := cn_pos (fun i => f (al i)) q h2
      omega
  refine ⟨b, ⟨fun k hk => ?_, fun k l hkl hl => ?_, fun x hx hf => ?_⟩, fun i hi hf => ?_⟩
  · obtain ⟨i, h1, h2, h3, h4⟩ := hb k hk
    rw [h4]
    exact ⟨(ha.1 i h1).2, h2⟩
  · obtain ⟨i, h1, h2, h3, h4⟩ := hb k (by omega)
    obtain ⟨j, g1, g2, g3, g4⟩ := hb l hl
    rw [h4, g4]
    refine ha.2.1 i j (Nat.lt_of_not_le fun q => ?_) g1
    have := cn_mono (fun i => f (al i)) q
    omega
  · obtain ⟨i, hi, rfl⟩ := ha.2.2 x hx
    have hk := cn_pos (fun i => f (al i)) hi hf
    obtain ⟨j, g1, g2, g3, g4⟩ := hb _ hk
    refine ⟨_, hk, ?_⟩
    rw [g4, huni j i g2 hf g3]
  · obtain ⟨j, g1, g2, g3, g4⟩ := hb _ (cn_pos (fun i => f (al i)) hi hf)
    rw [g4, huni j i g2 hf g3]
theorem sp_inlt {x : Int32} {n : Nat} {S : St} {post : Int32 → Prop} (hn : n < 2 ^ 31) (h0 : ¬ (∃ j, j < n ∧ x = nI j) → post 0) (h1 : ∀ j, j < n → x = nI j → post 1) : wp_in x 0 (nI n - 1) S post := by
  by_cases e : n = 0
  · subst e
    refine sp_in (fun _ => h0 fun ⟨j, hj, _⟩ => by omega) (fun c d => ?_)
    refine absurd ?_ d
    obtain ⟨j, hj, rfl⟩ := nI_of c
    rw [show (nI 0 - 1 : Int32) = zI (-1) from rfl, z_nI, z_lt (by omega) (by omega)]
    omega
  · rw [li_1, pk_sub (by omega)]
    refine sp_inr (n := n - 1) rfl (by omega) (fun d => h0 fun ⟨j, hj, ej⟩ => d ⟨j, by omega, ej⟩) (fun j hj ej => h1 j (by omega) ej)
/-- what is told of a term -/
def trm (f a : Nat → Nat) (k w : Nat) : Nat := if w = 0 then f (a k) else if w = 4 then dg (a k) else ex (a k) (w - 1)
theorem mc_term {A : AB} {S : St} {x y z : Int32} {post : Int32 → St → Prop} (h : rm A S) (hw : wf A) {a : Nat → Nat → Nat} (hrow : ∀ r, r < 8 → isr (ok (aN A 2) (aN A 3) (aN A 4)) (aR A r) (cn (aR A r) 4096) (a r)) (h0 : ¬ (aN A 0 = 1 ∧ ∃ r k w, r < 8 ∧ k < cn (aR A r) 4096 ∧ w < 5 ∧ x = nI r ∧ y = nI k ∧ z = nI w) → ∀ S', rm (aS A 1 (-1)) S' → post (-1) S')
    (h1 : aN A 0 = 1 → ∀ r k w, r < 8 → k < cn (aR A r) 4096 → w < 5 → x = nI r → y = nI k → z = nI w → ∀ S', rm (aS A 0 (-1)) S' → post (nI (trm (aR A r) (a r) k w)) S') : wp_term x y z S post := by
  unfold wp_term wp_term_j37
  intro S1 e1
  have g : rm A S1 := by rw [e1]; exact rm_0 h
  refine sp_isReg g hw (fun c => b01 rfl (sp_refused g (sc_rfl _) (h0 fun ⟨q, r, k, w, q1, q2, q3, q4, _⟩ => c ⟨q, r, by omega, q4⟩))) (fun ht r hr e => b11 rfl ?_)
  subst e
  have htb := rm_tb g hw ht hr
  have hle := cn_le (aR A r) 4096
  have hru : ∀ {r'}, r' < 8 → nI r = nI r' → r = r' := fun h e => by rwa [nI_eq (by omega) (by omega)] at e
  refine sp_termsOf hr htb (sp_inlt (by omega) (fun c => b01 rfl (sp_refused g (sc_rfl _) (h0 fun ⟨q, r', k, w, q1, q2, q3, q4, q5, _⟩ => c ⟨k, by have := hru q1 q4; subst this; exact q2, q5⟩))) (fun k hk ek => b11 rfl ?_))
  refine sp_inr (n := 4) rfl (by omega) (fun c => b02 rfl (sp_refused g (sc_rfl _) (h0 fun ⟨q, r', k, w, q1, q2, q3, q4, q5, q6⟩ => c ⟨w, by omega, q6⟩))) (fun w hw4 ew => b12 rfl ?_)
  have fin := h1 ht r k w hr hk (by omega) rfl ek ew
  subst ek ew
  obtain ⟨al, hal⟩ := (g.2.2.2.2.2.2 ht).2.2.2.2.2.2.1
  obtain ⟨b, hb1, hb2⟩ := al_row (f := aR A r) hal
  obtain ⟨u1, u2⟩ := isr_uni hb1 (hrow r hr)
  unfold wp_term_l49
  refine wl_up 4096 (fun i v => v = (nI i, nI (k - cn (fun i => aR A r (al i)) i)) ∧ cn (fun i => aR A r (al i)) i ≤ k) 0 (by omega) ⟨rfl, Nat.zero_le _⟩ ?_
  rintro i v hi ⟨rfl, hik⟩ R hR
  have hi2 : i < 4096 := by
    refine Nat.lt_of_le_of_ne hi fun q => ?_
    rw [q] at hik
    omega
  obtain ⟨f1, f2⟩ := hal.1 i hi2
  obtain ⟨t1, t2⟩ := htb _ f2
  unfold wp_term_b49 wp_term_j69 wp_term_j94
  dsimp only
  have hstep : ∀ x5, (aR A r (al i) = 0 → x5 = nI (k - cn (fun i => aR A r (al i)) i)) → (aR A r (al i) ≠ 0 → x5 = nI (k - cn (fun i => aR A r (al i)) i - 1)) → (aR A r (al i) ≠ 0 → cn (fun i => aR A r (al i)) i < k) → R (nI i + 1, x5) := fun x5 q1 q2 q3 => by
    refine hR hi2 _ ⟨?_, ?_⟩
    · rw [li_1, nI_add, cn_s]
      by_cases q : aR A r (al i) = 0
      · rw [q1 q, if_pos q]; rfl
      · rw [q2 q, if_neg q, Nat.sub_sub]
    · rw [cn_s]
      by_cases q : aR A r (al i) = 0
      · rw [if_pos q]; omega
      · rw [if_neg q]; have := q3 q; omega
  have J : (aR A r (al i) ≠ 0 → cn (fun i => aR A r (al i)) i < k) → ∃ j_4 : Nat, j_4 < 4096 ∧ nI i = nI j_4 ∧ wp_coef (nI r) (S1 4 j_4) S1 fun r_5 => (r_5 = 0 → ∀ x5_7 : Int32, x5_7 = nI (k - cn (fun i => aR A r (al i)) i) - 0 → ∀ x4_3 : Int32, x4_3 = nI i + 1 → R (x4_3, x5_7)) ∧ (¬ r_5 = 0 → ∀ x5_8 : Int32, x5_8 = nI (k - cn (fun i => aR A r (al i)) i) - 1 → ∀ x4_3 : Int32, x4_3 = nI i + 1 → R (x4_3, x5_8)) := by
    intro q3
    refine ⟨i, hi2, rfl, ?_⟩
    rw [f1]
    refine sp_coef hr f2 ?_
    rw [t1, li_0, nI_eq (by omega) (by omega)]
    refine ⟨fun d x5 e5 x4 e4 => ?_, fun d x5 e5 x4 e4 => ?_⟩
    · subst e5 e4
      exact hstep _ (fun _ => by rw [pk_sub (by omega), Nat.sub_zero]) (fun q => absurd d q) q3
    · subst e5 e4
      have := q3 d
      exact hstep _ (fun q => absurd q d) (fun _ => by rw [li_1, pk_sub (by omega)]) q3
  rw [show ((0 : Int32) < nI (k - cn (fun i => aR A r (al i)) i)) ↔ 0 < k - cn (fun i => aR A r (al i)) i by rw [li_0]; exact nI_ltI (by omega) (by omega)]
  refine ⟨fun c => J (fun _ => by omega), fun c => ⟨i, hi2, rfl, ?_⟩⟩
  rw [f1]
  refine sp_coef hr f2 ?_
  rw [t1, li_0, nI_eq (by omega) (by omega), ← li_0]
  refine ⟨fun d => ⟨i, hi2, rfl, ?_⟩, fun d => J (fun q => absurd d q)⟩
  have hki : cn (fun i => aR A r (al i)) i = k := by omega
  have hak : a r k = al i := by
    have := hb2 i hi2 d
    rw [hki] at this
    rw [← u2 k (by omega)]
    exact this
  unfold trm at fin
  rw [hak] at fin
  rw [f1, li_0, nI_eq (by omega) (by omega), li_4, nI_eq (by omega) (by omega)]
  refine ⟨fun w0 => ⟨fun w4 => ?_, fun w4 => ?_⟩, fun w0 => ?_⟩
  · rw [if_neg w0, if_neg w4] at fin
    rw [li_1, pk_sub (by omega)]
    exact sp_exponent (by omega) (by omega) (sp_good g (sc_rfl _) fin)
  · rw [if_neg w0, if_pos w4] at fin
    exact sp_degreeOf (by omega) (sp_good g (sc_rfl _) fin)
  · rw [if_pos w0] at fin
    refine sp_coef hr f2 ?_
    rw [t1]
    exact sp_good g (sc_rfl _) fin
