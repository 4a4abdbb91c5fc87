set_option maxRecDepth 100000
/-! the heap of a product: rows by keys -/
def h3 (h R Q k : Nat) : Prop := k = h ∨ k = R ∨ k = Q
/-- M rows lie in it: those of P, by their keys κ -/
def hpe (T : XT) (h R Q M : Nat) (P : Nat → Prop) (κ : Nat → Nat) : Prop := ∃ ρ : Nat → Nat, xr T h 0 = some R ∧ xr T h 1 = some Q ∧ xi T h 2 = nI M ∧ (∀ j, 1 ≤ j → j ≤ M → xi T R j = nI (ρ j) ∧ xi T Q j = nI (κ (ρ j))) ∧ (∀ j, 2 ≤ j → j ≤ M → κ (ρ j) ≤ κ (ρ (j / 2))) ∧ (∀ i j, 1 ≤ i → i < j → j ≤ M → ρ i ≠ ρ j) ∧ ∀ y, P y ↔ ∃ j, 1 ≤ j ∧ j ≤ M ∧ ρ j = y
theorem hput {T : XT} {R Q k j : Nat} {x y : Int32} (hRQ : R ≠ Q) : xi (xwi (xwi T R k x) Q k y) R j = (if j = k then x else xi T R j) ∧ xi (xwi (xwi T R k x) Q k y) Q j = (if j = k then y else xi T Q j) := by
  constructor
  · rw [xi_wi, if_neg (fun z => hRQ z.1), xi_wi]
    by_cases q : j = k
    · rw [if_pos ⟨rfl, q⟩, if_pos q]
    · rw [if_neg (fun z => q z.2), if_neg q]
  · rw [xi_wi]
    by_cases q : j = k
    · rw [if_pos ⟨rfl, q⟩, if_pos q]
    · rw [if_neg (fun z => q z.2), if_neg q, xi_wi, if_neg (fun z => hRQ z.1.symm)]
theorem hputh {T : XT} {h R Q k j : Nat} {x y : Int32} (hR : h ≠ R) (hQ : h ≠ Q) : xi (xwi (xwi T R k x) Q k y) h j = xi T h j := by
  rw [xi_wi, if_neg (fun z => hQ z.1), xi_wi, if_neg (fun z => hR z.1)]
theorem xf_put {T : XT} {h R Q k : Nat} {x y : Int32} : xf (h3 h R Q) T (xwi (xwi T R k x) Q k y) := xf_tr (xf_wi (Or.inr (Or.inl rfl))) (xf_wi (Or.inr (Or.inr rfl)))
theorem xs_puts {K : XK} {T : XT} {h R Q j : Nat} {x y : Int32} {post : XT → Prop} (h0 : xr T h 0 = some R) (h1 : xr T h 1 = some Q) (hR : j < kl K R) (hQ : j < kl K Q) (hp : post (xwi (xwi T R j x) Q j y)) : wx8_puts h (nI j) x y K T post := ⟨R, h0, j, hR, rfl, fun T1 e1 => ⟨Q, by rw [e1, xr_wi]; exact h1, j, hQ, rfl, fun T2 e2 => by subst e2; subst e1; exact hp⟩⟩
theorem hpe_max {M : Nat} {ρ κ : Nat → Nat} (h : ∀ j, 2 ≤ j → j ≤ M → κ (ρ j) ≤ κ (ρ (j / 2))) (j : Nat) : 1 ≤ j → j ≤ M → κ (ρ j) ≤ κ (ρ 1) := by
  induction j using Nat.strongRecOn with
  | ind j ih =>
    intro h1 h2
    by_cases e : j = 1
    · rw [e]; exact Nat.le_refl _
    · exact Nat.le_trans (h j (by omega) h2) (ih (j / 2) (by omega) (by omega) (by omega))
theorem xs_hadd {K : XK} {T : XT} {h R Q M x : Nat} {P : Nat → Prop} {κ : Nat → Nat} {post : XT → Prop} (hh : hpe T h R Q M P κ) (hRQ : R ≠ Q) (hhR : h ≠ R) (hhQ : h ≠ Q) (hl1 : kl K R = 61) (hl2 : kl K Q = 61) (hM : M < 60) (hx : ¬ P x) (hb : ∀ y, κ y < 262144) (hp : ∀ T', xf (h3 h R Q) T T' → hpe T' h R Q (M + 1) (fun y => P y ∨ y = x) κ → post T') : wx8_add h (nI x) (nI (κ x)) K T post := by
  obtain ⟨ρ, q0, q1, q2, q3, q4, q5, q6⟩ := hh
  unfold wx8_add wx8_add_l15
  intro T1 e1
  have em : xi T1 h 2 = nI (M + 1) := by rw [e1, xi_wi, if_pos ⟨rfl, rfl⟩, q2, li_1, nI_add]
  have f1 : xf (h3 h R Q) T T1 := by rw [e1]; exact xf_wi (Or.inl rfl)
  rw [em]
  refine wl_n (fun n w => ∃ (k : Nat) (σ : Nat → Nat), n = k ∧ w.1 = nI k ∧ 1 ≤ k ∧ k ≤ M + 1 ∧ xf (h3 h R Q) T w.2 ∧ xr w.2 h 0 = some R ∧ xr w.2 h 1 = some Q ∧ xi w.2 h 2 = nI (M + 1) ∧ (∀ j, 1 ≤ j → j ≤ M + 1 → j ≠ k → xi w.2 R j = nI (σ j) ∧ xi w.2 Q j = nI (κ (σ j))) ∧ (∀ j, 2 ≤ j → j ≤ M + 1 → j ≠ k → j / 2 ≠ k → κ (σ j) ≤ κ (σ (j / 2))) ∧ (∀ j, 2 ≤ j → j ≤ M + 1 → j / 2 = k → κ (σ j) ≤ κ x ∧ (2 ≤ k → κ (σ j) ≤ κ (σ (k / 2)))) ∧ (∀ i j, 1 ≤ i → i < j → j ≤ M + 1 → i ≠ k → j ≠ k → σ i ≠ σ j) ∧ ∀ y, P y ↔ ∃ j, 1 ≤ j ∧ j ≤ M + 1 ∧ j ≠ k ∧ σ j = y) (M + 1) ⟨M + 1, ρ, rfl, rfl, by omega, by omega, f1, by rw [e1, xr_wi]; exact q0, by rw [e1, xr_wi]; exact q1, em, fun j w1 w2 w3 => ?_, fun j w1 w2 w3 w4 => q4 j w1 (by omega), fun j w1 w2 w3 => by omega, fun i j w1 w2 w3 w4 w5 => q5 i j w1 w2 (by omega), fun y => ?_⟩ ?_
  · dsimp only
    rw [e1, xi_wi, if_neg (fun z => hhR z.1.symm), xi_wi, if_neg (fun z => hhQ z.1.symm)]
    exact q3 j w1 (by omega)
  · rw [q6 y]
    exact ⟨fun ⟨j, w1, w2, w3⟩ => ⟨j, w1, by omega, by omega, w3⟩, fun ⟨j, w1, w2, w3, w4⟩ => ⟨j, w1, by omega, w4⟩⟩
  · rintro n ⟨x3, T2⟩ ⟨k, σ, hn, hx3, k1, k2, f2, g0, g1, g2, c1, c2, c3, c4, c5⟩ R15 hR
    dsimp only at hx3 f2 g0 g1 g2 c1
    subst hn hx3
    have fin : (n < 2 ∨ κ x ≤ κ (σ (n / 2))) → wx8_add_j60 h (nI x) (nI (κ x)) post (nI n) K T2 := fun hk => by
      unfold wx8_add_j60
      refine xs_puts g0 g1 (by rw [hl1]; omega) (by rw [hl2]; omega) (hp _ (xf_tr f2 xf_put) ⟨fun j => if j = n then x else σ j, by rw [xr_wi, xr_wi]; exact g0, by rw [xr_wi, xr_wi]; exact g1, by rw [hputh hhR hhQ]; exact g2, fun j w1 w2 => ?_, fun j w1 w2 => ?_, fun i j w1 w2 w3 => ?_, fun y => ⟨fun z => ?_, fun z => ?_⟩⟩)
      · rw [(hput hRQ).1, (hput hRQ).2]
        dsimp only
        by_cases w : j = n
        · rw [if_pos w, if_pos w, if_pos w]; exact ⟨rfl, rfl⟩
        · rw [if_neg w, if_neg w, if_neg w]; exact c1 j w1 w2 w
      · show κ (if j = n then x else σ j) ≤ κ (if j / 2 = n then x else σ (j / 2))
        by_cases w : j = n
        · rw [if_pos w, if_neg (show j / 2 ≠ n by omega)]
          rcases hk with z | z
          · omega
          · rw [w]; exact z
        · by_cases w2' : j / 2 = n
          · rw [if_neg w, if_pos w2']; exact (c3 j w1 w2 w2').1
          · rw [if_neg w, if_neg w2']; exact c2 j w1 w2 w w2'
      · show (if i = n then x else σ i) ≠ (if j = n then x else σ j)
        by_cases w : i = n
        · rw [if_pos w, if_neg (show j ≠ n by omega)]
          exact fun z => hx ((c5 x).2 ⟨j, by omega, w3, by omega, z.symm⟩)
        · by_cases w' : j = n
          · rw [if_neg w, if_pos w']
            exact fun z => hx ((c5 x).2 ⟨i, by omega, by omega, w, z⟩)
          · rw [if_neg w, if_neg w']
            exact c4 i j w1 w2 w3 w w'
      · rcases z with z | z
        · obtain ⟨j, w1, w2, w3, w4⟩ := (c5 y).1 z
          exact ⟨j, w1, w2, (if_neg w3).trans w4⟩
        · exact ⟨n, k1, k2, (if_pos rfl).trans z.symm⟩
      · obtain ⟨j, w1, w2, w3⟩ := z
        dsimp only at w3
        by_cases w : j = n
        · rw [if_pos w] at w3; exact Or.inr w3.symm
        · rw [if_neg w] at w3; exact Or.inl ((c5 y).2 ⟨j, w1, w2, w, w3⟩)
    unfold wx8_add_b15
    dsimp only
    rw [li_1, nI_leI (by omega) (by omega)]
    refine ⟨fun c => fin (Or.inl (by omega)), fun c => ?_⟩
    rw [li_2, n_div (by omega) (by omega) (by omega)]
    obtain ⟨d1, d2⟩ := c1 (n / 2) (by omega) (by omega) (by omega)
    refine ⟨Q, g1, n / 2, by rw [hl2]; omega, rfl, ?_⟩
    have hb1 := hb x
    have hb2 := hb (σ (n / 2))
    rw [d2, nI_leI (by omega) (by omega)]
    refine ⟨fun c' => fin (Or.inr c'), fun c' => ⟨R, g0, n / 2, by rw [hl1]; omega, rfl, Q, g1, n / 2, by rw [hl2]; omega, rfl, ?_⟩⟩
    rw [d1, d2]
    refine xs_puts g0 g1 (by rw [hl1]; omega) (by rw [hl2]; omega) (fun x3 e3 => ?_)
    subst e3
    refine hR (n / 2) _ (by omega) ⟨n / 2, fun j => if j = n then σ (n / 2) else σ j, rfl, rfl, by omega, by omega, xf_tr f2 xf_put, by rw [xr_wi, xr_wi]; exact g0, by rw [xr_wi, xr_wi]; exact g1, by dsimp only; rw [hputh hhR hhQ]; exact g2, fun j w1 w2 w3 => ?_, fun j w1 w2 w3 w4 => ?_, fun j w1 w2 w3 => ?_, fun i j w1 w2 w3 w4 w5 => ?_, fun y => ⟨fun z => ?_, fun z => ?_⟩⟩
    · dsimp only
      rw [(hput hRQ).1, (hput hRQ).2]
      by_cases w : j = n
      · rw [if_pos w, if_pos w, if_pos w]; exact ⟨rfl, rfl⟩
      · rw [if_neg w, if_neg w, if_neg w]; exact c1 j w1 w2 w
    · show κ (if j = n then σ (n / 2) else σ j) ≤ κ (if j / 2 = n then σ (n / 2) else σ (j / 2))
      rw [if_neg (show j ≠ n by omega)]
      by_cases w : j / 2 = n
      · rw [if_pos w]; exact (c3 j w1 w2 w).2 (by omega)
      · rw [if_neg w]; exact c2 j w1 w2 (by omega) w
    · show κ (if j = n then σ (n / 2) else σ j) ≤ κ x ∧ (2 ≤ n / 2 → κ (if j = n then σ (n / 2) else σ j) ≤ κ (if n / 2 / 2 = n then σ (n / 2) else σ (n / 2 / 2)))
      rw [if_neg (show n / 2 / 2 ≠ n by omega)]
      by_cases w : j = n
      · rw [if_pos w]
        exact ⟨by omega, fun z => c2 (n / 2) z (by omega) (by omega) (by omega)⟩
      · rw [if_neg w]
        have o1 := c2 j w1 w2 w (by omega)
        rw [w3] at o1
        exact ⟨by omega, fun z => Nat.le_trans o1 (c2 (n / 2) z (by omega) (by omega) (by omega))⟩
    · show (if i = n then σ (n / 2) else σ i) ≠ (if j = n then σ (n / 2) else σ j)
      by_cases w : i = n
      · rw [if_pos w, if_neg (show j ≠ n by omega)]
        exact c4 (n / 2) j (by omega) (by omega) w3 (by omega) (by omega)
      · by_cases w' : j = n
        · rw [if_neg w, if_pos w']
          rcases Nat.lt_or_gt_of_ne w4 with z | z
          · exact c4 i (n / 2) w1 z (by omega) w (by omega)
          · exact (c4 (n / 2) i (by omega) z (by omega) (by omega) w).symm
        · rw [if_neg w, if_neg w']
          exact c4 i j w1 w2 w3 w w'
    · obtain ⟨j, w1, w2, w3, w4⟩ := (c5 y).1 z
      by_cases w : j = n / 2
      · exact ⟨n, k1, k2, by omega, (if_pos rfl).trans (by rw [← w]; exact w4)⟩
      · exact ⟨j, w1, w2, w, (if_neg w3).trans w4⟩
    · obtain ⟨j, w1, w2, w3, w4⟩ := z
      dsimp only at w4
      by_cases w : j = n
      · rw [if_pos w] at w4
        exact (c5 y).2 ⟨n / 2, by omega, by omega, by omega, w4⟩
      · rw [if_neg w] at w4
        exact (c5 y).2 ⟨j, w1, w2, w, w4⟩
theorem xs_htop {K : XK} {T : XT} {h R Q M : Nat} {P : Nat → Prop} {κ : Nat → Nat} {post : Int32 → Prop} (hh : hpe T h R Q M P κ) (hl2 : kl K Q = 61) (hM : 1 ≤ M) (hp : ∀ x, P x → (∀ y, P y → κ y ≤ κ x) → post (nI (κ x))) : wx8_top h K T post := by
  obtain ⟨ρ, q0, q1, q2, q3, q4, q5, q6⟩ := hh
  refine ⟨Q, q1, 1, by rw [hl2]; omega, li_1, ?_⟩
  rw [(q3 1 (by omega) hM).2]
  refine hp (ρ 1) ((q6 _).2 ⟨1, by omega, hM, rfl⟩) (fun y hy => ?_)
  obtain ⟨j, w1, w2, w3⟩ := (q6 y).1 hy
  rw [← w3]
  exact hpe_max q4 j w1 w2
theorem hpe_cg {T : XT} {h R Q M : Nat} {P P' : Nat → Prop} {κ κ' : Nat → Nat} (hh : hpe T h R Q M P κ) (hP : ∀ y, P y ↔ P' y) (hκ : ∀ y, P y → κ y = κ' y) : hpe T h R Q M P' κ' := by
  obtain ⟨ρ, q0, q1, q2, q3, q4, q5, q6⟩ := hh
  have e : ∀ j, 1 ≤ j → j ≤ M → κ (ρ j) = κ' (ρ j) := fun j h1 h2 => hκ _ ((q6 _).2 ⟨j, h1, h2, rfl⟩)
  exact ⟨ρ, q0, q1, q2, fun j h1 h2 => by rw [← e j h1 h2]; exact q3 j h1 h2, fun j h1 h2 => by rw [← e j (by omega) h2, ← e (j / 2) (by omega) (by omega)]; exact q4 j h1 h2, q5, fun y => (hP y).symm.trans (q6 y)⟩
theorem hpe_keep {T T' : XT} {h R Q M : Nat} {P F : Nat → Prop} {κ : Nat → Nat} (hh : hpe T h R Q M P κ) (hf : xf F T T') (n1 : ¬ F h) (n2 : ¬ F R) (n3 : ¬ F Q) : hpe T' h R Q M P κ := by
  obtain ⟨ρ, q0, q1, q2, q3, q4, q5, q6⟩ := hh
  have e1 := hf h n1
  have e2 := hf R n2
  have e3 := hf Q n3
  exact ⟨ρ, by rw [e1.2]; exact q0, by rw [e1.2]; exact q1, by rw [e1.1]; exact q2, fun j h1 h2 => by rw [e2.1, e3.1]; exact q3 j h1 h2, q4, q5, q6⟩
theorem hpe_some {T : XT} {h R Q M : Nat} {P : Nat → Prop} {κ : Nat → Nat} (hh : hpe T h R Q M P κ) {y : Nat} (hy : P y) : 1 ≤ M := by
  obtain ⟨ρ, q0, q1, q2, q3, q4, q5, q6⟩ := hh
  obtain ⟨j, w1, w2, w3⟩ := (q6 y).1 hy
  omega
theorem xs_htake {K : XK} {T : XT} {h R Q M : Nat} {P : Nat → Prop} {κ : Nat → Nat} {post : Int32 → XT → Prop} (hh : hpe T h R Q (M + 1) P κ) (hRQ : R ≠ Q) (hhR : h ≠ R) (hhQ : h ≠ Q) (hl1 : kl K R = 61) (hl2 : kl K Q = 61) (hM : M < 60) (hb : ∀ y, κ y < 262144) (hp : ∀ T' x, P x → (∀ y, P y → κ y ≤ κ x) → xf (h3 h R Q) T T' → hpe T' h R Q M (fun y => P y ∧ y ≠ x) κ → post (nI x) T') : wx8_take h K T post := by
  obtain ⟨ρ, q0, q1, q2, q3, q4, q5, q6⟩ := hh
  have d1 := q3 1 (by omega) (by omega)
  have dl := q3 (M + 1) (by omega) (by omega)
  have hpx := hp
  replace hp := fun T' => hp T' (ρ 1) ((q6 _).2 ⟨1, by omega, by omega, rfl⟩) (fun y hy => by
    obtain ⟨j, w1, w2, w3⟩ := (q6 y).1 hy
    rw [← w3]
    exact hpe_max q4 j w1 w2)
  unfold wx8_take wx8_take_l40
  refine ⟨R, q0, 1, by rw [hl1]; omega, li_1, R, q0, M + 1, by rw [hl1]; omega, q2, Q, q1, M + 1, by rw [hl2]; omega, q2, fun T1 e1 => ?_⟩
  have em : xi T1 h 2 = nI M := by rw [e1, xi_wi, if_pos ⟨rfl, rfl⟩, q2, li_1, pk_sub (by omega)]; rfl
  have f1 : xf (h3 h R Q) T T1 := by rw [e1]; exact xf_wi (Or.inl rfl)
  rw [d1.1, dl.1, dl.2]
  refine wl_n (fun n w => ∃ (k : Nat) (σ : Nat → Nat), n = 61 - k ∧ w.1 = nI k ∧ 1 ≤ k ∧ k ≤ M + 1 ∧ (2 ≤ k → k ≤ M) ∧ xf (h3 h R Q) T w.2 ∧ xr w.2 h 0 = some R ∧ xr w.2 h 1 = some Q ∧ xi w.2 h 2 = nI M ∧ (∀ j, 1 ≤ j → j ≤ M → j ≠ k → xi w.2 R j = nI (σ j) ∧ xi w.2 Q j = nI (κ (σ j))) ∧ (∀ j, 2 ≤ j → j ≤ M → j ≠ k → j / 2 ≠ k → κ (σ j) ≤ κ (σ (j / 2))) ∧ (2 ≤ k → κ (ρ (M + 1)) ≤ κ (σ (k / 2)) ∧ ∀ j, 2 ≤ j → j ≤ M → j / 2 = k → κ (σ j) ≤ κ (σ (k / 2))) ∧ (∀ i j, 1 ≤ i → i < j → j ≤ M → i ≠ k → j ≠ k → σ i ≠ σ j) ∧ ∀ y, (P y ∧ y ≠ ρ 1 ∧ y ≠ ρ (M + 1)) ↔ ∃ j, 1 ≤ j ∧ j ≤ M ∧ j ≠ k ∧ σ j = y) (61 - 1) ⟨1, ρ, rfl, li_1, by omega, by omega, fun w => absurd w (by omega), f1, by rw [e1, xr_wi]; exact q0, by rw [e1, xr_wi]; exact q1, em, fun j w1 w2 w3 => ?_, fun j w1 w2 w3 w4 => q4 j w1 (by omega), fun w => absurd w (by omega), fun i j w1 w2 w3 w4 w5 => q5 i j w1 w2 (by omega), fun y => ⟨fun z => ?_, fun z => ?_⟩⟩ ?_
  · dsimp only
    rw [e1, xi_wi, if_neg (fun z => hhR z.1.symm), xi_wi, if_neg (fun z => hhQ z.1.symm)]
    exact q3 j w1 (by omega)
  · obtain ⟨j, w1, w2, w3⟩ := (q6 y).1 z.1
    refine ⟨j, w1, ?_, ?_, w3⟩
    · have : j ≠ M + 1 := fun e => z.2.2 (by rw [← w3, e])
      omega
    · exact fun e => z.2.1 (by rw [← w3, e])
  · obtain ⟨j, w1, w2, w3, w4⟩ := z
    refine ⟨(q6 y).2 ⟨j, w1, by omega, w4⟩, ?_, ?_⟩
    · rw [← w4]; exact (q5 1 j (by omega) (by omega) (by omega)).symm
    · rw [← w4]; exact q5 j (M + 1) w1 (by omega) (by omega)
  · rintro n ⟨x4, T2⟩ ⟨k, σ, hn, hx4, k1, k2, k3, f2, g0, g1, g2, c1, c2, c3, c4, c5⟩ R40 hR
    dsimp only at hx4 f2 g0 g1 g2 c1
    subst hx4
    have hbl := hb (ρ (M + 1))
    have fin : (∀ j, 2 ≤ j → j ≤ M → j / 2 = k → κ (σ j) ≤ κ (ρ (M + 1))) → wx8_take_j141 h post (nI (ρ 1)) (nI (ρ (M + 1))) (nI (κ (ρ (M + 1)))) (nI k) K T2 := fun hk => by
      unfold wx8_take_j141
      refine xs_puts g0 g1 (by rw [hl1]; omega) (by rw [hl2]; omega) (hp _ (xf_tr f2 xf_put) ?_)
      by_cases m0 : M = 0
      · subst m0
        refine ⟨fun _ => 0, by rw [xr_wi, xr_wi]; exact g0, by rw [xr_wi, xr_wi]; exact g1, by rw [hputh hhR hhQ]; exact g2, fun j w1 w2 => absurd w2 (by omega), fun j w1 w2 => absurd w2 (by omega), fun i j w1 w2 w3 => absurd w3 (by omega), fun y => ⟨fun z => ?_, fun ⟨j, w1, w2, _⟩ => absurd w2 (by omega)⟩⟩
        obtain ⟨j, w1, w2, w3⟩ := (q6 y).1 z.1
        exact absurd (by rw [← w3, show j = 1 by omega]) z.2
      · have kM : k ≤ M := by
          by_cases z : 2 ≤ k
          · exact k3 z
          · omega
        have hne : ρ 1 ≠ ρ (M + 1) := q5 1 (M + 1) (by omega) (by omega) (by omega)
        refine ⟨fun j => if j = k then ρ (M + 1) else σ j, by rw [xr_wi, xr_wi]; exact g0, by rw [xr_wi, xr_wi]; exact g1, by rw [hputh hhR hhQ]; exact g2, fun j w1 w2 => ?_, fun j w1 w2 => ?_, fun i j w1 w2 w3 => ?_, fun y => ⟨fun z => ?_, fun z => ?_⟩⟩
        · rw [(hput hRQ).1, (hput hRQ).2]
          dsimp only
          by_cases w : j = k
          · rw [if_pos w, if_pos w, if_pos w]; exact ⟨rfl, rfl⟩
          · rw [if_neg w, if_neg w, if_neg w]; exact c1 j w1 w2 w
        · show κ (if j = k then ρ (M + 1) else σ j) ≤ κ (if j / 2 = k then ρ (M + 1) else σ (j / 2))
          by_cases w : j = k
          · rw [if_pos w, if_neg (show j / 2 ≠ k by omega), w]
            exact (c3 (by omega)).1
          · by_cases w2' : j / 2 = k
            · rw [if_neg w, if_pos w2']; exact hk j w1 w2 w2'
            · rw [if_neg w, if_neg w2']; exact c2 j w1 w2 w w2'
        · show (if i = k then ρ (M + 1) else σ i) ≠ (if j = k then ρ (M + 1) else σ j)
          by_cases w : i = k
          · rw [if_pos w, if_neg (show j ≠ k by omega)]
            exact fun z => ((c5 _).2 ⟨j, by omega, w3, by omega, rfl⟩).2.2 z.symm
          · by_cases w' : j = k
            · rw [if_neg w, if_pos w']
              exact fun z => ((c5 _).2 ⟨i, by omega, by omega, w, rfl⟩).2.2 z
            · rw [if_neg w, if_neg w']
              exact c4 i j w1 w2 w3 w w'
        · by_cases w : y = ρ (M + 1)
          · exact ⟨k, k1, kM, (if_pos rfl).trans w.symm⟩
          · obtain ⟨j, w1, w2, w3, w4⟩ := (c5 y).1 ⟨z.1, z.2, w⟩
            exact ⟨j, w1, w2, (if_neg w3).trans w4⟩
        · obtain ⟨j, w1, w2, w3⟩ := z
          dsimp only at w3
          by_cases w : j = k
          · rw [if_pos w] at w3
            rw [← w3]
            exact ⟨(q6 _).2 ⟨M + 1, by omega, by omega, rfl⟩, hne.symm⟩
          · rw [if_neg w] at w3
            have := (c5 y).2 ⟨j, w1, w2, w, w3⟩
            exact ⟨this.1, this.2.1⟩
    have J100 : ∀ c, 2 ≤ c → c ≤ M → c / 2 = k → (∀ j, 2 ≤ j → j ≤ M → j / 2 = k → κ (σ j) ≤ κ (σ c)) → wx8_take_j100 h post (fun x4 T => R40 (x4, T)) (nI (ρ 1)) (nI (ρ (M + 1))) (nI (κ (ρ (M + 1)))) (nI k) (nI c) K T2 := fun c a1 a2 a3 a4 => by
      obtain ⟨d1, d2⟩ := c1 c (by omega) a2 (by omega)
      have hbc := hb (σ c)
      unfold wx8_take_j100
      refine ⟨Q, g1, c, by rw [hl2]; omega, rfl, ?_⟩
      rw [d2, nI_ltI (by omega) (by omega)]
      refine ⟨fun lt => ⟨R, g0, c, by rw [hl1]; omega, rfl, Q, g1, c, by rw [hl2]; omega, rfl, ?_⟩, fun lt => fin fun j w1 w2 w3 => ?_⟩
      · rw [d1, d2]
        refine xs_puts g0 g1 (by rw [hl1]; omega) (by rw [hl2]; omega) ?_
        refine hR (61 - c) _ (by omega) ⟨c, fun j => if j = k then σ c else σ j, rfl, rfl, by omega, by omega, fun _ => a2, xf_tr f2 xf_put, by rw [xr_wi, xr_wi]; exact g0, by rw [xr_wi, xr_wi]; exact g1, by dsimp only; rw [hputh hhR hhQ]; exact g2, fun j w1 w2 w3 => ?_, fun j w1 w2 w3 w4 => ?_, fun _ => ⟨?_, fun j w1 w2 w3 => ?_⟩, fun i j w1 w2 w3 w4 w5 => ?_, fun y => ⟨fun z => ?_, fun z => ?_⟩⟩
        · dsimp only
          rw [(hput hRQ).1, (hput hRQ).2]
          by_cases w : j = k
          · rw [if_pos w, if_pos w, if_pos w]; exact ⟨rfl, rfl⟩
          · rw [if_neg w, if_neg w, if_neg w]; exact c1 j w1 w2 w
        · show κ (if j = k then σ c else σ j) ≤ κ (if j / 2 = k then σ c else σ (j / 2))
          by_cases w : j = k
          · rw [if_pos w, if_neg (show j / 2 ≠ k by omega), w]
            exact (c3 (by omega)).2 c a1 a2 a3
          · rw [if_neg w]
            by_cases w' : j / 2 = k
            · rw [if_pos w']; exact a4 j w1 w2 w'
            · rw [if_neg w']; exact c2 j w1 w2 w w'
        · show κ (ρ (M + 1)) ≤ κ (if c / 2 = k then σ c else σ (c / 2))
          rw [if_pos a3]; omega
        · show κ (if j = k then σ c else σ j) ≤ κ (if c / 2 = k then σ c else σ (c / 2))
          rw [if_pos a3, if_neg (show j ≠ k by omega)]
          have := c2 j w1 w2 (by omega) (by omega)
          rw [w3] at this
          exact this
        · show (if i = k then σ c else σ i) ≠ (if j = k then σ c else σ j)
          by_cases w : i = k
          · rw [if_pos w, if_neg (show j ≠ k by omega)]
            rcases Nat.lt_or_gt_of_ne w5 with z | z
            · exact (c4 j c (by omega) z a2 (by omega) (by omega)).symm
            · exact c4 c j (by omega) z w3 (by omega) (by omega)
          · by_cases w' : j = k
            · rw [if_neg w, if_pos w']
              exact c4 i c w1 (by omega) a2 w (by omega)
            · rw [if_neg w, if_neg w']
              exact c4 i j w1 w2 w3 w w'
        · obtain ⟨j, w1, w2, w3, w4⟩ := (c5 y).1 z
          by_cases w : j = c
          · exact ⟨k, k1, by omega, by omega, (if_pos rfl).trans (by rw [← w]; exact w4)⟩
          · exact ⟨j, w1, w2, w, (if_neg w3).trans w4⟩
        · obtain ⟨j, w1, w2, w3, w4⟩ := z
          dsimp only at w4
          by_cases w : j = k
          · rw [if_pos w] at w4
            exact (c5 y).2 ⟨c, by omega, a2, by omega, w4⟩
          · rw [if_neg w] at w4
            exact (c5 y).2 ⟨j, w1, w2, w, w4⟩
      · have := a4 j w1 w2 w3
        omega
    unfold wx8_take_b40 wx8_take_j94
    dsimp only
    rw [g2, li_2, pk_mul, nI_ltI (by omega) (by omega), nI_leI (by omega) (by omega), li_1, nI_add]
    refine ⟨fun c => fin fun j w1 w2 w3 => by omega, fun c => ⟨fun c' x5 e5 => ?_, fun c' => ?_⟩⟩
    · subst e5
      exact J100 (2 * k) (by omega) (by omega) (by omega) (fun j w1 w2 w3 => by rw [show j = 2 * k by omega]; exact Nat.le_refl _)
    · obtain ⟨_, d3⟩ := c1 (2 * k + 1) (by omega) (by omega) (by omega)
      obtain ⟨_, d4⟩ := c1 (2 * k) (by omega) (by omega) (by omega)
      have hb3 := hb (σ (2 * k + 1))
      have hb4 := hb (σ (2 * k))
      refine ⟨Q, g1, 2 * k + 1, by rw [hl2]; omega, rfl, Q, g1, 2 * k, by rw [hl2]; omega, rfl, ?_⟩
      rw [d3, d4, nI_leI (by omega) (by omega)]
      refine ⟨fun c2 x5 e5 => ?_, fun c2 x5 e5 => ?_⟩
      · subst e5
        refine J100 (2 * k) (by omega) (by omega) (by omega) (fun j w1 w2 w3 => ?_)
        rcases show j = 2 * k ∨ j = 2 * k + 1 by omega with e | e
        · rw [e]; exact Nat.le_refl _
        · rw [e]; exact c2
      · subst e5
        refine J100 (2 * k + 1) (by omega) (by omega) (by omega) (fun j w1 w2 w3 => ?_)
        rcases show j = 2 * k ∨ j = 2 * k + 1 by omega with e | e
        · rw [e]; omega
        · rw [e]; exact Nat.le_refl _
