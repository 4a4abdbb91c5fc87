set_option maxRecDepth 100000
/-! the Model's acts -/
/-- what 'remembers' does: d = 1 where the first one is dropped -/
def rmb (S S' : St) (x : Int32) (n d : Nat) : Prop := (∀ k i, (k < 13 ∨ 17 < k) → ¬ (k = 0 ∧ i = 45) → S' k i = S k i) ∧ S' 0 45 = nI (n + 1) ∧ (∀ j k, j < n → k < 4096 → S' 13 (4096 * j + k) = S 13 (4096 * (j + d) + k)) ∧ (∀ b j, 14 ≤ b → b ≤ 17 → j < n → S' b j = S b (j + d)) ∧ S' 14 n = x ∧ S' 15 n = S 0 6 ∧ S' 16 n = S 0 7 ∧ S' 17 n = S 0 8
theorem sp_remembers_end {n : Nat} {x : Int32} {S0 S : St} {post : St → Prop} (hn : n < 8) (hx : x = -1 ∨ ∃ r, r < 8 ∧ x = nI r) (h45 : S 0 45 = nI n) (hp : ∀ S', (∀ k i, k ≠ 13 → (k < 14 ∨ 17 < k ∨ i ≠ n) → ¬ (k = 0 ∧ i = 45) → S' k i = S k i) → (∀ i, i < 4096 * n → S' 13 i = S 13 i) → S' 0 45 = nI (n + 1) → S' 14 n = x → S' 15 n = S 0 6 → S' 16 n = S 0 7 → S' 17 n = S 0 8 → (∀ r, x = nI r → r < 8 → ∀ k, k < 4096 → S' 13 (4096 * n + k) = S 1 (4096 * r + k)) → post S') : wp_remembers_j121 x post S := by
  unfold wp_remembers_j121 wp_remembers_l123
  refine wl_up 4096 (fun i v => v.1 = nI i ∧ (∀ k j, k ≠ 13 → v.2 k j = S k j) ∧ (∀ j, j < 4096 * n → v.2 13 j = S 13 j) ∧ (∀ r, x = nI r → r < 8 → ∀ k, k < i → v.2 13 (4096 * n + k) = S 1 (4096 * r + k))) 0 (by omega) ⟨rfl, fun _ _ _ => rfl, fun _ _ => rfl, fun r _ _ k hk => absurd hk (by omega)⟩ ?_
  rintro i ⟨x2, S1⟩ hi ⟨hx2, hfr, hold, hnew⟩ R hR
  dsimp only at hx2 hfr hold hnew
  subst hx2
  unfold wp_remembers_b123 wp_remembers_j160
  dsimp only
  have e45 : S1 0 45 = nI n := by rw [hfr 0 45 (by omega)]; exact h45
  rw [li_4096, nI_leI (by omega) (by omega)]
  refine ⟨fun c => ?_, fun c => ?_⟩
  · refine ⟨n, hn, e45, fun S3 e3 => ⟨n, hn, by rw [e3, bw_at, if_neg (by omega)]; exact e45, fun S5 e5 => ⟨n, hn, by rw [e5, bw_at, if_neg (by omega), e3, bw_at, if_neg (by omega)]; exact e45, fun S7 e7 => ⟨n, hn, by rw [e7, bw_at, if_neg (by omega), e5, bw_at, if_neg (by omega), e3, bw_at, if_neg (by omega)]; exact e45, fun S9 e9 S10 e10 => ?_⟩⟩⟩⟩
    have g9 : ∀ k j, (k < 14 ∨ 17 < k ∨ j ≠ n) → S9 k j = S1 k j := fun k j q => by
      rw [e9, bw_at, if_neg (by omega), e7, bw_at, if_neg (by omega), e5, bw_at, if_neg (by omega), e3, bw_at, if_neg (by omega)]
    have g10 : ∀ k j, ¬ (k = 0 ∧ j = 45) → S10 k j = S9 k j := fun k j q => by rw [e10, bw_at, if_neg q]
    refine hp S10 (fun k j q1 q2 q3 => ?_) (fun j hj => ?_) ?_ ?_ ?_ ?_ ?_ (fun r er hr k hk => ?_)
    · rw [g10 k j q3, g9 k j q2]; exact hfr k j q1
    · rw [g10 13 j (by omega), g9 13 j (by omega)]; exact hold j hj
    · rw [e10, bw_at, if_pos ⟨rfl, rfl⟩, g9 0 45 (by omega), e45, li_1, nI_add]
    · rw [g10 14 n (by omega), e9, bw_at, if_neg (by omega), e7, bw_at, if_neg (by omega), e5, bw_at, if_neg (by omega), e3, bw_at, if_pos ⟨rfl, rfl⟩]
    · rw [g10 15 n (by omega), e9, bw_at, if_neg (by omega), e7, bw_at, if_neg (by omega), e5, bw_at, if_pos ⟨rfl, rfl⟩, e3, bw_at, if_neg (by omega)]
      exact hfr 0 6 (by omega)
    · rw [g10 16 n (by omega), e9, bw_at, if_neg (by omega), e7, bw_at, if_pos ⟨rfl, rfl⟩, e5, bw_at, if_neg (by omega), e3, bw_at, if_neg (by omega)]
      exact hfr 0 7 (by omega)
    · rw [g10 17 n (by omega), e9, bw_at, if_pos ⟨rfl, rfl⟩, e7, bw_at, if_neg (by omega), e5, bw_at, if_neg (by omega), e3, bw_at, if_neg (by omega)]
      exact hfr 0 8 (by omega)
    · rw [g10 13 _ (by omega), g9 13 _ (by omega)]; exact hnew r er hr k (by omega)
  · have hix : 4096 * nI n + nI i = nI (4096 * n + i) := by rw [li_4096, pk_mul, nI_add]
    rw [e45]
    have step : ∀ (v : Int32) (S2 : St), S2 = bw S1 13 (4096 * n + i) v → (∀ r, x = nI r → r < 8 → v = S 1 (4096 * r + i)) → ∀ x2, x2 = nI i + 1 → R (x2, S2) := fun v S2 e2 hv x2 ex2 => by
      subst ex2
      refine hR (by omega) _ ⟨by rw [li_1, nI_add], fun k j q => ?_, fun j hj => ?_, fun r er hr k hk => ?_⟩
      · show S2 k j = _
        rw [e2, bw_at, if_neg (by omega)]; exact hfr k j q
      · show S2 13 j = _
        rw [e2, bw_at, if_neg (by omega)]; exact hold j hj
      · show S2 13 _ = _
        rw [e2, bw_at]
        by_cases q : k = i
        · rw [if_pos ⟨rfl, by omega⟩, q]; exact hv r er hr
        · rw [if_neg (by omega)]; exact hnew r er hr k (by omega)
    refine ⟨fun c1 => ?_, fun c1 => ⟨4096 * n + i, by omega, hix, fun S2 e2 => step 0 S2 e2 (fun r er hr => ?_)⟩⟩
    · obtain ⟨r, hr, er⟩ := hx.resolve_left c1
      have hc2 : wp_coef x (nI i) S1 (fun r_11 => ∃ j_13, j_13 < 32768 ∧ 4096 * nI n + nI i = nI j_13 ∧ ∀ S_14 : St, S_14 = bw S1 13 j_13 r_11 → ∀ x2_1 : Int32, x2_1 = nI i + 1 → R (x2_1, S_14)) := by
        rw [er]
        refine sp_coef hr (by omega) ⟨4096 * n + i, by omega, hix, fun S2 e2 => step _ S2 e2 (fun r' er' hr' => ?_)⟩
        rw [er, nI_eq (by omega) (by omega)] at er'
        rw [← er', hfr 1 _ (by omega)]
      exact hc2
    · rw [c1] at er
      exact absurd er.symm (n_m1 (by omega))
theorem sp_remembers {n : Nat} {x : Int32} {S : St} {post : St → Prop} (hn : n ≤ 8) (hx : x = -1 ∨ ∃ r, r < 8 ∧ x = nI r) (h45 : S 0 45 = nI n) (hp : ∀ S', rmb S S' x (if n = 8 then 7 else n) (if n = 8 then 1 else 0) → (∀ r, x = nI r → r < 8 → ∀ k, k < 4096 → S' 13 (4096 * (if n = 8 then 7 else n) + k) = S 1 (4096 * r + k)) → post S') : wp_remembers x S post := by
  unfold wp_remembers
  rw [h45, li_8, nI_eq (by omega) (by omega)]
  refine ⟨fun c => ?_, fun c => ?_⟩
  · rw [if_neg c, if_neg c] at hp
    refine sp_remembers_end (S0 := S) (by omega) hx h45 (fun S' f1 f2 f3 f4 f5 f6 f7 f8 => hp S' ⟨fun k i q1 q2 => f1 k i (by omega) (by omega) q2, f3, fun j k hj hk => by rw [Nat.add_zero]; exact f2 _ (by omega), fun b j b1 b2 hj => by rw [Nat.add_zero]; exact f1 b j (by omega) (by omega) (by omega), f4, f5, f6, f7⟩ f8)
  · subst c
    rw [if_pos rfl, if_pos rfl] at hp
    unfold wp_remembers_l13
    refine wl_up 32768 (fun i v => v.1 = nI i ∧ 4096 ≤ i ∧ (∀ k j, k ≠ 13 → v.2 k j = S k j) ∧ (∀ j, j < i - 4096 → v.2 13 j = S 13 (j + 4096)) ∧ ∀ j, i - 4096 ≤ j → v.2 13 j = S 13 j) 4096 (by omega) ⟨rfl, by omega, fun _ _ _ => rfl, fun j hj => absurd hj (by omega), fun _ _ => rfl⟩ ?_
    rintro i ⟨x2, S1⟩ hi ⟨hx2, hi2, hfr, hlow, hhigh⟩ R hR
    dsimp only at hx2 hfr hlow hhigh
    subst hx2
    unfold wp_remembers_b13
    dsimp only
    rw [li_32768, nI_leI (by omega) (by omega)]
    refine ⟨fun c => ?_, fun c => ?_⟩
    · have hi3 : i = 32768 := by omega
      subst hi3
      unfold wp_remembers_l43
      refine wl_up 8 (fun i v => v.1 = nI i ∧ 1 ≤ i ∧ (∀ k j, (k < 14 ∨ 17 < k) → v.2 k j = S1 k j) ∧ (∀ b j, 14 ≤ b → b ≤ 17 → j < i - 1 → v.2 b j = S b (j + 1)) ∧ ∀ b j, 14 ≤ b → b ≤ 17 → i - 1 ≤ j → v.2 b j = S b j) 1 (by omega) ⟨rfl, by omega, fun _ _ _ => rfl, fun b j _ _ hj => absurd hj (by omega), fun b j _ _ _ => hfr b j (by omega)⟩ ?_
      rintro i ⟨x2, S2⟩ hi ⟨hx2, hi2, hfr2, hlow2, hhigh2⟩ R2 hR2
      dsimp only at hx2 hfr2 hlow2 hhigh2
      subst hx2
      unfold wp_remembers_b43
      dsimp only
      rw [li_8, nI_leI (by omega) (by omega)]
      refine ⟨fun c2 S3 e3 => ?_, fun c2 => ?_⟩
      · have hi4 : i = 8 := by omega
        subst hi4
        have e45 : S2 0 45 = nI 8 := by rw [hfr2 0 45 (by omega), hfr 0 45 (by omega)]; exact h45
        rw [e45, li_1, pk_sub (by omega)] at e3
        have g3 : ∀ k j, ¬ (k = 0 ∧ j = 45) → S3 k j = S2 k j := fun k j q => by rw [e3, bw_at, if_neg q]
        have low : ∀ k j, (k < 13 ∨ 17 < k) → ¬ (k = 0 ∧ j = 45) → S3 k j = S k j := fun k j q1 q2 => by rw [g3 k j q2, hfr2 k j (by omega), hfr k j (by omega)]
        refine sp_remembers_end (S0 := S) (n := 7) (by omega) hx (by rw [e3, bw_at, if_pos ⟨rfl, rfl⟩]) (fun S' f1 f2 f3 f4 f5 f6 f7 f8 => hp S' ⟨fun k j q1 q2 => ?_, f3, fun j k hj hk => ?_, fun b j b1 b2 hj => ?_, f4, ?_, ?_, ?_⟩ (fun r er hr k hk => ?_))
        · rw [f1 k j (by omega) (by omega) q2]; exact low k j q1 q2
        · rw [f2 _ (by omega), g3 13 _ (by omega), hfr2 13 _ (by omega), hlow _ (by omega)]
          congr 1
          omega
        · rw [f1 b j (by omega) (by omega) (by omega), g3 b j (by omega)]; exact hlow2 b j b1 b2 (by omega)
        · rw [f5]; exact low 0 6 (by omega) (by omega)
        · rw [f6]; exact low 0 7 (by omega) (by omega)
        · rw [f7]; exact low 0 8 (by omega) (by omega)
        · rw [f8 r er hr k hk]; exact low 1 _ (by omega) (by omega)
      · have hm1 : nI i - 1 = nI (i - 1) := by rw [li_1, pk_sub (by omega)]
        refine ⟨i, by omega, rfl, i - 1, by omega, hm1, fun S3 e3 => ⟨i, by omega, rfl, i - 1, by omega, hm1, fun S4 e4 => ⟨i, by omega, rfl, i - 1, by omega, hm1, fun S5 e5 => ⟨i, by omega, rfl, i - 1, by omega, hm1, fun S6 e6 x2 ex2 => ?_⟩⟩⟩⟩
        subst ex2
        have g6 : ∀ k j, S6 k j = if 14 ≤ k ∧ k ≤ 17 ∧ j = i - 1 then S k i else S2 k j := fun k j => by
          have hv : ∀ b, 14 ≤ b → b ≤ 17 → S2 b i = S b i := fun b b1 b2 => hhigh2 b i b1 b2 (by omega)
          by_cases q : 14 ≤ k ∧ k ≤ 17 ∧ j = i - 1
          · rw [if_pos q]
            obtain ⟨q1, q2, q3⟩ := q
            have : k = 14 ∨ k = 15 ∨ k = 16 ∨ k = 17 := by omega
            rcases this with e | e | e | e <;> subst e
            · rw [e6, bw_at, if_neg (by omega), e5, bw_at, if_neg (by omega), e4, bw_at, if_neg (by omega), e3, bw_at, if_pos ⟨rfl, q3⟩, hv 14 (by omega) (by omega)]
            · rw [e6, bw_at, if_neg (by omega), e5, bw_at, if_neg (by omega), e4, bw_at, if_pos ⟨rfl, q3⟩, e3, bw_at, if_neg (by omega), hv 15 (by omega) (by omega)]
            · rw [e6, bw_at, if_neg (by omega), e5, bw_at, if_pos ⟨rfl, q3⟩, e4, bw_at, if_neg (by omega), e3, bw_at, if_neg (by omega), hv 16 (by omega) (by omega)]
            · rw [e6, bw_at, if_pos ⟨rfl, q3⟩, e5, bw_at, if_neg (by omega), e4, bw_at, if_neg (by omega), e3, bw_at, if_neg (by omega), hv 17 (by omega) (by omega)]
          · rw [if_neg q, e6, bw_at, if_neg (by omega), e5, bw_at, if_neg (by omega), e4, bw_at, if_neg (by omega), e3, bw_at, if_neg (by omega)]
        refine hR2 (by omega) _ ⟨by rw [li_1, nI_add], by omega, fun k j q => ?_, fun b j b1 b2 hj => ?_, fun b j b1 b2 hj => ?_⟩
        · show S6 k j = _
          rw [g6, if_neg (by omega)]; exact hfr2 k j q
        · show S6 b j = _
          rw [g6]
          by_cases q : j = i - 1
          · rw [if_pos ⟨b1, b2, q⟩, q, show i - 1 + 1 = i by omega]
          · rw [if_neg (by omega)]; exact hlow2 b j b1 b2 (by omega)
        · show S6 b j = _
          rw [g6, if_neg (by omega)]; exact hhigh2 b j b1 b2 (by omega)
    · have hm : nI i - 4096 = nI (i - 4096) := by rw [li_4096, pk_sub (by omega)]
      refine ⟨i, by omega, rfl, i - 4096, by omega, hm, fun S2 e2 x2 ex2 => ?_⟩
      subst ex2
      refine hR (by omega) _ ⟨by rw [li_1, nI_add], by omega, fun k j q => ?_, fun j hj => ?_, fun j hj => ?_⟩
      · show S2 k j = _
        rw [e2, bw_at, if_neg (by omega)]; exact hfr k j q
      · show S2 13 j = _
        rw [e2, bw_at]
        by_cases q : j = i - 4096
        · rw [if_pos ⟨rfl, q⟩, hhigh i (by omega), q, show i - 4096 + 4096 = i by omega]
        · rw [if_neg (by omega)]; exact hlow j (by omega)
      · show S2 13 j = _
        rw [e2, bw_at, if_neg (by omega)]; exact hhigh j (by omega)
/-- the abstract side: what stands is kept -/
def kN (A : AB) : Nat := if aN A 5 = 8 then 7 else aN A 5
def kD (A : AB) : Nat := if aN A 5 = 8 then 1 else 0
def aK (A : AB) : AB := (fun i => if i = 5 then kN A + 1 else aN A i, aR A, fun j => if j = kN A then aR A else aP A (j + kD A), fun j i => if j = kN A then aN A (2 + i) else aO A (j + kD A) i, aT A, aZ A)
/-- a register gets a table -/
def aG (A : AB) (q : Nat) (w : Nat → Nat) : AB := (aN A, fun r => if r = q then w else aR A r, aP A, aO A, aT A, aZ A)
def aL (A : AB) (q : Nat) (w : Nat → Nat) : AB := aS (aG (aK A) q w) 0 (-1)
theorem kN_le {A : AB} (h : aN A 5 ≤ 8) : kN A ≤ 7 ∧ kN A + kD A = aN A 5 := by
  unfold kN kD
  split <;> omega
theorem wf_K {A : AB} (h : wf A) (ht : aN A 0 = 1) : wf (aK A) := by
  obtain ⟨h1, h2, h3, h4, h5⟩ := h
  obtain ⟨g1, g2, g3, g4, g5⟩ := h5 ht
  obtain ⟨k1, k2⟩ := kN_le g4
  refine ⟨h1, h2, h3, fun z => absurd (z.symm.trans ht) (by decide), fun _ => ⟨g1, g2, g3, by show kN A + 1 ≤ 8; omega, fun j hj => ?_⟩⟩
  have hj : j < kN A + 1 := hj
  show vo (if j = kN A then aN A 2 else aO A (j + kD A) 0) (if j = kN A then aN A 3 else aO A (j + kD A) 1) (if j = kN A then aN A 4 else aO A (j + kD A) 2) ∧ ∀ r, r < 8 → tab (aN A 1) ((if j = kN A then aR A else aP A (j + kD A)) r)
  by_cases e : j = kN A
  · rw [if_pos e, if_pos e, if_pos e, if_pos e]
    exact ⟨g2, g3⟩
  · rw [if_neg e, if_neg e, if_neg e, if_neg e]
    exact g5 (j + kD A) (by omega)
theorem wf_G {A : AB} {q : Nat} {w : Nat → Nat} (h : wf A) (ht : aN A 0 = 1) (hw : tab (aN A 1) w) : wf (aG A q w) := by
  obtain ⟨h1, h2, h3, h4, h5⟩ := h
  obtain ⟨g1, g2, g3, g4, g5⟩ := h5 ht
  refine ⟨h1, h2, h3, fun z => absurd (z.symm.trans ht) (by decide), fun _ => ⟨g1, g2, fun r hr => ?_, g4, g5⟩⟩
  show tab (aN A 1) (if r = q then w else aR A r)
  split
  · exact hw
  · exact g3 r hr
theorem wf_L {A : AB} {q : Nat} {w : Nat → Nat} (h : wf A) (ht : aN A 0 = 1) (hw : tab (aN A 1) w) : wf (aL A q w) := wf_S (wf_G (wf_K h ht) ht hw)
