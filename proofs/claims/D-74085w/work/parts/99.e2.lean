set_option maxRecDepth 100000
/-! the Model: tokens -/
def mck (c : Nat → Nat) (n : Nat) (S : St) : Prop := S 0 17 = nI n ∧ ∀ j, j < n → (S 3 j) &&& 255 = nI (c j)
def mcu (n : Nat) (S : St) : Cu → Prop
  | .inl q => S 0 22 = nI q.1 ∧ 0 < q.1 ∧ q.1 < 10 ∧ S 0 19 = nI 0 ∧ S 0 20 = nI q.2 ∧ q.2 ≤ n
  | .inr t => S 0 22 = nI 0 ∧ S 0 18 = nI t.2.2.2 ∧ S 0 19 = nI t.1 ∧ S 0 20 = nI t.2.1 ∧ (t.1 = 2 → mkL (S 0 23) (S 0 53) = Int64.ofNat t.2.2.1 ∧ t.2.2.1 < 2 ^ 40) ∧ (t.1 = 3 → S 0 21 = nI t.2.2.1 ∧ t.2.2.1 < 10000) ∧ t.2.2.2 ≤ n ∧ t.2.1 ≤ n ∧ t.1 < 7
def fq (S S' : St) : Prop := ∀ k i, ¬ (k = 0 ∧ ((18 ≤ i ∧ i ≤ 23) ∨ i = 53)) → S' k i = S k i
theorem fq_rfl (S : St) : fq S S := fun _ _ _ => rfl
theorem fq_tr {S S' S'' : St} (h1 : fq S S') (h2 : fq S' S'') : fq S S'' := fun k i h => (h2 k i h).trans (h1 k i h)
theorem fq_bw {S : St} {i : Nat} {v : Int32} (h : (18 ≤ i ∧ i ≤ 23) ∨ i = 53) : fq S (bw S 0 i v) := fun k j hk => by
  rw [bw_at, if_neg]
  rintro ⟨rfl, rfl⟩
  exact hk ⟨rfl, h⟩
theorem mck_q {c : Nat → Nat} {n : Nat} {S S' : St} (h : mck c n S) (f : fq S S') : mck c n S' := ⟨by rw [f 0 17 (by omega)]; exact h.1, fun j hj => by rw [f 3 j (by omega)]; exact h.2 j hj⟩
def cI (x : Nat) : Int32 := if x = 256 then -1 else nI x
theorem sp_byteAt {c : Nat → Nat} {n k : Nat} {S : St} {post : Int32 → Prop} (hc : cds c n) (h : mck c n S) (hk : k ≤ 700) (hp : post (cI (c k))) : wp_byteAt (nI k) S post := by
  have h7 := hc.1
  unfold wp_byteAt
  rw [h.1, nI_leI (by omega) (by omega)]
  refine ⟨fun q => ?_, fun q => ⟨k, by omega, rfl, ?_⟩⟩
  · have e := (hc.2 k).2 q
    unfold cI at hp
    rw [if_pos e] at hp
    exact hp
  · have e := (hc.2 k).1 (by omega)
    unfold cI at hp
    rw [if_neg (by omega)] at hp
    rw [h.2 k (by omega)]
    exact hp
theorem sp_inc {x lo hi : Nat} {S : St} {post : Int32 → Prop} (hx : x ≤ 256) (hh : hi < 256) (hl : lo ≤ hi) (h1 : lo ≤ x ∧ x ≤ hi → post 1) (h0 : ¬ (lo ≤ x ∧ x ≤ hi) → post 0) : wp_in (cI x) (nI lo) (nI hi) S post := by
  unfold wp_in cI
  by_cases e : x = 256
  · rw [if_pos e, z_m1, z_nI lo, z_lt (by omega) (by omega)]
    refine ⟨fun _ => h0 (by omega), fun q => absurd (by omega) q⟩
  · rw [if_neg e, nI_ltI (by omega) (by omega), nI_ltI (by omega) (by omega)]
    exact ⟨fun q => h0 (by omega), fun q => ⟨fun q2 => h0 (by omega), fun q2 => h1 (by omega)⟩⟩
theorem cI_eq {x y : Nat} (hx : x ≤ 256) (hy : y < 256) : cI x = nI y ↔ x = y := by
  unfold cI
  by_cases e : x = 256
  · rw [if_pos e]
    exact ⟨fun q => absurd q.symm (n_m1 (by omega)), fun q => by omega⟩
  · rw [if_neg e, nI_eq (by omega) (by omega)]
theorem cI_m1 {x : Nat} (hx : x ≤ 256) : cI x = -1 ↔ x = 256 := by
  unfold cI
  by_cases e : x = 256
  · rw [if_pos e]; exact ⟨fun _ => e, fun _ => rfl⟩
  · rw [if_neg e]; exact ⟨fun q => absurd q (n_m1 (by omega)), fun q => absurd q e⟩
theorem cds_le {c : Nat → Nat} {n : Nat} (hc : cds c n) (k : Nat) : c k ≤ 256 := by
  by_cases h : k < n
  · have := (hc.2 k).1 h; omega
  · have := (hc.2 k).2 (by omega); omega
theorem vln_lt {c : Nat → Nat} {m d s : Nat} (hm : 0 < m) (j : Nat) (h : ∀ i, i < j → c (s + i) - d < m) : vln c m d s j < m ^ j := by
  induction j with
  | zero => exact Nat.one_pos
  | succ j ih =>
    show vln c m d s j * m + (c (s + j) - d) < m ^ (j + 1)
    have h1 := ih (fun i hi => h i (by omega))
    have h2 := h j (by omega)
    have h3 : (vln c m d s j + 1) * m ≤ m ^ j * m := Nat.mul_le_mul_right m h1
    rw [Nat.pow_succ]
    rw [Nat.add_mul, Nat.one_mul] at h3
    omega
theorem sp_nextWord {c : Nat → Nat} {n p : Nat} {S : St} {post : St → Prop} (hc : cds c n) (h : mck c n S) (hp : p ≤ n) (h18 : S 0 18 = nI p) (h20 : S 0 20 = nI p) (hpost : ∀ S', fq S S' → S' 0 22 = S 0 22 → S' 0 18 = nI (rnn c 97 122 (n - p) p) → S' 0 20 = nI p → S' 0 19 = nI (if rnn c 97 122 (n - p) p - p ≤ 5 then 2 else 0) → mkL (S' 0 23) (S' 0 53) = Int64.ofNat (vln c 256 0 p (min (rnn c 97 122 (n - p) p - p) 5)) → vln c 256 0 p (min (rnn c 97 122 (n - p) p - p) 5) < 2 ^ 40 → post S') : wp_nextWord S post := by
  have h7 := hc.1
  have hlt : ∀ j, (∀ i, i < j → c (p + i) < 256) → vln c 256 0 p j < 256 ^ j := fun j hj => vln_lt (by omega) j (fun i hi => by have := hj i hi; omega)
  unfold wp_nextWord
  intro S1 e1
  unfold wp_nextWord_l5
  refine wl_n (fun m v => ∃ k, m = n - k ∧ p ≤ k ∧ k ≤ n ∧ fq S v ∧ v 0 22 = S 0 22 ∧ v 0 18 = nI k ∧ v 0 20 = nI p ∧ mkL (v 0 23) (v 0 53) = Int64.ofNat (vln c 256 0 p (min (k - p) 5)) ∧ rnn c 97 122 (n - k) k = rnn c 97 122 (n - p) p ∧ ∀ i, p ≤ i → i < k → c i < 256) (n - p) ⟨p, rfl, Nat.le_refl _, hp, ?_, ?_, ?_, ?_, ?_, rfl, fun i h1 h2 => by omega⟩ ?_
  · rw [e1]; exact fq_tr (fq_bw (by omega)) (fq_bw (by omega))
  · rw [e1, bw_at, if_neg (by omega), bw_at, if_neg (by omega)]
  · rw [e1, bw_at, if_neg (by omega), bw_at, if_neg (by omega)]; exact h18
  · rw [e1, bw_at, if_neg (by omega), bw_at, if_neg (by omega)]; exact h20
  · rw [e1, bw_at, if_neg (by omega), bw_at, if_pos ⟨rfl, rfl⟩, bw_at, if_pos ⟨rfl, rfl⟩, mkL_hl, Nat.sub_self]
    rfl
  rintro m S2 ⟨k, hm, k1, k2, f2, g22, g18, g20, gw, hE, hb⟩ R hR
  have hck := mck_q h f2
  have hle := cds_le hc k
  obtain ⟨r1, r2, r3, r4⟩ := rnn_s (lo := 97) (hi := 122) hc (by omega) k2
  unfold wp_nextWord_b5 wp_nextWord_j57
  rw [g18]
  refine sp_byteAt hc hck (by omega) ?_
  rw [li_97, li_122]
  refine sp_inc hle (by omega) (by omega) (fun q => b11 rfl ?_) (fun q => b01 rfl ?_)
  · obtain ⟨q1, q2⟩ := r4 q
    rw [g20, pk_sub k1, li_5, nI_leI (by omega) (by omega)]
    have nxt : ∀ S3, fq S S3 → S3 0 22 = S 0 22 → S3 0 18 = nI k → S3 0 20 = nI p → mkL (S3 0 23) (S3 0 53) = Int64.ofNat (vln c 256 0 p (min (k + 1 - p) 5)) → ∀ S4, S4 = bw S3 0 18 (S3 0 18 + 1) → R S4 := fun S3 a1 a2 a3 a4 a5 S4 e4 => by
      rw [a3, li_1, nI_add] at e4
      refine hR (n - (k + 1)) S4 (by omega) ⟨k + 1, rfl, by omega, by omega, ?_, ?_, ?_, ?_, ?_, ?_, fun i h1 h2 => ?_⟩
      · rw [e4]; exact fq_tr a1 (fq_bw (by omega))
      · rw [e4, bw_at, if_neg (by omega)]; exact a2
      · rw [e4, bw_at, if_pos ⟨rfl, rfl⟩]
      · rw [e4, bw_at, if_neg (by omega)]; exact a4
      · rw [e4, bw_at, if_neg (by omega), bw_at, if_neg (by omega)]; exact a5
      · rw [← q2]; exact hE
      · by_cases e : i = k
        · rw [e]; omega
        · exact hb i h1 (by omega)
    refine ⟨fun q5 S4 e4 => nxt S2 f2 g22 g18 g20 (by rw [gw, show min (k + 1 - p) 5 = min (k - p) 5 by omega]) S4 (by rw [g18]; exact e4), fun q5 => ?_⟩
    refine sp_byteAt hc hck (by omega) (fun S3 e3 => ?_)
    have ev : cI (c k) = nI (c k) := if_neg (by omega)
    have hv := hlt (min (k - p) 5) (fun i hi => hb (p + i) (by omega) (by omega))
    have hv2 : vln c 256 0 p (min (k - p) 5) < 2 ^ 40 := Nat.lt_of_lt_of_le hv (by
      have : (256 : Nat) ^ min (k - p) 5 ≤ 256 ^ 5 := Nat.pow_le_pow_right (by omega) (by omega)
      exact this)
    rw [ev, gw, l_step hv2 (by omega)] at e3
    refine nxt S3 ?_ ?_ ?_ ?_ ?_
    · rw [e3]; exact fq_tr f2 (fq_tr (fq_bw (by omega)) (fq_bw (by omega)))
    · rw [e3, bw_at, if_neg (by omega), bw_at, if_neg (by omega)]; exact g22
    · rw [e3, bw_at, if_neg (by omega), bw_at, if_neg (by omega)]; exact g18
    · rw [e3, bw_at, if_neg (by omega), bw_at, if_neg (by omega)]; exact g20
    · rw [e3, bw_at, if_neg (by omega), bw_at, if_pos ⟨rfl, rfl⟩, bw_at, if_pos ⟨rfl, rfl⟩, mkL_hl, show min (k + 1 - p) 5 = (k - p) + 1 by omega, show min (k - p) 5 = k - p by omega]
      show _ = Int64.ofNat (vln c 256 0 p (k - p) * 256 + (c (p + (k - p)) - 0))
      rw [show p + (k - p) = k by omega, Nat.sub_zero]
  · have hEk : rnn c 97 122 (n - p) p = k := by rw [← hE]; exact r3 q
    rw [hEk] at hpost
    have hv := hlt (min (k - p) 5) (fun i hi => hb (p + i) (by omega) (by omega))
    have hv2 : vln c 256 0 p (min (k - p) 5) < 2 ^ 40 := Nat.lt_of_lt_of_le hv (by
      have : (256 : Nat) ^ min (k - p) 5 ≤ 256 ^ 5 := Nat.pow_le_pow_right (by omega) (by omega)
      exact this)
    rw [g20, pk_sub k1, li_5, nI_leI (by omega) (by omega)]
    have fin : ∀ v S3, S3 = bw S2 0 19 (nI v) → v = (if k - p ≤ 5 then 2 else 0) → post S3 := fun v S3 e3 hv => by
      refine hpost S3 ?_ ?_ ?_ ?_ ?_ ?_ hv2
      · rw [e3]; exact fq_tr f2 (fq_bw (by omega))
      · rw [e3, bw_at, if_neg (by omega)]; exact g22
      · rw [e3, bw_at, if_neg (by omega)]; exact g18
      · rw [e3, bw_at, if_neg (by omega)]; exact g20
      · rw [e3, bw_at, if_pos ⟨rfl, rfl⟩, hv]
      · rw [e3, bw_at, if_neg (by omega), bw_at, if_neg (by omega)]; exact gw
    exact ⟨fun q5 S3 e3 => fin 2 S3 e3 (if_pos q5).symm, fun q5 S3 e3 => fin 0 S3 e3 (if_neg q5).symm⟩
theorem sp_nextWhole {c : Nat → Nat} {n p : Nat} {S : St} {post : St → Prop} (hc : cds c n) (h : mck c n S) (hp : p ≤ n) (h18 : S 0 18 = nI p) (h20 : S 0 20 = nI p) (hpost : ∀ S', fq S S' → S' 0 22 = S 0 22 → S' 0 18 = nI (rnn c 48 57 (n - p) p) → S' 0 20 = nI p → S' 0 19 = nI (if rnn c 48 57 (n - p) p - p ≤ 4 then 3 else 0) → S' 0 21 = nI (vln c 10 48 p (min (rnn c 48 57 (n - p) p - p) 4)) → vln c 10 48 p (min (rnn c 48 57 (n - p) p - p) 4) < 10000 → post S') : wp_nextWhole S post := by
  have h7 := hc.1
  have hlt : ∀ j, (∀ i, i < j → 48 ≤ c (p + i) ∧ c (p + i) ≤ 57) → vln c 10 48 p j < 10 ^ j := fun j hj => vln_lt (by omega) j (fun i hi => by have := hj i hi; omega)
  unfold wp_nextWhole
  intro S1 e1
  unfold wp_nextWhole_l5
  refine wl_n (fun m v => ∃ k, m = n - k ∧ p ≤ k ∧ k ≤ n ∧ fq S v ∧ v 0 22 = S 0 22 ∧ v 0 18 = nI k ∧ v 0 20 = nI p ∧ v 0 21 = nI (vln c 10 48 p (min (k - p) 4)) ∧ rnn c 48 57 (n - k) k = rnn c 48 57 (n - p) p ∧ ∀ i, p ≤ i → i < k → 48 ≤ c i ∧ c i ≤ 57) (n - p) ⟨p, rfl, Nat.le_refl _, hp, ?_, ?_, ?_, ?_, ?_, rfl, fun i h1 h2 => by omega⟩ ?_
  · rw [e1]; exact fq_bw (by omega)
  · rw [e1, bw_at, if_neg (by omega)]
  · rw [e1, bw_at, if_neg (by omega)]; exact h18
  · rw [e1, bw_at, if_neg (by omega)]; exact h20
  · rw [e1, bw_at, if_pos ⟨rfl, rfl⟩, Nat.sub_self]
    rfl
  rintro m S2 ⟨k, hm, k1, k2, f2, g22, g18, g20, gw, hE, hb⟩ R hR
  have hck := mck_q h f2
  have hle := cds_le hc k
  obtain ⟨r1, r2, r3, r4⟩ := rnn_s (lo := 48) (hi := 57) hc (by omega) k2
  have hv := hlt (min (k - p) 4) (fun i hi => hb (p + i) (by omega) (by omega))
  have hv2 : vln c 10 48 p (min (k - p) 4) < 10000 := Nat.lt_of_lt_of_le hv (by
    have : (10 : Nat) ^ min (k - p) 4 ≤ 10 ^ 4 := Nat.pow_le_pow_right (by omega) (by omega)
    exact this)
  unfold wp_nextWhole_b5 wp_nextWhole_j59
  rw [g18]
  refine sp_byteAt hc hck (by omega) ?_
  rw [li_48, li_57]
  refine sp_inc hle (by omega) (by omega) (fun q => b11 rfl ?_) (fun q => b01 rfl ?_)
  · obtain ⟨q1, q2⟩ := r4 q
    rw [g20, pk_sub k1, li_4, nI_leI (by omega) (by omega)]
    have nxt : ∀ S3, fq S S3 → S3 0 22 = S 0 22 → S3 0 18 = nI k → S3 0 20 = nI p → S3 0 21 = nI (vln c 10 48 p (min (k + 1 - p) 4)) → ∀ S4, S4 = bw S3 0 18 (S3 0 18 + 1) → R S4 := fun S3 a1 a2 a3 a4 a5 S4 e4 => by
      rw [a3, li_1, nI_add] at e4
      refine hR (n - (k + 1)) S4 (by omega) ⟨k + 1, rfl, by omega, by omega, ?_, ?_, ?_, ?_, ?_, ?_, fun i h1 h2 => ?_⟩
      · rw [e4]; exact fq_tr a1 (fq_bw (by omega))
      · rw [e4, bw_at, if_neg (by omega)]; exact a2
      · rw [e4, bw_at, if_pos ⟨rfl, rfl⟩]
      · rw [e4, bw_at, if_neg (by omega)]; exact a4
      · rw [e4, bw_at, if_neg (by omega)]; exact a5
      · rw [← q2]; exact hE
      · by_cases e : i = k
        · rw [e]; exact q
        · exact hb i h1 (by omega)
    refine ⟨fun q5 S4 e4 => nxt S2 f2 g22 g18 g20 (by rw [gw, show min (k + 1 - p) 4 = min (k - p) 4 by omega]) S4 (by rw [g18]; exact e4), fun q5 => ?_⟩
    refine sp_byteAt hc hck (by omega) (fun S3 e3 => ?_)
    have ev : cI (c k) = nI (c k) := if_neg (by omega)
    rw [ev, gw, li_10, pk_mul, nI_add, pk_sub (by omega)] at e3
    refine nxt S3 ?_ ?_ ?_ ?_ ?_
    · rw [e3]; exact fq_tr f2 (fq_bw (by omega))
    · rw [e3, bw_at, if_neg (by omega)]; exact g22
    · rw [e3, bw_at, if_neg (by omega)]; exact g18
    · rw [e3, bw_at, if_neg (by omega)]; exact g20
    · rw [e3, bw_at, if_pos ⟨rfl, rfl⟩, show min (k + 1 - p) 4 = (k - p) + 1 by omega, show min (k - p) 4 = k - p by omega]
      show _ = nI (vln c 10 48 p (k - p) * 10 + (c (p + (k - p)) - 48))
      rw [show p + (k - p) = k by omega]
      congr 1
      omega
  · have hEk : rnn c 48 57 (n - p) p = k := by rw [← hE]; exact r3 q
    rw [hEk] at hpost
    rw [g20, pk_sub k1, li_4, nI_leI (by omega) (by omega)]
    have fin : ∀ v S3, S3 = bw S2 0 19 (nI v) → v = (if k - p ≤ 4 then 3 else 0) → post S3 := fun v S3 e3 hv => by
      refine hpost S3 ?_ ?_ ?_ ?_ ?_ ?_ hv2
      · rw [e3]; exact fq_tr f2 (fq_bw (by omega))
      · rw [e3, bw_at, if_neg (by omega)]; exact g22
      · rw [e3, bw_at, if_neg (by omega)]; exact g18
      · rw [e3, bw_at, if_neg (by omega)]; exact g20
      · rw [e3, bw_at, if_pos ⟨rfl, rfl⟩, hv]
      · rw [e3, bw_at, if_neg (by omega)]; exact gw
    exact ⟨fun q5 S3 e3 => fin 3 S3 e3 (if_pos q5).symm, fun q5 S3 e3 => fin 0 S3 e3 (if_neg q5).symm⟩
theorem sp_first {c : Nat → Nat} {n s : Nat} {S : St} {post : St → Prop} (hc : cds c n) (h : mck c n S) (x7 : s ≤ n) (x2 : S 0 18 = nI s) (x1 : S 0 22 = nI 0) (hpost : ∀ S', fq S S' → mcu n S' (.inr (tok c n s)) → post S') : wp_next S post := by
  have h7 := hc.1
  unfold wp_next
  rw [x1, li_0, nI_leI (by omega) (by omega)]
  refine ⟨fun _ => ?_, fun w => absurd (by omega) w⟩
  unfold wp_next_l8
  refine wl_n (fun m v => ∃ k, m = n - k ∧ k ≤ n ∧ fq S v ∧ v 0 22 = nI 0 ∧ v 0 18 = nI k ∧ skp c (n - k) k = skp c (n - s) s) (n - s) ⟨s, rfl, x7, fq_rfl S, x1, x2, rfl⟩ ?_
  rintro m S1 ⟨k, hm, k2, f1, g22, g18, hE⟩ R hR
  have hck := mck_q h f1
  have hle := cds_le hc k
  obtain ⟨r1, r2, r3, r4⟩ := skp_s hc k2
  unfold wp_next_b8 wp_next_j136
  rw [g18]
  refine sp_byteAt hc hck (by omega) ?_
  rw [li_32, cI_eq hle (by omega)]
  refine ⟨fun q S2 e2 => ?_, fun q S2 e2 => ?_⟩
  · have hEk : skp c (n - s) s = k := by rw [← hE]; exact r3 q
    have f2 : fq S S2 := by rw [e2]; exact fq_tr f1 (fq_bw (by omega))
    have hck2 := mck_q h f2
    have g22' : S2 0 22 = nI 0 := by rw [e2, bw_at, if_neg (by omega)]; exact g22
    have g18' : S2 0 18 = nI k := by rw [e2, bw_at, if_neg (by omega)]; exact g18
    have g20' : S2 0 20 = nI k := by rw [e2, bw_at, if_pos ⟨rfl, rfl⟩]
    rw [g18']
    refine sp_byteAt hc hck2 (by omega) ?_
    rw [cI_m1 hle]
    have tk : ∀ S3, fq S S3 → mcu n S3 (.inr (tok c n s)) → post S3 := fun S3 a b => hpost S3 a b
    have et : tok c n s = (if c k = 256 then (1, k, 0, k) else if 97 ≤ c k ∧ c k ≤ 122 then (if rnn c 97 122 (n - k) k - k ≤ 5 then 2 else 0, k, vln c 256 0 k (min (rnn c 97 122 (n - k) k - k) 5), rnn c 97 122 (n - k) k) else if 48 ≤ c k ∧ c k ≤ 57 then (if rnn c 48 57 (n - k) k - k ≤ 4 then 3 else 0, k, vln c 10 48 k (min (rnn c 48 57 (n - k) k - k) 4), rnn c 48 57 (n - k) k) else (if c k = 59 then 4 else if c k = 43 then 5 else if c k = 45 then 6 else 0, k, 0, k + 1)) := by
      unfold tok
      rw [hEk]
    rw [et] at tk
    refine ⟨fun q2 => ?_, fun q2 S3 e3 => ?_⟩
    · rw [if_neg q2] at tk
      have hkn : k < n := Classical.byContradiction fun w => q2 ((hc.2 k).2 (by omega))
      rw [li_97, li_122]
      refine sp_inc hle (by omega) (by omega) (fun q3 => b11 rfl ?_) (fun q3 => b01 rfl ?_)
      · rw [if_pos q3] at tk
        obtain ⟨s1, s2, _, _⟩ := rnn_s (lo := 97) (hi := 122) hc (by omega) k2
        refine sp_nextWord hc hck2 k2 g18' g20' (fun S3 f3 a1 a2 a3 a4 a5 a6 => tk S3 (fq_tr f2 f3) ⟨by rw [a1]; exact g22', a2, a4, a3, fun w => ⟨a5, a6⟩, fun w => ?_, s2, k2, ?_⟩)
        · exfalso
          have w : (if rnn c 97 122 (n - k) k - k ≤ 5 then 2 else 0) = 3 := w
          split at w <;> omega
        · show (if rnn c 97 122 (n - k) k - k ≤ 5 then 2 else 0) < 7
          split <;> omega
      · rw [if_neg q3] at tk
        rw [li_48, li_57]
        refine sp_inc hle (by omega) (by omega) (fun q4 => b11 rfl ?_) (fun q4 => b01 rfl ?_)
        · rw [if_pos q4] at tk
          obtain ⟨s1, s2, _, _⟩ := rnn_s (lo := 48) (hi := 57) hc (by omega) k2
          refine sp_nextWhole hc hck2 k2 g18' g20' (fun S3 f3 a1 a2 a3 a4 a5 a6 => tk S3 (fq_tr f2 f3) ⟨by rw [a1]; exact g22', a2, a4, a3, fun w => ?_, fun w => ⟨a5, a6⟩, s2, k2, ?_⟩)
          · exfalso
            have w : (if rnn c 48 57 (n - k) k - k ≤ 4 then 3 else 0) = 2 := w
            split at w <;> omega
          · show (if rnn c 48 57 (n - k) k - k ≤ 4 then 3 else 0) < 7
            split <;> omega
        · rw [if_neg q4] at tk
          have fin : ∀ v S3, S3 = bw S2 0 19 (nI v) → v = (if c k = 59 then 4 else if c k = 43 then 5 else if c k = 45 then 6 else 0) → ∀ S4, S4 = bw S3 0 18 (S3 0 18 + 1) → post S4 := fun v S3 e3 hv S4 e4 => by
            have a18 : S3 0 18 = nI k := by rw [e3, bw_at, if_neg (by omega)]; exact g18'
            rw [a18, li_1, nI_add] at e4
            have hv7 : v = 4 ∨ v = 5 ∨ v = 6 ∨ v = 0 := by
              rw [hv]
              split
              · omega
              · split
                · omega
                · split <;> omega
            rw [← hv] at tk
            refine tk S4 ?_ ⟨?_, ?_, ?_, ?_, fun w => ?_, fun w => ?_, hkn, k2, ?_⟩
            · rw [e4, e3]; exact fq_tr f2 (fq_tr (fq_bw (by omega)) (fq_bw (by omega)))
            · rw [e4, bw_at, if_neg (by omega), e3, bw_at, if_neg (by omega)]; exact g22'
            · rw [e4, bw_at, if_pos ⟨rfl, rfl⟩]
            · rw [e4, bw_at, if_neg (by omega), e3, bw_at, if_pos ⟨rfl, rfl⟩]
            · rw [e4, bw_at, if_neg (by omega), e3, bw_at, if_neg (by omega)]; exact g20'
            · have w : v = 2 := w
              omega
            · have w : v = 3 := w
              omega
            · show v < 7
              omega
          rw [li_59, li_43, li_45, cI_eq hle (by omega), cI_eq hle (by omega), cI_eq hle (by omega)]
          refine ⟨fun z1 => ⟨fun z2 => ⟨fun z3 S3 e3 => fin 0 S3 e3 ?_, fun z3 S3 e3 => fin 6 S3 e3 ?_⟩, fun z2 S3 e3 => fin 5 S3 e3 ?_⟩, fun z1 S3 e3 => fin 4 S3 e3 ?_⟩
          · rw [if_neg z1, if_neg z2, if_neg z3]
          · rw [if_neg z1, if_neg z2, if_pos z3]
          · rw [if_neg z1, if_pos z2]
          · rw [if_pos z1]
    · rw [if_pos q2] at tk
      refine tk S3 ?_ ⟨?_, ?_, ?_, ?_, fun w => absurd w (by show ¬ 1 = 2; omega), fun w => absurd w (by show ¬ 1 = 3; omega), k2, k2, by show 1 < 7; omega⟩
      · rw [e3]; exact fq_tr f2 (fq_bw (by omega))
      · rw [e3, bw_at, if_neg (by omega)]; exact g22'
      · rw [e3, bw_at, if_neg (by omega)]; exact g18'
      · rw [e3, bw_at, if_pos ⟨rfl, rfl⟩]; rfl
      · rw [e3, bw_at, if_neg (by omega)]; exact g20'
  · obtain ⟨q1, q2⟩ := r4 q
    rw [li_1, nI_add] at e2
    refine hR (n - (k + 1)) S2 (by omega) ⟨k + 1, rfl, by omega, ?_, ?_, ?_, by rw [← q2]; exact hE⟩
    · rw [e2]; exact fq_tr f1 (fq_bw (by omega))
    · rw [e2, bw_at, if_neg (by omega)]; exact g22
    · rw [e2, bw_at, if_pos ⟨rfl, rfl⟩]
theorem sp_next {c : Nat → Nat} {n : Nat} {S : St} {x : Cu} {post : St → Prop} (hc : cds c n) (h : mck c n S) (hx : mcu n S x) (hpost : ∀ S', fq S S' → mcu n S' (cN c n x) → post S') : wp_next S post := by
  have h7 := hc.1
  unfold wp_next
  cases x with
  | inl q =>
    obtain ⟨q1, q2, q3, _⟩ := id hx
    rw [q1, li_0, nI_leI (by omega) (by omega)]
    exact ⟨fun w => absurd w (by omega), fun _ => hpost S (fq_rfl S) hx⟩
  | inr t => exact sp_first hc h hx.2.2.2.2.2.2.1 hx.2.1 hx.1 hpost
