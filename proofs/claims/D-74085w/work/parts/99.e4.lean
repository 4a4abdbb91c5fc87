set_option maxRecDepth 100000
/-! the Model: the ring's line -/
theorem mcu_o {n : Nat} {S S' : St} {x : Cu} (h : mcu n S x) (he : ∀ i, ((18 ≤ i ∧ i ≤ 23) ∨ i = 53) → S' 0 i = S 0 i) : mcu n S' x := by
  cases x with
  | inl q =>
    obtain ⟨a1, a2, a3, a4, a5, a6⟩ := h
    refine ⟨?_, a2, a3, ?_, ?_, a6⟩
    · rw [he 22 (by omega)]; exact a1
    · rw [he 19 (by omega)]; exact a4
    · rw [he 20 (by omega)]; exact a5
  | inr t =>
    obtain ⟨x1, x2, x3, x4, x5, x6, x7, x8, x9⟩ := h
    refine ⟨?_, ?_, ?_, ?_, ?_, ?_, x7, x8, x9⟩
    · rw [he 22 (by omega)]; exact x1
    · rw [he 18 (by omega)]; exact x2
    · rw [he 19 (by omega)]; exact x3
    · rw [he 20 (by omega)]; exact x4
    · rw [he 23 (by omega), he 53 (by omega)]; exact x5
    · rw [he 21 (by omega)]; exact x6
theorem mcu_b {n k i : Nat} {v : Int32} {S S' : St} {x : Cu} (h : mcu n S x) (e : S' = bw S k i v) (hk : k ≠ 0 ∨ ¬ ((18 ≤ i ∧ i ≤ 23) ∨ i = 53)) : mcu n S' x := mcu_o h (fun j hj => by
  rw [e, bw_at, if_neg]
  rintro ⟨rfl, rfl⟩
  rcases hk with hk | hk
  · exact hk rfl
  · exact hk hj)
theorem mcu_l {n : Nat} {S : St} {x : Cu} (h : mcu n S x) : S 0 22 = nI 0 ↔ ∃ t, x = .inr t := by
  cases x with
  | inl q =>
    obtain ⟨a1, a2, a3, _⟩ := h
    rw [a1, nI_eq (by omega) (by omega)]
    exact ⟨fun w => absurd w (by omega), fun ⟨t, w⟩ => by cases w⟩
  | inr t => exact ⟨fun _ => ⟨t, rfl⟩, fun _ => h.1⟩
theorem mcu_k {n : Nat} {S : St} {x : Cu} (h : mcu n S x) : S 0 19 = nI (cK x) ∧ cK x < 7 := by
  cases x with
  | inl q => exact ⟨h.2.2.2.1, by show 0 < 7; omega⟩
  | inr t => exact ⟨h.2.2.1, h.2.2.2.2.2.2.2.2⟩
theorem mcu_v {n : Nat} {S : St} {x : Cu} (h : mcu n S x) (hk : cK x = 3) : S 0 21 = nI (cV x) ∧ cV x < 10000 ∧ ∃ t, x = .inr t := by
  cases x with
  | inl q => exact absurd hk (by show ¬ 0 = 3; omega)
  | inr t => exact ⟨(h.2.2.2.2.2.1 hk).1, (h.2.2.2.2.2.1 hk).2, t, rfl⟩
theorem cRu_r {c : Nat → Nat} {n : Nat} {a b : Option Nat} {x : Cu} {t : Tk} (h : cRu c n a b x = .inr t) : (∃ t', x = .inr t') ∧ ∃ u, cUn x = some u ∧ a ≠ some u ∧ b ≠ some u := by
  unfold cRu at h
  cases hu : cUn x with
  | none =>
    rw [hu] at h
    obtain ⟨t', e⟩ := cN_r h
    exact absurd e cF_r
  | some u =>
    rw [hu] at h
    obtain ⟨t', e⟩ := cN_r h
    have e : (if a = some u ∨ b = some u then cF 3 x else x) = .inr t' := e
    by_cases w : a = some u ∨ b = some u
    · rw [if_pos w] at e; exact absurd e cF_r
    · rw [if_neg w] at e
      exact ⟨⟨t', e⟩, u, rfl, fun z => w (Or.inl z), fun z => w (Or.inr z)⟩
theorem cNd_r {c : Nat → Nat} {n i : Nat} {x : Cu} {t : Tk} (h : cNd c n i x = .inr t) : ∃ t', x = .inr t' := by
  unfold cNd at h
  obtain ⟨t', e⟩ := cN_r h
  split at e
  · exact ⟨t', e⟩
  · exact absurd e cF_r
theorem rg4_r {c : Nat → Nat} {n : Nat} {x : Cu} {t : Tk} (h : rg4 c n x = .inr t) : (∃ t', x = .inr t') ∧ ∃ u, cHw x = some u := by
  unfold rg4 at h
  obtain ⟨t', e⟩ := cN_r h
  cases hu : cHw x with
  | none => rw [hu] at e; exact absurd e cF_r
  | some u => rw [hu] at e; exact ⟨⟨t', e⟩, u, rfl⟩
theorem rg2_r {x : Cu} {t : Tk} (h : rg2 x = .inr t) : rg2 x = x ∧ cK x = 3 ∧ pr (cV x) := by
  unfold rg2 at h ⊢
  by_cases w : cK x = 3
  · rw [if_pos w] at h ⊢
    by_cases w2 : prb (cV x) = true ∧ cV x ≤ 97
    · rw [if_pos w2]; exact ⟨rfl, w, pr_prb.1 w2⟩
    · rw [if_neg w2] at h; exact absurd h cF_r
  · rw [if_neg w] at h; exact absurd h cF_r
theorem cHw_lt {x : Cu} {u : Nat} (h : cHw x = some u) : u < 3 := by
  unfold cHw at h
  split at h
  · injection h; omega
  · split at h
    · injection h; omega
    · split at h
      · injection h; omega
      · cases h
theorem sp_ring125 {c : Nat → Nat} {n : Nat} {S : St} {x1 : Int32} {x : Cu} {post : St → Prop} (hc : cds c n) (h : mck c n S) (hx : mcu n S x)
    (hno : ∀ S', ft S S' → mcu n S' (cRu c n (cUn (cN c n x)) (cUn (cRu c n none none (cN c n x))) (cRu c n (cUn (cN c n x)) none (cRu c n none none (cN c n x)))) → ¬ S' 0 22 = nI 0 → post S')
    (hyes : ∀ S', ft S S' → (∀ k i, ¬ (k = 0 ∧ (i = 9 ∨ i = 11 ∨ i = 12 ∨ (18 ≤ i ∧ i ≤ 23) ∨ i = 53)) → S' k i = S k i) → mcu n S' (cRu c n (cUn (cN c n x)) (cUn (cRu c n none none (cN c n x))) (cRu c n (cUn (cN c n x)) none (cRu c n none none (cN c n x)))) → S' 0 22 = nI 0 → S' 0 9 = x1 → S' 0 11 = oI (cUn (cN c n x)) → S' 0 12 = oI (cUn (cRu c n none none (cN c n x))) → post S') : wp_readRing_j125 post x1 S := by
  unfold wp_readRing_j125
  have nn : ∀ u, (none : Option Nat) = some u → u < 3 := fun u w => by cases w
  refine sp_next hc h hx (fun S1 f1 y1 => ?_)
  refine sp_readUnknown (a := none) (b := none) hc (mck_q h f1) y1 nn nn (fun S2 f2 y2 S3 e3 => ?_)
  have t3 : ft S S3 := ft_tr (ft_tr (ft_q f1) (ft_q f2)) (by rw [e3]; exact ft_bw (by omega))
  have y3 := mcu_b y2 e3 (Or.inr (by omega))
  have g3 : S3 0 11 = oI (cUn (cN c n x)) := by rw [e3, bw_at, if_pos ⟨rfl, rfl⟩]
  rw [g3]
  refine sp_readUnknown (b := none) hc (mck_t h t3) y3 (fun u w => cUn_lt w) nn (fun S4 f4 y4 S5 e5 => ?_)
  have t5 : ft S S5 := ft_tr (ft_tr t3 (ft_q f4)) (by rw [e5]; exact ft_bw (by omega))
  have y5 := mcu_b y4 e5 (Or.inr (by omega))
  have g5 : S5 0 11 = oI (cUn (cN c n x)) := by rw [e5, bw_at, if_neg (by omega), f4 0 11 (by omega)]; exact g3
  have g6 : S5 0 12 = oI (cUn (cRu c n none none (cN c n x))) := by rw [e5, bw_at, if_pos ⟨rfl, rfl⟩]
  rw [g5, g6]
  refine sp_readUnknown hc (mck_t h t5) y5 (fun u w => cUn_lt w) (fun u w => cUn_lt w) (fun S6 f6 y6 => ?_)
  rw [li_0]
  refine ⟨fun q => hno S6 (ft_tr t5 (ft_q f6)) y6 q, fun q S7 e7 => ?_⟩
  have y7 := mcu_b y6 e7 (Or.inr (by omega))
  refine hyes S7 (ft_tr (ft_tr t5 (ft_q f6)) (by rw [e7]; exact ft_bw (by omega))) (fun k i hk => ?_) y7 ?_ ?_ ?_ ?_
  · rw [e7, bw_at, if_neg (by omega), f6 k i (by omega), e5, bw_at, if_neg (by omega), f4 k i (by omega), e3, bw_at, if_neg (by omega), f2 k i (by omega), f1 k i (by omega)]
  · rw [e7, bw_at, if_neg (by omega)]; exact q
  · rw [e7, bw_at, if_pos ⟨rfl, rfl⟩]
  · rw [e7, bw_at, if_neg (by omega), f6 0 11 (by omega)]; exact g5
  · rw [e7, bw_at, if_neg (by omega), f6 0 12 (by omega)]; exact g6
theorem sp_readRing {c : Nat → Nat} {n : Nat} {S : St} {x : Cu} {ps : PS} {post : St → Prop} (hc : cds c n) (h : mck c n S) (hx : mgo n S x ps) (hpost : ∀ S', ft S S' → mgo n S' (pRg c n ps x).1 (pRg c n ps x).2 → post S') : wp_readRing S post := by
  obtain ⟨hx, hps⟩ := hx
  -- behind the first question
  have main : ∀ S1, fq S S1 → mcu n S1 (if 0 < ps.1 then cF 3 x else x) → wp_readRing_j12 post S1 := fun S1 f1 y1 => by
    unfold wp_readRing_j12
    refine sp_next hc (mck_q h f1) y1 (fun S2 f2 y2 => ?_)
    have f2 := fq_tr f1 f2
    refine sp_needs hc (mck_q h f2) (by omega) y2 (fun S3 f3 y3 => ?_)
    have f3 := fq_tr f2 f3
    have y3 : mcu n S3 (rg1 c n ps x) := y3
    have m53 : ∀ S4, fq S S4 → mcu n S4 (rg2 (rg1 c n ps x)) → wp_readRing_j53 post S4 := fun S4 f4 y4 => by
      unfold wp_readRing_j53
      refine sp_next hc (mck_q h f4) y4 (fun S5 f5 y5 => ?_)
      have f5 := fq_tr f4 f5
      refine sp_needs hc (mck_q h f5) (by omega) y5 (fun S6 f6 y6 => ?_)
      have f6 := fq_tr f5 f6
      have y6 : mcu n S6 (rg3 c n (rg2 (rg1 c n ps x))) := y6
      have m112 : ∀ S7, S7 = bw S6 0 10 (oI (cHw (rg3 c n (rg2 (rg1 c n ps x))))) → wp_readRing_j112 post (S4 0 21) S7 := fun S7 e7 => by
        have y7 := mcu_b y6 e7 (Or.inr (by omega))
        have t7 : ft S S7 := ft_tr (ft_q f6) (by rw [e7]; exact ft_bw (by omega))
        have g7 : S7 0 10 = oI (cHw (rg3 c n (rg2 (rg1 c n ps x)))) := by rw [e7, bw_at, if_pos ⟨rfl, rfl⟩]
        have o7 : ∀ k i, ¬ (k = 0 ∧ (i = 10 ∨ (18 ≤ i ∧ i ≤ 23) ∨ i = 53)) → S7 k i = S k i := fun k i hk => by rw [e7, bw_at, if_neg (by omega), f6 k i (by omega)]
        have m125 : ∀ S8, fq S7 S8 → mcu n S8 (match cHw (rg3 c n (rg2 (rg1 c n ps x))) with | none => cF 1 (rg3 c n (rg2 (rg1 c n ps x))) | some _ => rg3 c n (rg2 (rg1 c n ps x))) → wp_readRing_j125 post (S4 0 21) S8 := fun S8 f8 y8 => by
          have t8 : ft S S8 := ft_tr t7 (ft_q f8)
          refine sp_ring125 hc (mck_t h t8) y8 (fun S9 t9 y9 n9 => hpost S9 (ft_tr t8 t9) ⟨y9, fun t et => absurd ((mcu_l y9).2 ⟨t, et⟩) n9⟩) (fun S9 t9 o9 y9 z9 a9 a11 a12 => hpost S9 (ft_tr t8 t9) ⟨y9, fun t et => ?_⟩)
          -- all went well
          have et : cRu c n (cUn (rg4 c n (rg3 c n (rg2 (rg1 c n ps x))))) (cUn (cRu c n none none (rg4 c n (rg3 c n (rg2 (rg1 c n ps x)))))) (cRu c n (cUn (rg4 c n (rg3 c n (rg2 (rg1 c n ps x))))) none (cRu c n none none (rg4 c n (rg3 c n (rg2 (rg1 c n ps x)))))) = .inr t := et
          have a11 : S9 0 11 = oI (cUn (rg4 c n (rg3 c n (rg2 (rg1 c n ps x))))) := a11
          have a12 : S9 0 12 = oI (cUn (cRu c n none none (rg4 c n (rg3 c n (rg2 (rg1 c n ps x)))))) := a12
          obtain ⟨⟨t6, e6⟩, _⟩ := cRu_r et
          obtain ⟨⟨t5, e5⟩, u1, hu1, w1, _⟩ := cRu_r e6
          obtain ⟨⟨t4, e4⟩, u0, hu0, _⟩ := cRu_r e5
          obtain ⟨⟨t3, e3⟩, hw, hhw⟩ := rg4_r e4
          obtain ⟨t2', e2'⟩ := cNd_r (show cNd c n 6 (cN c n (rg2 (rg1 c n ps x))) = .inr t3 from e3)
          obtain ⟨t2, e2⟩ := cN_r e2'
          obtain ⟨k1, k2, k3⟩ := rg2_r e2
          have e1 : rg1 c n ps x = .inr t2 := by rw [← k1]; exact e2
          obtain ⟨t1', e1'⟩ := cNd_r (show cNd c n 5 (cN c n (if 0 < ps.1 then cF 3 x else x)) = .inr t2 from e1)
          obtain ⟨t1, e1''⟩ := cN_r e1'
          have p0 : ¬ 0 < ps.1 := fun w => by rw [if_pos w] at e1''; exact absurd e1'' cF_r
          rw [if_neg p0] at e1''
          obtain ⟨q1, q2, q3, q4, q5⟩ := hps t1 e1''
          obtain ⟨v1, v2, _⟩ := mcu_v y4 (by rw [k1]; exact k2)
          have kv : cV (rg2 (rg1 c n ps x)) = cV (rg1 c n ps x) := by rw [k1]
          show mps S9 (cV (rg2 (rg1 c n ps x)), (cHw (rg3 c n (rg2 (rg1 c n ps x)))).getD 0, (cUn (rg4 c n (rg3 c n (rg2 (rg1 c n ps x))))).getD 0, (cUn (cRu c n none none (rg4 c n (rg3 c n (rg2 (rg1 c n ps x)))))).getD 0, ps.2.2.2.2.1, ps.2.2.2.2.2)
          have O : ∀ k i, ¬ (k = 0 ∧ (i = 9 ∨ i = 10 ∨ i = 11 ∨ i = 12 ∨ (18 ≤ i ∧ i ≤ 23) ∨ i = 53)) → S9 k i = S k i := fun k i hk => by rw [o9 k i (by omega), f8 k i (by omega), o7 k i (by omega)]
          refine ⟨?_, fun w => ⟨by rw [kv]; exact k3, ?_, ?_, ?_, ?_⟩, ?_, q4, fun i k hi hk => ⟨?_, fun w => ?_, fun w => (q5 i k hi hk).2.2 (by omega)⟩⟩
          · rw [a9]; exact v1
          · rw [o9 0 10 (by omega), f8 0 10 (by omega), g7, hhw]; rfl
          · rw [a11, hu0]; rfl
          · rw [a12, hu1]; rfl
          · rw [hhw, hu0, hu1]
            exact ⟨cHw_lt hhw, cUn_lt hu0, cUn_lt hu1, fun w => w1 (by rw [hu0]; exact congrArg some w)⟩
          · rw [O 0 13 (by omega)]; exact q3
          · rw [O 2 _ (by omega)]; exact (q5 i k hi hk).1
          · show ps.2.2.2.2.2 i k < cV (rg2 (rg1 c n ps x))
            rw [(q5 i k hi hk).2.2 (by omega)]; exact w
        unfold wp_readRing_j112
        rw [g7]
        have em : (oI (cHw (rg3 c n (rg2 (rg1 c n ps x)))) = -1) ↔ cHw (rg3 c n (rg2 (rg1 c n ps x))) = none := oI_eq (b := none) (fun u w => cHw_lt w) (fun u w => by cases w)
        rw [em]
        refine ⟨fun q => m125 S7 (fq_rfl _) ?_, fun q => ?_⟩
        · cases hq : cHw (rg3 c n (rg2 (rg1 c n ps x))) with
          | none => exact absurd hq q
          | some u => exact y7
        · rw [li_1]
          refine sp_flaw hc.1 (by omega) (by omega) y7 (fun S8 f8 y8 => m125 S8 f8 ?_)
          rw [q]; exact y8
      have hh : ∀ P : Option Nat → Prop, P (cHw (rg3 c n (rg2 (rg1 c n ps x)))) → P (if cIs 7 (rg3 c n (rg2 (rg1 c n ps x))) then some 0 else if cIs 8 (rg3 c n (rg2 (rg1 c n ps x))) then some 1 else if cIs 9 (rg3 c n (rg2 (rg1 c n ps x))) then some 2 else none) := fun P hP => hP
      have m112' := hh (fun o => ∀ S7, S7 = bw S6 0 10 (oI o) → wp_readRing_j112 post (S4 0 21) S7) m112
      refine sp_isWord (by omega) y6 (fun q => b11 rfl ?_) (fun q => b01 rfl ?_)
      · rw [if_pos q] at m112'; exact m112'
      · rw [if_neg (by rw [q]; decide)] at m112'
        refine sp_isWord (by omega) y6 (fun q => b11 rfl ?_) (fun q => b01 rfl ?_)
        · rw [if_pos q] at m112'; exact m112'
        · rw [if_neg (by rw [q]; decide)] at m112'
          refine sp_isWord (by omega) y6 (fun q => b11 rfl ?_) (fun q => b01 rfl ?_)
          · rw [if_pos q] at m112'; exact m112'
          · rw [if_neg (by rw [q]; decide)] at m112'; exact m112'
    obtain ⟨k1, k2⟩ := mcu_k y3
    rw [k1, li_3, nI_eq (by omega) (by omega)]
    refine ⟨fun q => ?_, fun q => ?_⟩
    · obtain ⟨v1, v2, _⟩ := mcu_v y3 q
      rw [v1]
      refine sp_isPrime v2 (fun w => b12 rfl (m53 S3 f3 ?_)) (fun w => b02 rfl ?_)
      · unfold rg2; rw [if_pos q, if_pos (pr_prb.2 w)]; exact y3
      · rw [li_2]
        refine sp_flaw hc.1 (by omega) (by omega) y3 (fun S4 f4 y4 => m53 S4 (fq_tr f3 f4) ?_)
        unfold rg2; rw [if_pos q, if_neg (fun z => w (pr_prb.1 z))]; exact y4
    · rw [li_1]
      refine sp_flaw hc.1 (by omega) (by omega) y3 (fun S4 f4 y4 => m53 S4 (fq_tr f3 f4) ?_)
      unfold rg2; rw [if_neg q]; exact y4
  unfold wp_readRing
  cases x with
  | inl q =>
    have ee : ∀ e, cF e (.inl q) = .inl q := fun e => rfl
    have ei : (if 0 < ps.1 then cF 3 (.inl q) else .inl q) = (.inl q : Cu) := by split <;> rfl
    rw [ei] at main
    refine ⟨fun _ => main S (fq_rfl _) hx, fun _ => ?_⟩
    rw [li_3]
    exact sp_flaw hc.1 (by omega) (by omega) hx (fun S4 f4 y4 => main S4 f4 y4)
  | inr t =>
    obtain ⟨q1, q2, _⟩ := hps t rfl
    have hp97 : ps.1 < 100 := by
      by_cases w : 0 < ps.1
      · have := (q2 w).1.2.1; omega
      · omega
    rw [q1, li_0, nI_leI (by omega) (by omega)]
    refine ⟨fun q => main S (fq_rfl _) ?_, fun q => ?_⟩
    · rw [if_neg (by omega)]; exact hx
    · rw [li_3]
      refine sp_flaw hc.1 (by omega) (by omega) hx (fun S4 f4 y4 => main S4 f4 ?_)
      rw [if_pos (by omega)]; exact y4
