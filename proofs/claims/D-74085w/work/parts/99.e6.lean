set_option maxRecDepth 100000
/-! the Model: a polynomial's line, a line, all -/
theorem cIs_l {i : Nat} {e : Nat × Nat} : cIs i (.inl e) = false := decide_eq_false fun z => absurd z.1 (by show ¬ 0 = 2; omega)
theorem cUn_l {e : Nat × Nat} : cUn (.inl e) = none := by
  unfold cUn
  rw [cIs_l, cIs_l, cIs_l]
  rfl
theorem pTm_l {c : Nat → Nat} {n : Nat} {less : Bool} {ps : PS} {e : Nat × Nat} : pTm c n less ps (.inl e) = (.inl e, ps) := by
  apply pTm_i
  unfold pTz
  rw [if_neg (by show ¬ 0 = 3; omega), if_pos cUn_l]
  rfl
theorem pTm_k {c : Nat → Nat} {n : Nat} {less : Bool} {ps : PS} {x : Cu} : (pTm c n less ps x).2.1 = ps.1 ∧ (pTm c n less ps x).2.2.2.2.2.1 = ps.2.2.2.2.1 := by
  cases h : (pTz c n x).1 with
  | inl e => rw [pTm_i h]; exact ⟨rfl, rfl⟩
  | inr t => rw [pTm_r h]; exact ⟨rfl, rfl⟩
theorem pTm_z {c : Nat → Nat} {n : Nat} {less : Bool} {ps : PS} {x : Cu} {t : Tk} (h : (pTm c n less ps x).1 = .inr t) : ∃ t', x = .inr t' := by
  cases x with
  | inr t' => exact ⟨t', rfl⟩
  | inl e => rw [pTm_l] at h; cases h
theorem pPl_s {c : Nat → Nat} {n f m : Nat} {ps : PS} {t : Tk} : pPl c n (f + 1) m ps (.inr t) = (if t.1 = 5 ∨ t.1 = 6 then (if m = 12 then (cF 5 (.inr t), ps) else pPl c n f (m + 1) (pTm c n (decide (t.1 = 6)) ps (cN c n (.inr t))).2 (pTm c n (decide (t.1 = 6)) ps (cN c n (.inr t))).1) else (.inr t, psN ps)) := rfl
theorem sp_readPoly61 {c : Nat → Nat} {n : Nat} {S : St} {x : Cu} {ps : PS} {post : St → Prop} (hc : cds c n) (h : mck c n S) (hx : mgo n S x ps) (hr : ∀ t, x = .inr t → 0 < ps.1 ∧ ps.2.2.2.2.1 < 6) (hpost : ∀ S', ft S S' → mgo n S' (pPl c n 12 1 ps x).1 (pPl c n 12 1 ps x).2 → post S') : wp_readPoly_l61 post 1 S := by
  generalize hg : pPl c n 12 1 ps x = G at hpost
  unfold wp_readPoly_l61
  refine wl_n (fun m (v : Int32 × St) => ft S v.2 ∧ ((∃ e, m = 0 ∧ mcu n v.2 (.inl e) ∧ G.1 = .inl e) ∨ (∃ k ps' y, m + k = 13 ∧ 1 ≤ k ∧ k ≤ 12 ∧ v.1 = nI k ∧ mgo n v.2 y ps' ∧ (∀ t, y = .inr t → 0 < ps'.1 ∧ ps'.2.2.2.2.1 < 6) ∧ pPl c n m k ps' y = G))) 12 ⟨ft_rfl _, Or.inr ⟨1, ps, x, rfl, by omega, by omega, rfl, hx, hr, hg⟩⟩ ?_
  rintro m ⟨x2, S1⟩ ⟨f1, hJ⟩ R hR
  dsimp only at f1 hJ ⊢
  have fail : ∀ e, mcu n S1 (.inl e) → G.1 = .inl e → wp_readPoly_b61 post (fun x2 S => R (x2, S)) x2 S1 := fun e y1 hz => by
    unfold wp_readPoly_b61
    have nz : ¬ S1 0 22 = 0 := fun z => by
      obtain ⟨_, w2⟩ := (mcu_l y1).1 (by rw [z]; rfl)
      cases w2
    refine ⟨fun _ => ?_, fun z => absurd z nz⟩
    unfold wp_readPoly_j126
    exact ⟨fun _ => hpost S1 f1 ⟨by rw [hz]; exact y1, fun t w => by rw [hz] at w; cases w⟩, fun z => absurd z nz⟩
  rcases hJ with ⟨e, _, y1, hz⟩ | ⟨k, ps', y, hm, hk1, hk2, ex2, ⟨y1, hps⟩, hr', hz⟩
  · exact fail e y1 hz
  · cases y with
    | inl e =>
      refine fail e y1 ?_
      rw [← hz]
      cases m <;> rfl
    | inr t =>
      subst ex2
      obtain ⟨f, rfl⟩ : ∃ f, m = f + 1 := ⟨m - 1, by omega⟩
      rw [pPl_s] at hz
      obtain ⟨a1, a2⟩ := mcu_k y1
      have a1 : S1 0 19 = nI t.1 := a1
      have a2 : t.1 < 7 := a2
      have z0 : S1 0 22 = 0 := (mcu_l y1).2 ⟨t, rfl⟩
      unfold wp_readPoly_b61
      refine ⟨fun q => absurd z0 q, fun _ => ?_⟩
      rw [a1, li_5, li_6, nI_eq (by omega) (by omega), nI_eq (by omega) (by omega)]
      have go : (t.1 = 5 ∨ t.1 = 6) → wp_readPoly_j85 post (fun x2 S => R (x2, S)) (nI k) S1 := fun w => by
        rw [if_pos w] at hz
        unfold wp_readPoly_j85 wp_readPoly_j96
        rw [li_12, nI_eq (by omega) (by omega)]
        refine ⟨fun q => ?_, fun q => ?_⟩
        · rw [if_neg q] at hz
          rw [a1, li_6, nI_eq (by omega) (by omega)]
          have j111 : ∀ x1 : Int32, x1 = (if decide (t.1 = 6) = true then 1 else 0) → wp_readPoly_j111 post (fun x2 S => R (x2, S)) x1 (nI k) S1 := fun x1 ex1 => by
            subst ex1
            unfold wp_readPoly_j111
            have y1' := y1
            refine sp_next hc (mck_t h f1) y1 (fun S2 f2 y2 => ?_)
            have t2 := ft_tr f1 (ft_q f2)
            refine sp_readTerm hc (mck_t h t2) ⟨y2, fun _ _ => mps_q (hps t rfl) f2⟩ (fun _ _ => hr' t rfl) (fun S3 t3 y3 x2 e2 => ?_)
            rw [li_1, nI_add] at e2
            refine hR f _ (by omega) ⟨ft_tr t2 t3, Or.inr ⟨k + 1, _, _, by omega, by omega, by omega, e2, y3, fun t3 w3 => ?_, hz⟩⟩
            rw [pTm_k.1, pTm_k.2]
            exact hr' t rfl
          refine ⟨fun q2 => j111 0 ?_, fun q2 => j111 1 ?_⟩
          · rw [if_neg (by rw [decide_eq_false q2]; decide)]
          · rw [if_pos (decide_eq_true q2)]
        · rw [if_pos q] at hz
          rw [li_5]
          refine sp_flaw hc.1 (by omega) (by omega) y1 (fun S2 f2 y2 => ?_)
          have y2 : mcu n S2 (.inl (5, t.2.1)) := y2
          have k2 : S2 0 19 = 0 := (mcu_k y2).1
          have t2 := ft_tr f1 (ft_q f2)
          refine ⟨fun _ => ?_, fun z => absurd (k2.symm.trans z) (by decide)⟩
          unfold wp_readPoly_j111
          refine sp_next hc (mck_t h t2) y2 (fun S3 f3 y3 => ?_)
          have y3 : mcu n S3 (.inl (5, t.2.1)) := y3
          have t3 := ft_tr t2 (ft_q f3)
          have e0 : (0 : Int32) = (if false = true then 1 else 0) := rfl
          rw [e0]
          refine sp_readTerm (ps := ps') hc (mck_t h t3) ⟨y3, fun _ w => by cases w⟩ (fun _ w => by cases w) (fun S4 t4 y4 x2 e2 => ?_)
          rw [pTm_l] at y4
          refine hR 0 _ (by omega) ⟨ft_tr t3 t4, Or.inl ⟨_, rfl, y4.1, ?_⟩⟩
          rw [← hz]; rfl
      refine ⟨fun q => go (Or.inl q), fun q => ⟨fun q2 => ?_, fun q2 => go (Or.inr q2)⟩⟩
      rw [if_neg (by omega)] at hz
      unfold wp_readPoly_j126
      refine ⟨fun q => absurd z0 q, fun _ S2 e2 => hpost S2 (ft_tr f1 (by rw [e2]; exact ft_bw (by omega))) ?_⟩
      obtain ⟨q1, q2, q3, q4, q5⟩ := hps t rfl
      rw [← hz]
      refine ⟨mcu_b y1 e2 (Or.inr (by omega)), fun _ _ => ?_⟩
      rw [q3, li_1, nI_add] at e2
      have h6 := (hr' t rfl).2
      refine ⟨?_, fun w => ?_, ?_, ?_, fun i k hi hk => ?_⟩
      · rw [e2, bw_at, if_neg (by omega)]; exact q1
      · have o : ∀ i, i ≠ 13 → S2 0 i = S1 0 i := fun i hi => by rw [e2, bw_at, if_neg (by omega)]
        rw [o 10 (by omega), o 11 (by omega), o 12 (by omega)]; exact q2 w
      · rw [e2, bw_at, if_pos ⟨rfl, rfl⟩]; rfl
      · show ps'.2.2.2.2.1 + 1 ≤ 6
        omega
      · rw [e2, bw_at, if_neg (by omega)]; exact q5 i k hi hk
theorem sp_readPoly {c : Nat → Nat} {n : Nat} {S : St} {x : Cu} {ps : PS} {post : St → Prop} (hc : cds c n) (h : mck c n S) (hx : mgo n S x ps) (hpost : ∀ S', ft S S' → mgo n S' (pPy c n ps x).1 (pPy c n ps x).2 → post S') : wp_readPoly S post := by
  obtain ⟨hx, hps⟩ := hx
  have m27 : ∀ S1 x2, fq S S1 → mcu n S1 x2 → x2 = (if ps.1 = 0 then cF 6 (if ps.2.2.2.2.1 = 6 then cF 5 x else x) else (if ps.2.2.2.2.1 = 6 then cF 5 x else x)) → wp_readPoly_j27 post S1 := fun S1 x2 f1 y1 ex2 => by
    have hi : ∀ t, x2 = .inr t → (∃ t', x = .inr t') ∧ ¬ ps.1 = 0 ∧ ¬ ps.2.2.2.2.1 = 6 := fun t et => by
      rw [et] at ex2
      by_cases w : ps.1 = 0
      · rw [if_pos w] at ex2; exact absurd ex2.symm cF_r
      · rw [if_neg w] at ex2
        by_cases w2 : ps.2.2.2.2.1 = 6
        · rw [if_pos w2] at ex2; exact absurd ex2.symm cF_r
        · rw [if_neg w2] at ex2; exact ⟨⟨t, ex2.symm⟩, w, w2⟩
    unfold wp_readPoly_j27
    refine sp_next hc (mck_q h f1) y1 (fun S2 f2 y2 => ?_)
    have f2 := fq_tr f1 f2
    have epy : pPy c n ps x = pPl c n 12 1 (pTm c n (decide (cK (cN c n x2) = 6)) ps (if cK (cN c n x2) = 6 then cN c n (cN c n x2) else cN c n x2)).2 (pTm c n (decide (cK (cN c n x2) = 6)) ps (if cK (cN c n x2) = 6 then cN c n (cN c n x2) else cN c n x2)).1 := by rw [ex2]; rfl
    have m54 : ∀ (x1 : Int32) S3, fq S S3 → mcu n S3 (if cK (cN c n x2) = 6 then cN c n (cN c n x2) else cN c n x2) → x1 = (if decide (cK (cN c n x2) = 6) = true then 1 else 0) → wp_readPoly_j54 post x1 S3 := fun x1 S3 f3 y3 ex1 => by
      have hi3 : ∀ t, (if cK (cN c n x2) = 6 then cN c n (cN c n x2) else cN c n x2) = .inr t → ∃ t', x2 = .inr t' := fun t et => by
        split at et
        · obtain ⟨t', e'⟩ := cN_r et; exact cN_r e'
        · exact cN_r et
      have hr3 : ∀ t, (if cK (cN c n x2) = 6 then cN c n (cN c n x2) else cN c n x2) = .inr t → 0 < ps.1 ∧ ps.2.2.2.2.1 < 6 := fun t et => by
        obtain ⟨t', e'⟩ := hi3 t et
        obtain ⟨⟨t0, e0⟩, w1, w2⟩ := hi t' e'
        have := (hps t0 e0).2.2.2.1
        exact ⟨by omega, by omega⟩
      unfold wp_readPoly_j54
      subst ex1
      refine sp_readTerm hc (mck_q h f3) ⟨y3, fun t et => ?_⟩ hr3 (fun S4 t4 y4 => ?_)
      · obtain ⟨t', e'⟩ := hi3 t et
        obtain ⟨⟨t0, e0⟩, _⟩ := hi t' e'
        exact mps_q (hps t0 e0) f3
      · have t4 := ft_tr (ft_q f3) t4
        refine sp_readPoly61 hc (mck_t h t4) y4 (fun t et => ?_) (fun S5 t5 y5 => hpost S5 (ft_tr t4 t5) (by rw [epy]; exact y5))
        rw [pTm_k.1, pTm_k.2]
        obtain ⟨t', e'⟩ := pTm_z et
        exact hr3 t' e'
    obtain ⟨k1, k2⟩ := mcu_k y2
    unfold wp_readPoly_j46
    rw [k1, li_6, nI_eq (by omega) (by omega)]
    refine ⟨fun q => b01 rfl (m54 0 S2 f2 (by rw [if_neg q]; exact y2) ?_), fun q => b11 rfl ?_⟩
    · rw [if_neg (by rw [decide_eq_false q]; decide)]
    · refine sp_next hc (mck_q h f2) y2 (fun S3 f3 y3 => m54 1 S3 (fq_tr f2 f3) (by rw [if_pos q]; exact y3) ?_)
      rw [if_pos (decide_eq_true q)]
  unfold wp_readPoly wp_readPoly_j14
  cases x with
  | inl q =>
    have ei : (if ps.1 = 0 then cF 6 (if ps.2.2.2.2.1 = 6 then cF 5 (.inl q) else .inl q) else (if ps.2.2.2.2.1 = 6 then cF 5 (.inl q) else .inl q)) = (.inl q : Cu) := by split <;> split <;> rfl
    rw [ei] at m27
    have j14 : ∀ S1, fq S S1 → mcu n S1 (.inl q) → ((¬ (S1 0 9) = 0 → wp_readPoly_j27 post S1) ∧ ((S1 0 9) = 0 → wp_flaw 6 S1 (fun S_24 => wp_readPoly_j27 post S_24))) := fun S1 f1 y1 => ⟨fun _ => m27 S1 _ f1 y1 rfl, fun _ => by
      rw [li_6]
      exact sp_flaw hc.1 (by omega) (by omega) y1 (fun S2 f2 y2 => m27 S2 _ (fq_tr f1 f2) y2 rfl)⟩
    refine ⟨fun _ => j14 S (fq_rfl _) hx, fun _ => ?_⟩
    rw [li_5]
    exact sp_flaw hc.1 (by omega) (by omega) hx (fun S2 f2 y2 => j14 S2 f2 y2)
  | inr t =>
    have hm := hps t rfl
    have hp97 : ps.1 < 100 := by
      by_cases w : 0 < ps.1
      · have := (hm.2.1 w).1.2.1; omega
      · omega
    have j14 : ∀ S1 x1, fq S S1 → mcu n S1 x1 → x1 = (if ps.2.2.2.2.1 = 6 then cF 5 (.inr t) else .inr t) → ((¬ (S1 0 9) = 0 → wp_readPoly_j27 post S1) ∧ ((S1 0 9) = 0 → wp_flaw 6 S1 (fun S_24 => wp_readPoly_j27 post S_24))) := fun S1 x1 f1 y1 e1 => by
      rw [(mps_q hm f1).1, li_0, nI_eq (by omega) (by omega)]
      rw [← e1] at m27
      refine ⟨fun w => m27 S1 _ f1 y1 (by rw [if_neg w]), fun w => ?_⟩
      rw [li_6]
      exact sp_flaw hc.1 (by omega) (by omega) y1 (fun S2 f2 y2 => m27 S2 _ (fq_tr f1 f2) y2 (by rw [if_pos w]))
    rw [hm.2.2.1, li_6, nI_eq (by have := hm.2.2.2.1; omega) (by omega)]
    refine ⟨fun w => j14 S _ (fq_rfl _) hx (by rw [if_neg w]), fun w => ?_⟩
    rw [li_5]
    exact sp_flaw hc.1 (by omega) (by omega) hx (fun S2 f2 y2 => j14 S2 _ f2 y2 (by rw [if_pos w]))
theorem sp_readLine {c : Nat → Nat} {n : Nat} {S : St} {x : Cu} {ps : PS} {post : St → Prop} (hc : cds c n) (h : mck c n S) (hx : mgo n S x ps) (hpost : ∀ S', ft S S' → mgo n S' (pLn c n ps x).1 (pLn c n ps x).2 → post S') : wp_readLine S post := by
  unfold wp_readLine
  unfold pLn at hpost
  refine sp_isWord (by omega) hx.1 (fun q => b11 rfl ?_) (fun q => b01 rfl ?_)
  · rw [if_pos q] at hpost
    exact sp_readRing hc h hx hpost
  · rw [if_neg (by rw [q]; decide)] at hpost
    refine sp_isWord (by omega) hx.1 (fun q => b11 rfl ?_) (fun q => b01 rfl ?_)
    · rw [if_pos q] at hpost
      exact sp_readPoly hc h hx hpost
    · rw [if_neg (by rw [q]; decide)] at hpost
      rw [li_1]
      exact sp_flaw hc.1 (by omega) (by omega) hx.1 (fun S2 f2 y2 => hpost S2 (ft_q f2) ⟨y2, fun t et => absurd et cF_r⟩)
