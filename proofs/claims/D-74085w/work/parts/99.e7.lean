set_option maxRecDepth 100000
/-! how far a text is read; the Model reads all -/
theorem tok_s {c : Nat → Nat} {n s : Nat} (hc : cds c n) (hs : s ≤ n) : s ≤ (tok c n s).2.2.2 ∧ (tok c n s).2.2.2 ≤ n ∧ ((tok c n s).1 ≠ 1 → s < (tok c n s).2.2.2) := by
  obtain ⟨a1, a2, _, _⟩ := skp_s hc hs
  unfold tok
  generalize skp c (n - s) s = k at a1 a2 ⊢
  by_cases w : c k = 256
  · rw [if_pos w]; exact ⟨a1, a2, fun z => absurd rfl z⟩
  · rw [if_neg w]
    have hk : k < n := Classical.byContradiction fun q => w ((hc.2 k).2 (by omega))
    by_cases w2 : 97 ≤ c k ∧ c k ≤ 122
    · rw [if_pos w2]
      obtain ⟨b1, b2, _, b4⟩ := rnn_s (lo := 97) (hi := 122) hc (by omega) a2
      obtain ⟨_, b5⟩ := b4 w2
      obtain ⟨d1, _⟩ := rnn_s (lo := 97) (hi := 122) hc (by omega) (show k + 1 ≤ n by omega)
      exact ⟨by show s ≤ rnn c 97 122 (n - k) k; omega, b2, fun _ => by show s < rnn c 97 122 (n - k) k; omega⟩
    · rw [if_neg w2]
      by_cases w3 : 48 ≤ c k ∧ c k ≤ 57
      · rw [if_pos w3]
        obtain ⟨b1, b2, _, b4⟩ := rnn_s (lo := 48) (hi := 57) hc (by omega) a2
        obtain ⟨_, b5⟩ := b4 w3
        obtain ⟨d1, _⟩ := rnn_s (lo := 48) (hi := 57) hc (by omega) (show k + 1 ≤ n by omega)
        exact ⟨by show s ≤ rnn c 48 57 (n - k) k; omega, b2, fun _ => by show s < rnn c 48 57 (n - k) k; omega⟩
      · rw [if_neg w3]
        exact ⟨by show s ≤ k + 1; omega, hk, fun _ => by show s < k + 1; omega⟩
def adv (c : Nat → Nat) (n s : Nat) (x : Cu) : Prop := ∀ t, x = .inr t → ∃ s', s ≤ s' ∧ s' ≤ n ∧ t = tok c n s'
theorem adv_N {c : Nat → Nat} {n s : Nat} {x : Cu} (hc : cds c n) (h : adv c n s x) : adv c n s (cN c n x) := fun t e => by
  obtain ⟨t', e'⟩ := cN_r e
  obtain ⟨s', h1, h2, h3⟩ := h t' e'
  obtain ⟨k1, k2, _⟩ := tok_s hc h2
  rw [e'] at e
  injection e with e
  exact ⟨t'.2.2.2, by rw [h3]; omega, by rw [h3]; exact k2, e.symm⟩
theorem adv_F {c : Nat → Nat} {n s e : Nat} {x : Cu} : adv c n s (cF e x) := fun _ h => absurd h cF_r
theorem adv_if {c : Nat → Nat} {n s : Nat} {p : Prop} [Decidable p] {x y : Cu} (hx : adv c n s x) (hy : adv c n s y) : adv c n s (if p then x else y) := by
  split
  · exact hx
  · exact hy
theorem adv_Nd {c : Nat → Nat} {n s i : Nat} {x : Cu} (hc : cds c n) (h : adv c n s x) : adv c n s (cNd c n i x) := adv_N hc (adv_if h adv_F)
theorem adv_Ru {c : Nat → Nat} {n s : Nat} {a b : Option Nat} {x : Cu} (hc : cds c n) (h : adv c n s x) : adv c n s (cRu c n a b x) := by
  refine adv_N hc ?_
  cases cUn x with
  | none => exact adv_F
  | some u => exact adv_if adv_F h
theorem adv_Rg {c : Nat → Nat} {n s : Nat} {ps : PS} {x : Cu} (hc : cds c n) (h : adv c n s x) : adv c n s (pRg c n ps x).1 := by
  refine adv_Ru hc (adv_Ru hc (adv_Ru hc ?_))
  refine adv_N hc ?_
  have h3 : adv c n s (rg3 c n (rg2 (rg1 c n ps x))) := adv_Nd hc (adv_N hc (adv_if (adv_if (adv_Nd hc (adv_N hc (adv_if adv_F h))) adv_F) adv_F))
  cases cHw (rg3 c n (rg2 (rg1 c n ps x))) with
  | none => exact adv_F
  | some u => exact h3
theorem adv_Tl {c : Nat → Nat} {n s : Nat} (hc : cds c n) : ∀ f told key (x : Cu), adv c n s x → adv c n s (pTl c n f told key x).1 := fun f => by
  induction f with
  | zero => intro told key x h; exact h
  | succ f ih =>
    intro told key x h
    cases x with
    | inl e => exact h
    | inr t =>
      rw [pTl_s]
      cases hu : cUn (.inr t) with
      | none => exact h
      | some u =>
        dsimp only
        have hn := adv_N hc h
        split
        · exact adv_F (e := 3) (x := .inr t)
        · split
          · split
            · exact ih _ _ _ (adv_N hc hn)
            · exact adv_F (e := 4) (x := cN c n (.inr t))
          · exact ih _ _ _ hn
theorem adv_Tm {c : Nat → Nat} {n s : Nat} {less : Bool} {ps : PS} {x : Cu} (hc : cds c n) (h : adv c n s x) : adv c n s (pTm c n less ps x).1 := by
  have hz : adv c n s (pTz c n x).1 := adv_Tl hc 4 0 0 _ (adv_if (adv_N hc h) (adv_if adv_F h))
  cases e : (pTz c n x).1 with
  | inl q => rw [pTm_i e]; exact fun t w => by cases w
  | inr t => rw [pTm_r e]; rw [e] at hz; exact hz
theorem adv_Pl {c : Nat → Nat} {n s : Nat} (hc : cds c n) : ∀ f m ps (x : Cu), adv c n s x → adv c n s (pPl c n f m ps x).1 := fun f => by
  induction f with
  | zero => intro m ps x h; exact h
  | succ f ih =>
    intro m ps x h
    cases x with
    | inl e => exact h
    | inr t =>
      rw [pPl_s]
      split
      · split
        · exact adv_F (e := 5) (x := .inr t)
        · exact ih _ _ _ (adv_Tm hc (adv_N hc h))
      · exact h
theorem adv_Ln {c : Nat → Nat} {n s : Nat} {ps : PS} {x : Cu} (hc : cds c n) (h : adv c n s x) : adv c n s (pLn c n ps x).1 := by
  unfold pLn
  split
  · exact adv_Rg hc h
  · split
    · have h3 : adv c n s (cN c n (if ps.1 = 0 then cF 6 (if ps.2.2.2.2.1 = 6 then cF 5 x else x) else (if ps.2.2.2.2.1 = 6 then cF 5 x else x))) := adv_N hc (adv_if adv_F (adv_if adv_F h))
      exact adv_Pl hc 12 1 _ _ (adv_Tm hc (adv_if (adv_N hc h3) h3))
    · exact adv_F
theorem adv_4 {c : Nat → Nat} {n : Nat} {ps : PS} {t t' : Tk} (hc : cds c n) (hn : t.2.2.2 ≤ n) (h : (pLn c n ps (cN c n (.inr t))).1 = .inr t') (h4 : t'.1 = 4) : t.2.2.2 < t'.2.2.2 ∧ t'.2.2.2 ≤ n := by
  have h0 : adv c n t.2.2.2 (cN c n (.inr t)) := fun t2 e => ⟨t.2.2.2, Nat.le_refl _, hn, by injection e with e; exact e.symm⟩
  obtain ⟨s', h1, h2, h3⟩ := adv_Ln (ps := ps) hc h0 t' h
  obtain ⟨k1, k2, k3⟩ := tok_s hc h2
  rw [h3] at h4 ⊢
  have := k3 (by omega)
  exact ⟨by omega, k2⟩
theorem pAl_s {c : Nat → Nat} {n f : Nat} {ps : PS} {x : Cu} : pAl c n (f + 1) ps x = if cK x = 4 then pAl c n f (pLn c n ps (cN c n x)).2 (pLn c n ps (cN c n x)).1 else (match (if cK x = 1 then x else cF 1 x) with | .inl e => .inl e | .inr t => if ps.1 = 0 then cF 6 (.inr t) else .inr t, ps) := rfl
theorem cK_r {x : Cu} {k : Nat} (h : cK x = k + 1) : ∃ t, x = .inr t := by
  cases x with
  | inl e => exact absurd h (by show ¬ 0 = k + 1; omega)
  | inr t => exact ⟨t, rfl⟩
theorem sp_readAll40 {c : Nat → Nat} {n : Nat} {S : St} {x : Cu} {ps : PS} {post : St → Prop} (hc : cds c n) (h : mck c n S) (hx : mgo n S x ps) (hpost : ∀ S', ft S S' → mgo n S' (pAl c n 702 ps x).1 (pAl c n 702 ps x).2 → (∀ t, (pAl c n 702 ps x).1 = .inr t → ¬ (pAl c n 702 ps x).2.1 = 0) → post S') : wp_readAll_l40 post S := by
  have h7 := hc.1
  generalize hg : pAl c n 702 ps x = G at hpost
  unfold wp_readAll_l40
  refine wl_n (fun m (v : St) => ft S v ∧ ∃ ps' y, mgo n v y ps' ∧ pAl c n (m + 1) ps' y = G ∧ ∀ t, y = .inr t → t.1 = 4 → 701 ≤ m + t.2.2.2) 701 ⟨ft_rfl _, ps, x, hx, hg, fun t _ _ => by omega⟩ ?_
  rintro m S1 ⟨f1, ps', y, ⟨y1, hps⟩, hz, hm⟩ R hR
  obtain ⟨k1, k2⟩ := mcu_k y1
  rw [pAl_s] at hz
  unfold wp_readAll_b40
  rw [k1, li_4, nI_eq (by omega) (by omega), li_1, nI_eq (by omega) (by omega)]
  refine ⟨fun q => ?_, fun q => ?_⟩
  · rw [if_neg q] at hz
    have j72 : ∀ S2 x2, fq S1 S2 → mcu n S2 x2 → x2 = (if cK y = 1 then y else cF 1 y) → wp_readAll_j72 post S2 := fun S2 x2 f2 y2 e2 => by
      rw [← e2] at hz
      have t2 := ft_tr f1 (ft_q f2)
      unfold wp_readAll_j72
      cases x2 with
      | inl e =>
        have nz : ¬ S2 0 22 = 0 := fun z => by
          obtain ⟨_, w2⟩ := (mcu_l y2).1 (by rw [z]; rfl)
          cases w2
        refine ⟨fun _ => hpost S2 t2 ⟨by rw [← hz]; exact y2, fun t w => by rw [← hz] at w; cases w⟩ (fun t w => by rw [← hz] at w; cases w), fun z => absurd z nz⟩
      | inr t =>
        have z0 : S2 0 22 = 0 := (mcu_l y2).2 ⟨t, rfl⟩
        have ey : y = .inr t := by
          split at e2
          · exact e2.symm
          · exact absurd e2.symm cF_r
        have hm := mps_q (hps t ey) f2
        have hp97 : ps'.1 < 100 := by
          by_cases w : 0 < ps'.1
          · have := (hm.2.1 w).1.2.1; omega
          · omega
        dsimp only at hz
        rw [hm.1, li_0, nI_eq (by omega) (by omega)]
        refine ⟨fun w => absurd z0 w, fun _ => ⟨fun w => ?_, fun w => ?_⟩⟩
        · rw [if_neg w] at hz
          exact hpost S2 t2 ⟨by rw [← hz]; exact y2, fun t w => by rw [← hz]; exact hm⟩ (fun _ _ => by rw [← hz]; exact w)
        · rw [if_pos w] at hz
          rw [li_6]
          exact sp_flaw hc.1 (by omega) (by omega) y2 (fun S3 f3 y3 => hpost S3 (ft_tr t2 (ft_q f3)) ⟨by rw [← hz]; exact y3, fun t w => by rw [← hz] at w; cases w⟩ (fun t w => by rw [← hz] at w; cases w))
    refine ⟨fun w => j72 S1 _ (fq_rfl _) y1 (by rw [if_pos w]), fun w => ?_⟩
    exact sp_flaw hc.1 (by omega) (by omega) y1 (fun S3 f3 y3 => j72 S3 _ f3 y3 (by rw [if_neg w]))
  · rw [if_pos q] at hz
    obtain ⟨t, rfl⟩ := cK_r q
    have q : t.1 = 4 := q
    have hn : t.2.2.2 ≤ n := y1.2.2.2.2.2.2.1
    have hm := hm t rfl q
    obtain ⟨m', rfl⟩ : ∃ m', m = m' + 1 := ⟨m - 1, by omega⟩
    refine sp_next hc (mck_t h f1) y1 (fun S2 f2 y2 => ?_)
    have t2 := ft_tr f1 (ft_q f2)
    refine sp_readLine hc (mck_t h t2) ⟨y2, fun _ _ => mps_q (hps t rfl) f2⟩ (fun S3 t3 y3 => ?_)
    refine hR m' S3 (by omega) ⟨ft_tr t2 t3, _, _, y3, hz, fun t' e' h4 => ?_⟩
    have := adv_4 hc hn e' h4
    omega
theorem sp_readAll {c : Nat → Nat} {n : Nat} {S : St} {post : St → Prop} (hc : cds c n) (h : mck c n S) (h18 : S 0 18 = nI 0) (h22 : S 0 22 = nI 0) (hpost : ∀ S', ft S S' → mgo n S' (pTx c n).1 (pTx c n).2 → (∀ t, (pTx c n).1 = .inr t → ¬ (pTx c n).2.1 = 0) → post S') : wp_readAll S post := by
  unfold wp_readAll
  intro S1 e1 S2 e2
  have t2 : ft S S2 := by rw [e2, e1]; exact ft_tr (ft_bw (by omega)) (ft_bw (by omega))
  unfold wp_readAll_l12
  refine wl_up 24576 (fun i (v : Int32 × St) => v.1 = nI i ∧ (∀ k j, k ≠ 2 → v.2 k j = S2 k j) ∧ ∀ j, j < i → v.2 2 j = nI 0) 0 (by omega) ⟨rfl, fun _ _ _ => rfl, fun j hj => absurd hj (by omega)⟩ ?_
  rintro i ⟨x1, S3⟩ hi ⟨ex, f3, z3⟩ R hR
  dsimp only at ex f3 z3 ⊢
  subst ex
  unfold wp_readAll_b12
  rw [show (24576 : Int32) = nI 24576 from rfl, nI_leI (by omega) (by omega)]
  refine ⟨fun q => ?_, fun q => ⟨i, by omega, rfl, fun S4 e4 x e => hR (by omega) _ ⟨by rw [e, li_1, nI_add], fun k j hk => ?_, fun j hj => ?_⟩⟩⟩
  · have t3 : ft S S3 := fun k j a b => by rw [f3 k j a]; exact t2 k j a b
    have ht := mck_t h t3
    have a22 : S3 0 22 = nI 0 := by rw [f3 0 22 (by omega), e2, bw_at, if_neg (by omega), e1, bw_at, if_neg (by omega)]; exact h22
    have a18 : S3 0 18 = nI 0 := by rw [f3 0 18 (by omega), e2, bw_at, if_neg (by omega), e1, bw_at, if_neg (by omega)]; exact h18
    refine sp_first hc ht (Nat.zero_le _) a18 a22 (fun S4 f4 y4 => ?_)
    have m3 : mps S3 ps0 := ⟨by rw [f3 0 9 (by omega), e2, bw_at, if_neg (by omega), e1, bw_at, if_pos ⟨rfl, rfl⟩]; rfl, fun w => absurd w (by show ¬ 0 < 0; omega), by rw [f3 0 13 (by omega), e2, bw_at, if_pos ⟨rfl, rfl⟩]; rfl, by show 0 ≤ 6; omega, fun i k hi hk => ⟨z3 _ (by omega), fun w => absurd w (by show ¬ 0 < 0; omega), fun _ => rfl⟩⟩
    have t4 := ft_tr t3 (ft_q f4)
    refine sp_readLine hc (mck_t h t4) ⟨y4, fun _ _ => mps_q m3 f4⟩ (fun S5 t5 y5 => ?_)
    have t5 := ft_tr t4 t5
    exact sp_readAll40 hc (mck_t h t5) y5 (fun S6 t6 y6 w6 => hpost S6 (ft_tr t5 t6) y6 w6)
  · show S4 k j = S2 k j
    rw [e4, bw_at, if_neg (by omega)]; exact f3 k j hk
  · show S4 2 j = nI 0
    rw [e4, bw_at]
    by_cases w : j = i
    · rw [if_pos ⟨rfl, w⟩]; rfl
    · rw [if_neg (by omega)]; exact z3 j (by omega)
