set_option maxRecDepth 100000
/-! what a text gives is well formed -/
def pgd (m : Nat) (ps : PS) : Prop := (0 < ps.1 → pr ps.1 ∧ vo ps.2.1 ps.2.2.1 ps.2.2.2.1) ∧ ps.2.2.2.2.1 ≤ 6 ∧ (∀ i k, (0 < ps.1 → ps.2.2.2.2.2 i k < ps.1) ∧ (ps.1 = 0 → ps.2.2.2.2.2 i k = 0)) ∧ (∀ i, i < ps.2.2.2.2.1 → cn (ps.2.2.2.2.2 i) 4096 ≤ 12) ∧ cn (ps.2.2.2.2.2 ps.2.2.2.2.1) 4096 ≤ m ∧ ∀ i, ps.2.2.2.2.1 < i → ∀ k, ps.2.2.2.2.2 i k = 0
theorem pgd_0 : pgd 0 ps0 := ⟨fun h => absurd h (by show ¬ 0 < 0; omega), by show 0 ≤ 6; omega, fun _ _ => ⟨fun h => absurd h (by show ¬ 0 < 0; omega), fun _ => rfl⟩, fun i h => absurd h (by show ¬ i < 0; omega), by rw [cn_z]; omega; intro i hi; rfl, fun _ _ _ => rfl⟩
theorem pRg_r {c : Nat → Nat} {n : Nat} {ps : PS} {x : Cu} {t : Tk} (h : (pRg c n ps x).1 = .inr t) : ps.1 = 0 ∧ ∃ p hw u0 u1, pr p ∧ vo hw u0 u1 ∧ (pRg c n ps x).2 = (p, hw, u0, u1, ps.2.2.2.2.1, ps.2.2.2.2.2) := by
  have et : cRu c n (cUn (rg4 c n (rg3 c n (rg2 (rg1 c n ps x))))) (cUn (cRu c n none none (rg4 c n (rg3 c n (rg2 (rg1 c n ps x)))))) (cRu c n (cUn (rg4 c n (rg3 c n (rg2 (rg1 c n ps x))))) none (cRu c n none none (rg4 c n (rg3 c n (rg2 (rg1 c n ps x)))))) = .inr t := h
  obtain ⟨⟨t6, e6⟩, _⟩ := cRu_r et
  obtain ⟨⟨t5, e5⟩, u1, hu1, w1, _⟩ := cRu_r e6
  obtain ⟨⟨t4, e4⟩, u0, hu0, _⟩ := cRu_r e5
  obtain ⟨⟨t3, e3⟩, hw, hhw⟩ := rg4_r e4
  obtain ⟨t2', e2'⟩ := cNd_r (show cNd c n 6 (cN c n (rg2 (rg1 c n ps x))) = .inr t3 from e3)
  obtain ⟨t2, e2⟩ := cN_r e2'
  obtain ⟨k1, k2, k3⟩ := rg2_r e2
  have e1 : rg1 c n ps x = .inr t2 := by rw [← k1]; exact e2
  obtain ⟨t1', e1'⟩ := cNd_r (show cNd c n 5 (cN c n (if 0 < ps.1 then cF 3 x else x)) = .inr t2 from e1)
  obtain ⟨t1, e1''⟩ := cN_r e1'
  have p0 : ¬ 0 < ps.1 := fun w => by rw [if_pos w] at e1''; exact absurd e1'' cF_r
  refine ⟨by omega, cV (rg2 (rg1 c n ps x)), hw, u0, u1, by rw [k1]; exact k3, ⟨cHw_lt hhw, cUn_lt hu0, cUn_lt hu1, fun w => w1 (by rw [hu0]; exact congrArg some w)⟩, ?_⟩
  show (cV (rg2 (rg1 c n ps x)), (cHw (rg3 c n (rg2 (rg1 c n ps x)))).getD 0, (cUn (rg4 c n (rg3 c n (rg2 (rg1 c n ps x))))).getD 0, (cUn (cRu c n none none (rg4 c n (rg3 c n (rg2 (rg1 c n ps x)))))).getD 0, ps.2.2.2.2.1, ps.2.2.2.2.2) = _
  rw [hhw, hu0, hu1]
  rfl
theorem pgd_Rg {c : Nat → Nat} {n : Nat} {ps : PS} {x : Cu} {t : Tk} (hg : pgd 0 ps) (h : (pRg c n ps x).1 = .inr t) : pgd 0 (pRg c n ps x).2 := by
  obtain ⟨p0, p, hw, u0, u1, h1, h2, h3⟩ := pRg_r h
  obtain ⟨g1, g2, g3, g4, g5, g6⟩ := hg
  rw [h3]
  have := h1.1
  refine ⟨fun _ => ⟨h1, h2⟩, g2, fun i k => ⟨fun _ => ?_, fun _ => (g3 i k).2 p0⟩, g4, g5, g6⟩
  show ps.2.2.2.2.2 i k < p
  rw [(g3 i k).2 p0]; omega
theorem pgd_Tm {c : Nat → Nat} {n m : Nat} {less : Bool} {ps : PS} {x : Cu} (hg : pgd m ps) (hp : 0 < ps.1) : pgd (m + 1) (pTm c n less ps x).2 := by
  obtain ⟨g1, g2, g3, g4, g5, g6⟩ := hg
  cases hz : (pTz c n x).1 with
  | inl e => rw [pTm_i hz]; exact ⟨g1, g2, g3, g4, Nat.le_succ_of_le g5, g6⟩
  | inr t =>
    rw [pTm_r hz]
    generalize (pTz c n x).2 = key
    generalize (if cK x = 3 then cV x else 1) = co
    have tn : ∀ i, i ≠ ps.2.2.2.2.1 → tbs ps.1 ps.2.2.2.2.2 ps.2.2.2.2.1 key less co i = ps.2.2.2.2.2 i := fun i hi => by
      funext k
      exact if_neg (fun w => hi w.1)
    have ty : tbs ps.1 ps.2.2.2.2.2 ps.2.2.2.2.1 key less co ps.2.2.2.2.1 = up (ps.2.2.2.2.2 ps.2.2.2.2.1) key ((ps.2.2.2.2.2 ps.2.2.2.2.1 key + (if less then ps.1 - co % ps.1 else co % ps.1)) % ps.1) := by
      funext k
      unfold tbs up
      by_cases w : k = key
      · rw [if_pos ⟨rfl, w⟩, if_pos w, w]
      · rw [if_neg (fun z => w z.2), if_neg w]
    refine ⟨g1, g2, fun i k => ⟨fun _ => ?_, fun z => absurd z (by show ¬ ps.1 = 0; omega)⟩, fun i hi => ?_, ?_, fun i hi k => ?_⟩
    · show tbs ps.1 ps.2.2.2.2.2 ps.2.2.2.2.1 key less co i k < ps.1
      unfold tbs
      split
      · exact Nat.mod_lt _ hp
      · exact (g3 i k).1 hp
    · show cn (tbs ps.1 ps.2.2.2.2.2 ps.2.2.2.2.1 key less co i) 4096 ≤ 12
      have hi : i < ps.2.2.2.2.1 := hi
      rw [tn i (by omega)]
      exact g4 i hi
    · show cn (tbs ps.1 ps.2.2.2.2.2 ps.2.2.2.2.1 key less co ps.2.2.2.2.1) 4096 ≤ m + 1
      rw [ty]
      by_cases w : key < 4096
      · generalize (ps.2.2.2.2.2 ps.2.2.2.2.1 key + (if less then ps.1 - co % ps.1 else co % ps.1)) % ps.1 = v
        have := cn_up (f := ps.2.2.2.2.2 ps.2.2.2.2.1) (v := v) w
        split at this <;> split at this <;> omega
      · rw [cn_ext (g := ps.2.2.2.2.2 ps.2.2.2.2.1) (fun i hi => by rw [up_ne (by omega)])]
        omega
    · show tbs ps.1 ps.2.2.2.2.2 ps.2.2.2.2.1 key less co i k = 0
      have hi : ps.2.2.2.2.1 < i := hi
      rw [tn i (by omega)]
      exact g6 i hi k
theorem pPl_l {c : Nat → Nat} {n f m : Nat} {ps : PS} {e : Nat × Nat} : (pPl c n f m ps (.inl e)).1 = .inl e := by
  cases f <;> rfl
theorem pgd_Pl {c : Nat → Nat} {n : Nat} : ∀ f m ps (x : Cu) (t : Tk), f + m = 13 → m ≤ 12 → pgd m ps → 0 < ps.1 → ps.2.2.2.2.1 < 6 → (pPl c n f m ps x).1 = .inr t → pgd 0 (pPl c n f m ps x).2 := fun f => by
  induction f with
  | zero => intro m ps x t h1 h2; omega
  | succ f ih =>
    intro m ps x t h1 h2 hg hp h6 h
    cases x with
    | inl e => rw [pPl_l] at h; cases h
    | inr t0 =>
      rw [pPl_s] at h ⊢
      by_cases w : t0.1 = 5 ∨ t0.1 = 6
      · rw [if_pos w] at h ⊢
        by_cases w2 : m = 12
        · rw [if_pos w2] at h; exact absurd h (cF_r (e := 5) (x := .inr t0))
        · rw [if_neg w2] at h ⊢
          refine ih (m + 1) _ _ t (by omega) (by omega) (pgd_Tm hg hp) ?_ ?_ h
          · rw [pTm_k.1]; exact hp
          · rw [pTm_k.2]; exact h6
      · rw [if_neg w]
        obtain ⟨g1, g2, g3, g4, g5, g6⟩ := hg
        refine ⟨g1, by show ps.2.2.2.2.1 + 1 ≤ 6; omega, g3, fun i hi => ?_, ?_, fun i hi k => ?_⟩
        · show cn (ps.2.2.2.2.2 i) 4096 ≤ 12
          have hi : i < ps.2.2.2.2.1 + 1 := hi
          by_cases z : i = ps.2.2.2.2.1
          · rw [z]; omega
          · exact g4 i (by omega)
        · show cn (ps.2.2.2.2.2 (ps.2.2.2.2.1 + 1)) 4096 ≤ 0
          rw [cn_z (fun k _ => g6 _ (by omega) k)]; omega
        · have hi : ps.2.2.2.2.1 + 1 < i := hi
          exact g6 i (by omega) k
theorem pPy_e (c : Nat → Nat) (n : Nat) (ps : PS) (x : Cu) : ∃ less z, pPy c n ps x = pPl c n 12 1 (pTm c n less ps z).2 (pTm c n less ps z).1 ∧ ∀ t, z = .inr t → (∃ t', x = .inr t') ∧ ¬ ps.1 = 0 ∧ ¬ ps.2.2.2.2.1 = 6 := by
  refine ⟨_, _, rfl, fun t et => ?_⟩
  have h3 : ∃ t', cN c n (if ps.1 = 0 then cF 6 (if ps.2.2.2.2.1 = 6 then cF 5 x else x) else (if ps.2.2.2.2.1 = 6 then cF 5 x else x)) = .inr t' := by
    revert et
    generalize cN c n (if ps.1 = 0 then cF 6 (if ps.2.2.2.2.1 = 6 then cF 5 x else x) else (if ps.2.2.2.2.1 = 6 then cF 5 x else x)) = z3
    intro et
    split at et
    · exact cN_r et
    · exact ⟨t, et⟩
  obtain ⟨t3, e3⟩ := h3
  obtain ⟨t2, e2⟩ := cN_r e3
  by_cases w : ps.1 = 0
  · rw [if_pos w] at e2; exact absurd e2 cF_r
  · rw [if_neg w] at e2
    by_cases w2 : ps.2.2.2.2.1 = 6
    · rw [if_pos w2] at e2; exact absurd e2 cF_r
    · rw [if_neg w2] at e2; exact ⟨⟨t2, e2⟩, w, w2⟩
theorem pgd_Ln {c : Nat → Nat} {n : Nat} {ps : PS} {x : Cu} {t : Tk} (hg : pgd 0 ps) (h : (pLn c n ps x).1 = .inr t) : pgd 0 (pLn c n ps x).2 := by
  unfold pLn at h ⊢
  by_cases w : cIs 3 x = true
  · rw [if_pos w] at h ⊢; exact pgd_Rg hg h
  · rw [if_neg w] at h ⊢
    by_cases w2 : cIs 4 x = true
    · rw [if_pos w2] at h ⊢
      obtain ⟨less, z, e, hz⟩ := pPy_e c n ps x
      rw [e] at h ⊢
      cases z with
      | inl q => rw [pTm_l, pPl_l] at h; cases h
      | inr t0 =>
        obtain ⟨_, w3, w4⟩ := hz t0 rfl
        have h6 := hg.2.1
        exact pgd_Pl 12 1 _ _ t rfl (by omega) (pgd_Tm hg (by omega)) (by rw [pTm_k.1]; omega) (by rw [pTm_k.2]; omega) h
    · rw [if_neg w2] at h; exact absurd h cF_r
theorem pAl_l {c : Nat → Nat} {n f : Nat} {ps : PS} {e : Nat × Nat} : (pAl c n f ps (.inl e)).1 = .inl e := by
  cases f <;> rfl
theorem pgd_Al {c : Nat → Nat} {n : Nat} : ∀ f ps (x : Cu) (t : Tk), pgd 0 ps → (pAl c n f ps x).1 = .inr t → pgd 0 (pAl c n f ps x).2 := fun f => by
  induction f with
  | zero => intro ps x t hg h; exact hg
  | succ f ih =>
    intro ps x t hg h
    rw [pAl_s] at h ⊢
    by_cases w : cK x = 4
    · rw [if_pos w] at h ⊢
      cases hq : (pLn c n ps (cN c n x)).1 with
      | inl e => rw [hq, pAl_l] at h; cases h
      | inr t' =>
        rw [hq] at h
        exact ih _ _ t (pgd_Ln hg hq) h
    · rw [if_neg w]; exact hg
theorem pTx_ok {c : Nat → Nat} {n : Nat} {t : Tk} (h : (pTx c n).1 = .inr t) : pgd 0 (pTx c n).2 := by
  unfold pTx at h ⊢
  cases hq : (pLn c n ps0 (.inr (tok c n 0))).1 with
  | inl e => rw [hq, pAl_l] at h; cases h
  | inr t' =>
    rw [hq] at h
    exact pgd_Al 702 _ _ t (pgd_Ln pgd_0 hq) h
/-! the Model: desk -/
def tcd (A : AB) (n k : Nat) : Nat := if k < n then (aT A k &&& 255).toNatClampNeg else 256
theorem n_255 (x : Int32) : ∃ k, k < 256 ∧ x &&& 255 = nI k := by
  refine ⟨x.toBitVec.toNat % 256, Nat.mod_lt _ (by omega), ?_⟩
  apply Int32.toBitVec_inj.1
  apply BitVec.eq_of_toNat_eq
  have e1 : (x &&& 255).toBitVec = x.toBitVec &&& 255#32 := rfl
  have e2 : (nI (x.toBitVec.toNat % 256)).toBitVec = BitVec.ofNat 32 (x.toBitVec.toNat % 256) := rfl
  rw [e1, e2, BitVec.toNat_and, BitVec.toNat_ofNat, BitVec.toNat_ofNat, Nat.mod_eq_of_lt (show x.toBitVec.toNat % 256 < 2 ^ 32 by omega)]
  show x.toBitVec.toNat &&& (2 ^ 8 - 1) = _
  rw [Nat.and_two_pow_sub_one_eq_mod]
theorem tcd_k {A : AB} {n k : Nat} (h : k < n) : tcd A n k < 256 ∧ aT A k &&& 255 = nI (tcd A n k) := by
  unfold tcd
  rw [if_pos h]
  obtain ⟨j, hj, e⟩ := n_255 (aT A k)
  rw [e]
  have : (nI j).toNatClampNeg = j := by
    have : ∀ j, j < 256 → (nI j).toNatClampNeg = j := by decide
    exact this j hj
  rw [this]
  exact ⟨hj, rfl⟩
theorem tcd_c {A : AB} {n : Nat} (h : n ≤ 700) : cds (tcd A n) n := ⟨h, fun k => ⟨fun w => (tcd_k w).1, fun w => if_neg (by omega)⟩⟩
/-- a text was refused -/
def aE (A : AB) (e p : Nat) : AB := (fun i => if i = 6 then 0 else aN A i, aR A, aP A, aO A, aT A, fun i => if i = 0 then 4 else if i = 1 then nI e else nI p)
/-- a text was taken -/
def aD (A : AB) (ps : PS) : AB := (fun i => if i = 0 then 1 else if i = 1 then ps.1 else if i = 2 then ps.2.1 else if i = 3 then ps.2.2.1 else if i = 4 then ps.2.2.2.1 else 0, fun r k => if r < 6 then ps.2.2.2.2.2 r k else 0, aP A, aO A, aT A, fun i => if i = 0 then 0 else if i = 1 then 0 else -1)
theorem wf_E {A : AB} {e p : Nat} (h : wf A) : wf (aE A e p) := ⟨h.1, by show 0 ≤ 700; omega, fun q => absurd rfl q, h.2.2.2.1, h.2.2.2.2⟩
theorem wf_D {A : AB} {ps : PS} (h : pgd 0 ps) (hp : ¬ ps.1 = 0) : wf (aD A ps) := by
  obtain ⟨g1, g2, g3, g4, g5, g6⟩ := h
  obtain ⟨p1, p2⟩ := g1 (by omega)
  refine ⟨by show 1 < 2; omega, by show 0 ≤ 700; omega, fun _ => rfl, fun q => absurd q (by show ¬ 1 = 0; omega), fun _ => ⟨p1, p2, fun r hr => ?_, by show 0 ≤ 8; omega, fun j hj => absurd hj (by show ¬ j < 0; omega)⟩⟩
  have h2 := p1.1
  show tab ps.1 (fun k => if r < 6 then ps.2.2.2.2.2 r k else 0)
  by_cases w : r < 6
  · refine ⟨fun k _ => by show (if r < 6 then ps.2.2.2.2.2 r k else 0) < ps.1; rw [if_pos w]; exact (g3 r k).1 (by omega), ?_⟩
    rw [cn_ext (g := ps.2.2.2.2.2 r) (fun i hi => by rw [if_pos w])]
    by_cases z : r < ps.2.2.2.2.1
    · have := g4 r z; omega
    · by_cases z2 : r = ps.2.2.2.2.1
      · rw [z2]; omega
      · rw [cn_z (fun k _ => g6 r (by omega) k)]; omega
  · refine ⟨fun k _ => by show (if r < 6 then ps.2.2.2.2.2 r k else 0) < ps.1; rw [if_neg w]; omega, ?_⟩
    rw [cn_z (fun k _ => if_neg w)]; omega
theorem rmT_cg {A : AB} {S S' : St} (h : rmT A S) (he : ∀ k i, pers k i → ¬ (k = 0 ∧ (i = 22 ∨ i = 14 ∨ i = 16)) → S' k i = S k i) : rmT A S' := by
  obtain ⟨k1, k2, k3, k4, k5, k6, ⟨al, k7⟩, k8⟩ := h
  have e5 := he 0 5 (by unfold pers; omega) (by omega)
  have e6 := he 0 6 (by unfold pers; omega) (by omega)
  have e7 := he 0 7 (by unfold pers; omega) (by omega)
  have e8 := he 0 8 (by unfold pers; omega) (by omega)
  have e45 := he 0 45 (by unfold pers; omega) (by omega)
  unfold rmT
  rw [e5, e6, e7, e8, e45]
  refine ⟨k1, k2, k3, k4, k5, fun r hr k hk => by rw [he 1 _ (by unfold pers; omega) (by omega)]; exact k6 r hr k hk, ⟨al, alg_cg k7 (fun i => he 4 i (by unfold pers; omega) (by omega))⟩, fun j hj => ?_⟩
  have := k8 j hj
  unfold rmP at this ⊢
  rw [he 14 j (by unfold pers; omega) (by omega), he 15 j (by unfold pers; omega) (by omega), he 16 j (by unfold pers; omega) (by omega), he 17 j (by unfold pers; omega) (by omega)]
  obtain ⟨m1, m2, m3, m4⟩ := this
  refine ⟨m1, m2, m3, ?_⟩
  rcases m4 with q | ⟨q, q1, q2, q3, q4⟩
  · exact Or.inl q
  · exact Or.inr ⟨q, q1, q2, fun k hk => by rw [he 13 _ (by unfold pers; omega) (by omega)]; exact q3 k hk, q4⟩
theorem mc_desk {A : AB} {S : St} {x : Int32} {post : Int32 → St → Prop} (h : rm A S) (hw : wf A) (h2 : ¬ inr x (aN A 6) → ∀ S', rm (aS A 2 (-1)) S' → post (-1) S')
    (h4 : ∀ n e p, n ≤ aN A 6 → x = nI n → (pTx (tcd A n) n).1 = .inl (e, p) → ∀ S', rm (aE A e p) S' → post (-1) S')
    (h1 : ∀ n t, n ≤ aN A 6 → x = nI n → (pTx (tcd A n) n).1 = .inr t → ¬ (pTx (tcd A n) n).2.1 = 0 → ∀ S', rm (aD A (pTx (tcd A n) n).2) S' → post (nI (pTx (tcd A n) n).2.2.2.2.2.1) S') : wp_desk x S post := by
  unfold wp_desk
  intro S1 e1
  have g : rm A S1 := by rw [e1]; exact rm_0 h
  have h700 := hw.2.1
  obtain ⟨g1, g2, g3, g4, g5, g6, g7⟩ := id g
  have ref : ¬ inr x (aN A 6) → wp_desk_j17 x post S1 := fun q => by
    unfold wp_desk_j17
    exact sp_refused g (sc_rfl _) (h2 q)
  refine ⟨fun c => ref fun ⟨j, hj, e⟩ => ?_, fun c => ⟨fun d => ?_, fun d => ref fun ⟨j, hj, e⟩ => ?_⟩⟩
  · subst e; exact nI_pos (by omega) c
  · rw [g5] at d
    obtain ⟨n, hn, rfl⟩ := n_rg (show aN A 6 < 2 ^ 31 by omega) c (fun q => absurd q (Int32.not_lt.2 d))
    have h2 := h2
    intro S2 e2 S3 e3 S4 e4 S5 e5
    have o5 : ∀ k i, ¬ (k = 0 ∧ (i = 16 ∨ i = 17 ∨ i = 18 ∨ i = 22)) → S5 k i = S1 k i := fun k i q => by
      rw [e5, bw_at, if_neg (by omega), e4, bw_at, if_neg (by omega), e3, bw_at, if_neg (by omega), e2, bw_at, if_neg (by omega)]
    have a17 : S5 0 17 = nI n := by rw [e5, bw_at, if_neg (by omega), e4, bw_at, if_neg (by omega), e3, bw_at, if_neg (by omega), e2, bw_at, if_pos ⟨rfl, rfl⟩]
    have a16 : S5 0 16 = nI 0 := by rw [e5, bw_at, if_neg (by omega), e4, bw_at, if_neg (by omega), e3, bw_at, if_pos ⟨rfl, rfl⟩]; rfl
    have a18 : S5 0 18 = nI 0 := by rw [e5, bw_at, if_neg (by omega), e4, bw_at, if_pos ⟨rfl, rfl⟩]; rfl
    have a22 : S5 0 22 = nI 0 := by rw [e5, bw_at, if_pos ⟨rfl, rfl⟩]; rfl
    have hck : mck (tcd A n) n S5 := ⟨a17, fun j hj => by rw [o5 3 j (by omega), g6 j (by omega)]; exact (tcd_k hj).2⟩
    refine sp_readAll (tcd_c (by omega)) hck a18 a22 (fun S6 t6 y6 w6 => ?_)
    have h4 := h4 n
    have h1 := h1 n
    have hok := fun t => @pTx_ok (tcd A n) n t
    generalize pTx (tcd A n) n = G at y6 w6 h4 h1 hok
    have o6 : ∀ k i, k ≠ 2 → ¬ (k = 0 ∧ ((9 ≤ i ∧ i ≤ 13) ∨ (16 ≤ i ∧ i ≤ 23) ∨ i = 53)) → S6 k i = S1 k i := fun k i q1 q2 => by rw [t6 k i q1 (by omega), o5 k i (by omega)]
    have b16 : S6 0 16 = nI 0 := by rw [t6 0 16 (by omega) (by omega)]; exact a16
    obtain ⟨y6, hps⟩ := y6
    cases hG : G.1 with
    | inl q =>
      obtain ⟨e, p⟩ := q
      rw [hG] at y6
      obtain ⟨m1, m2, m3, m4, m5, m6⟩ := y6
      have m2 : 0 < e := m2
      have m3 : e < 10 := m3
      have m1 : S6 0 22 = nI e := m1
      have m5 : S6 0 20 = nI p := m5
      rw [m1, li_0, nI_leI (by omega) (by omega)]
      refine ⟨fun z => absurd z (by omega), fun _ S7 e7 S8 e8 => h4 e p hn rfl hG S8 ?_⟩
      have o8 : ∀ k i, ¬ (k = 0 ∧ (i = 1 ∨ i = 2)) → S8 k i = S6 k i := fun k i q => by rw [e8, bw_at, if_neg (by omega), e7, bw_at, if_neg (by omega)]
      refine ⟨?_, ?_, ?_, ?_, ?_, fun j hj => ?_, fun ht => ?_⟩
      · rw [e8, bw_at, if_neg (by omega), e7, bw_at, if_pos ⟨rfl, rfl⟩]; rfl
      · rw [e8, bw_at, if_pos ⟨rfl, rfl⟩, e7, bw_at, if_neg (by omega)]; exact m5
      · rw [o8 0 22 (by omega)]; exact m1
      · rw [o8 0 14 (by omega), o6 0 14 (by omega) (by omega)]; exact g4
      · rw [o8 0 16 (by omega)]; exact b16
      · rw [o8 3 j (by omega), o6 3 j (by omega) (by omega)]; exact g6 j hj
      · have := rmT_cg (S' := S8) (g7 ht) (fun k i hp hq => by
          unfold pers at hp
          rw [o8 k i (by omega), o6 k i (by omega) (by omega)])
        exact this
    | inr t =>
      rw [hG] at y6
      have m1 := y6.1
      have hpz := w6 t hG
      obtain ⟨q1, q2, q3, q4, q5⟩ := hps t hG
      obtain ⟨p1, p2, p3, p4, p5⟩ := q2 (by omega)
      rw [m1, li_0, nI_leI (by omega) (by omega)]
      refine ⟨fun _ S7 e7 S8 e8 S9 e9 S10 e10 S11 e11 => ?_, fun z => absurd (by omega) z⟩
      have o7 : ∀ i, i ≠ 14 → S7 0 i = S6 0 i := fun i hi => by rw [e7, bw_at, if_neg (by omega)]
      have o8 : ∀ i, i ≠ 14 → i ≠ 5 → S8 0 i = S6 0 i := fun i hi hi2 => by rw [e8, bw_at, if_neg (by omega)]; exact o7 i hi
      have o9 : ∀ i, i ≠ 14 → i ≠ 5 → i ≠ 6 → S9 0 i = S6 0 i := fun i hi hi2 hi3 => by rw [e9, bw_at, if_neg (by omega)]; exact o8 i hi hi2
      have o10 : ∀ i, i ≠ 14 → i ≠ 5 → i ≠ 6 → i ≠ 7 → S10 0 i = S6 0 i := fun i hi hi2 hi3 hi4 => by rw [e10, bw_at, if_neg (by omega)]; exact o9 i hi hi2 hi3
      have o11 : ∀ k i, ¬ (k = 0 ∧ (i = 14 ∨ (5 ≤ i ∧ i ≤ 8))) → S11 k i = S6 k i := fun k i q => by
        rw [e11, bw_at, if_neg (by omega), e10, bw_at, if_neg (by omega), e9, bw_at, if_neg (by omega), e8, bw_at, if_neg (by omega), e7, bw_at, if_neg (by omega)]
      have c5 : S11 0 5 = nI G.2.1 := by rw [e11, bw_at, if_neg (by omega), e10, bw_at, if_neg (by omega), e9, bw_at, if_neg (by omega), e8, bw_at, if_pos ⟨rfl, rfl⟩, o7 9 (by omega)]; exact q1
      have c6 : S11 0 6 = nI G.2.2.1 := by rw [e11, bw_at, if_neg (by omega), e10, bw_at, if_neg (by omega), e9, bw_at, if_pos ⟨rfl, rfl⟩, o8 10 (by omega) (by omega)]; exact p2
      have c7 : S11 0 7 = nI G.2.2.2.1 := by rw [e11, bw_at, if_neg (by omega), e10, bw_at, if_pos ⟨rfl, rfl⟩, o9 11 (by omega) (by omega) (by omega)]; exact p3
      have c8 : S11 0 8 = nI G.2.2.2.2.1 := by rw [e11, bw_at, if_pos ⟨rfl, rfl⟩, o10 12 (by omega) (by omega) (by omega) (by omega)]; exact p4
      have c14 : S11 0 14 = nI 1 := by rw [e11, bw_at, if_neg (by omega), e10, bw_at, if_neg (by omega), e9, bw_at, if_neg (by omega), e8, bw_at, if_neg (by omega), e7, bw_at, if_pos ⟨rfl, rfl⟩]; rfl
      unfold wp_desk_l108
      refine wl_up 32768 (fun i (v : Int32 × St) => v.1 = nI i ∧ (∀ k j, k ≠ 1 → v.2 k j = S11 k j) ∧ ∀ r k, r < 8 → k < 4096 → 4096 * r + k < i → v.2 1 (4096 * r + k) = nI (if r < 6 then G.2.2.2.2.2.2 r k else 0)) 0 (by omega) ⟨rfl, fun _ _ _ => rfl, fun r k _ _ w => absurd w (by omega)⟩ ?_
      rintro i ⟨x2, S12⟩ hi ⟨ex, f12, z12⟩ R hR
      dsimp only at ex f12 z12 ⊢
      subst ex
      unfold wp_desk_b108 wp_desk_j137
      rw [show (32768 : Int32) = nI 32768 from rfl, show (24576 : Int32) = nI 24576 from rfl, nI_leI (by omega) (by omega), nI_leI (by omega) (by omega)]
      have o12 : ∀ k i, k ≠ 1 → ¬ (k = 0 ∧ (i = 14 ∨ (5 ≤ i ∧ i ≤ 8))) → S12 k i = S6 k i := fun k i q1 q2 => by rw [f12 k i q1, o11 k i q2]
      have step : ∀ S13, i < 32768 → S13 = bw S12 1 i (nI (if i / 4096 < 6 then G.2.2.2.2.2.2 (i / 4096) (i % 4096) else 0)) → ∀ x2, x2 = nI i + 1 → R (x2, S13) := fun S13 hi2 e13 x2 ex2 => by
        rw [li_1, nI_add] at ex2
        refine hR hi2 _ ⟨ex2, fun k j hk => ?_, fun r k hr hk hl => ?_⟩
        · show S13 k j = S11 k j
          rw [e13, bw_at, if_neg (by omega)]; exact f12 k j hk
        · show S13 1 (4096 * r + k) = _
          rw [e13, bw_at]
          by_cases w : 4096 * r + k = i
          · rw [if_pos ⟨rfl, w⟩, show i / 4096 = r by omega, show i % 4096 = k by omega]
          · rw [if_neg (fun z => w z.2)]; exact z12 r k hr hk (by omega)
      refine ⟨fun z S13 e13 => ?_, fun z => ⟨fun z2 => ⟨i, by omega, rfl, fun S13 e13 => step S13 (by omega) ?_⟩, fun z2 => ⟨i, by omega, rfl, i, by omega, rfl, fun S13 e13 => step S13 (by omega) ?_⟩⟩⟩
      · have o13 : ∀ k i, ¬ (k = 0 ∧ i = 45) → S13 k i = S12 k i := fun k i q => by rw [e13, bw_at, if_neg q]
        refine sp_laysOrder p5 (by rw [o13 0 6 (by omega), f12 0 6 (by omega)]; exact c6) (by rw [o13 0 7 (by omega), f12 0 7 (by omega)]; exact c7) (by rw [o13 0 8 (by omega), f12 0 8 (by omega)]; exact c8) (fun S14 al f14 a14 => ?_)
        have c13 : S14 0 13 = nI G.2.2.2.2.2.1 := by rw [f14 0 13 (by omega) (by omega), o13 0 13 (by omega), o12 0 13 (by omega) (by omega)]; exact q3
        rw [c13]
        unfold wp_good
        intro S15 e15 S16 e16
        have o16 : ∀ k i, ¬ (k = 0 ∧ (i = 1 ∨ i = 2)) → S16 k i = S14 k i := fun k i q => by rw [e16, bw_at, if_neg (by omega), e15, bw_at, if_neg (by omega)]
        have l16 : ∀ k i, k ≠ 4 → ¬ (k = 0 ∧ (i = 1 ∨ i = 2 ∨ i = 25 ∨ i = 45)) → S16 k i = S12 k i := fun k i a b => by rw [o16 k i (by omega), f14 k i a (by omega), o13 k i (by omega)]
        refine h1 t hn rfl hG hpz S16 ⟨?_, ?_, ?_, ?_, ?_, fun j hj => ?_, fun _ => ⟨?_, ?_, ?_, ?_, ?_, fun r hr k hk => ?_, ⟨al, ?_⟩, fun j hj => absurd hj (by show ¬ j < 0; omega)⟩⟩
        · rw [e16, bw_at, if_neg (by omega), e15, bw_at, if_pos ⟨rfl, rfl⟩]; rfl
        · rw [e16, bw_at, if_pos ⟨rfl, rfl⟩]; rfl
        · rw [l16 0 22 (by omega) (by omega), o12 0 22 (by omega) (by omega)]; exact m1
        · rw [l16 0 14 (by omega) (by omega), f12 0 14 (by omega)]; exact c14
        · rw [l16 0 16 (by omega) (by omega), o12 0 16 (by omega) (by omega)]; exact b16
        · rw [l16 3 j (by omega) (by omega), o12 3 j (by omega) (by omega), o6 3 j (by omega) (by omega)]; exact g6 j hj
        · rw [l16 0 5 (by omega) (by omega), f12 0 5 (by omega)]; exact c5
        · rw [l16 0 6 (by omega) (by omega), f12 0 6 (by omega)]; exact c6
        · rw [l16 0 7 (by omega) (by omega), f12 0 7 (by omega)]; exact c7
        · rw [l16 0 8 (by omega) (by omega), f12 0 8 (by omega)]; exact c8
        · rw [o16 0 45 (by omega), f14 0 45 (by omega) (by omega), e13, bw_at, if_pos ⟨rfl, rfl⟩]; rfl
        · rw [l16 1 _ (by omega) (by omega)]; exact z12 r k hr hk (by omega)
        · exact alg_cg a14 (fun i => o16 4 i (by omega))
      · rw [if_neg (by omega)]; exact e13
      · have hq := (q5 (i / 4096) (i % 4096) (by omega) (by omega)).1
        rw [show 4096 * (i / 4096) + i % 4096 = i by omega] at hq
        rw [if_pos (by omega), ← hq, ← o12 2 i (by omega) (by omega)]; exact e13
  · subst e
    rw [g5, nI_leI (by omega) (by omega)] at d
    exact d hj
