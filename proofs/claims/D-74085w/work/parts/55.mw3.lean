set_option maxRecDepth 100000
theorem aS_aS (A : AB) (x y t w : Int32) : aS (aS A x y) t w = aS A t w := by
  unfold aS
  refine congrArg (fun z => (aN A, aR A, aP A, aO A, aT A, z)) ?_
  funext i
  show (if i = 0 then t else if i = 2 then w else if i = 0 then x else if i = 2 then y else aZ A i) = if i = 0 then t else if i = 2 then w else aZ A i
  by_cases h : i = 0
  · rw [if_pos h, if_pos h]
  · by_cases h2 : i = 2
    · rw [if_neg h, if_pos h2, if_neg h, if_pos h2]
    · rw [if_neg h, if_neg h2, if_neg h, if_neg h2, if_neg h, if_neg h2]
theorem rm_any {A : AB} {S S' : St} (h : rm A S) (hs : sc S S') : rm (aS A (S' 0 1) (S' 0 2)) S' := rm_cg h hs rfl rfl rfl rfl rfl rfl rfl rfl
theorem wf_any {A : AB} {S : St} (h : wf A) (hz : aZ A 0 = 4) (w : Int32) : wf (aS A 4 w) := ⟨h.1, h.2.1, fun q => absurd rfl q, h.2.2.2⟩
theorem rm_pushP {A A' : AB} {S S' S'' : St} {x : Int32} (h : rm A S) (h8 : aN A 5 ≤ 8) (ht : aN A 0 = 1) (hb : rmb S S' x (kN A) (kD A)) (hP : aP A' = aP (aK A)) (hO : aO A' = aO (aK A)) (hN5 : aN A' 5 = kN A + 1) (hfr : ∀ k i, 13 ≤ k → k ≤ 17 → S'' k i = S' k i) (hlast : rmP A' S'' (kN A)) (j : Nat) (hj : j < aN A' 5) : rmP A' S'' j := by
  obtain ⟨k1, k2⟩ := kN_le h8
  by_cases e : j = kN A
  · rw [e]; exact hlast
  · have hjn : j < kN A := by omega
    obtain ⟨b1, b2, b3, b4, _⟩ := hb
    have hold := (h.2.2.2.2.2.2 ht).2.2.2.2.2.2.2 (j + kD A) (by omega)
    have eO : ∀ i, aO A' j i = aO A (j + kD A) i := fun i => by
      rw [hO]
      show (if j = kN A then _ else _) = _
      rw [if_neg e]
    have eP : ∀ r k, aP A' j r k = aP A (j + kD A) r k := fun r k => by
      rw [hP]
      show (if j = kN A then aR A else aP A (j + kD A)) r k = _
      rw [if_neg e]
    have eX : ∀ r k, aX A' j r k = aX A (j + kD A) r k := fun r k => by
      unfold aX
      rw [hN5, if_pos (by omega), hP]
      show (if j + 1 = kN A then aR A else aP A (j + 1 + kD A)) r k = _
      by_cases e2 : j + 1 = kN A
      · rw [if_pos e2, if_neg (by omega)]
      · rw [if_neg e2, if_pos (by omega)]
        rw [show j + 1 + kD A = j + kD A + 1 by omega]
    unfold rmP at hold ⊢
    rw [hfr 14 j (by omega) (by omega), hfr 15 j (by omega) (by omega), hfr 16 j (by omega) (by omega), hfr 17 j (by omega) (by omega), b4 14 j (by omega) (by omega) hjn, b4 15 j (by omega) (by omega) hjn, b4 16 j (by omega) (by omega) hjn, b4 17 j (by omega) (by omega) hjn, eO, eO, eO]
    obtain ⟨m1, m2, m3, m4⟩ := hold
    refine ⟨m1, m2, m3, ?_⟩
    rcases m4 with ⟨q1, q2⟩ | ⟨q, q1, q2, q3, q4⟩
    · exact Or.inl ⟨q1, fun r hr k hk => by rw [eP, eX]; exact q2 r hr k hk⟩
    · exact Or.inr ⟨q, q1, q2, fun k hk => by rw [hfr 13 _ (by omega) (by omega), b3 j k hjn hk, eP]; exact q3 k hk, fun r hr hne k hk => by rw [eP, eX]; exact q4 r hr hne k hk⟩
theorem rm_push {A : AB} {S S' S'' : St} {q : Nat} {w : Nat → Nat} (h : rm A S) (h8 : aN A 5 ≤ 8) (ht : aN A 0 = 1) (hq : q < 8) (hb : rmb S S' (nI q) (kN A) (kD A)) (h13 : ∀ k, k < 4096 → S' 13 (4096 * kN A + k) = S 1 (4096 * q + k)) (hfr : ∀ k i, k ≠ 1 → S'' k i = S' k i) (h1 : ∀ r, r < 8 → ∀ k, k < 4096 → S'' 1 (4096 * r + k) = nI (if r = q then w k else aR A r k)) : rm (aG (aK A) q w) S'' := by
  have hg := h
  obtain ⟨g1, g2, g3, g4, g5, g6, g7⟩ := hg
  obtain ⟨k1, k2, k3, k4, k5, k6, ⟨al, k7⟩, k8⟩ := g7 ht
  have hb' := hb
  obtain ⟨b1, b2, b3, b4, b5, b6, b7, b8⟩ := hb'
  have f0 : ∀ k i, k ≠ 1 → (k < 13 ∨ 17 < k) → ¬ (k = 0 ∧ i = 45) → S'' k i = S k i := fun k i q1 q2 q3 => by rw [hfr k i q1]; exact b1 k i q2 q3
  refine ⟨?_, ?_, ?_, ?_, ?_, fun j hj => ?_, fun _ => ?_⟩
  · rw [f0 0 1 (by omega) (by omega) (by omega)]; exact g1
  · rw [f0 0 2 (by omega) (by omega) (by omega)]; exact g2
  · rw [f0 0 22 (by omega) (by omega) (by omega)]; exact g3
  · rw [f0 0 14 (by omega) (by omega) (by omega)]; exact g4
  · rw [f0 0 16 (by omega) (by omega) (by omega)]; exact g5
  · rw [f0 3 j (by omega) (by omega) (by omega)]; exact g6 j hj
  · refine ⟨?_, ?_, ?_, ?_, ?_, fun r hr k hk => ?_, ⟨al, ?_⟩, ?_⟩
    · rw [f0 0 5 (by omega) (by omega) (by omega)]; exact k1
    · rw [f0 0 6 (by omega) (by omega) (by omega)]; exact k2
    · rw [f0 0 7 (by omega) (by omega) (by omega)]; exact k3
    · rw [f0 0 8 (by omega) (by omega) (by omega)]; exact k4
    · rw [hfr 0 45 (by omega)]; exact b2
    · rw [h1 r hr k hk]
      show _ = nI ((if r = q then w else aR A r) k)
      by_cases e : r = q
      · rw [if_pos e, if_pos e]
      · rw [if_neg e, if_neg e]
    · exact alg_cg k7 (fun i => f0 4 i (by omega) (by omega) (by omega))
    · refine rm_pushP h h8 ht hb rfl rfl rfl (fun k i q1 q2 => hfr k i (by omega)) ?_
      refine ⟨?_, ?_, ?_, Or.inr ⟨q, hq, ?_, fun k hk => ?_, fun r hr hne k hk => ?_⟩⟩
      · rw [hfr 15 _ (by omega), b6, k2]
        show nI (aN A 2) = nI (if kN A = kN A then aN A 2 else _)
        rw [if_pos rfl]
      · rw [hfr 16 _ (by omega), b7, k3]
        show nI (aN A 3) = nI (if kN A = kN A then aN A 3 else _)
        rw [if_pos rfl]
      · rw [hfr 17 _ (by omega), b8, k4]
        show nI (aN A 4) = nI (if kN A = kN A then aN A 4 else _)
        rw [if_pos rfl]
      · rw [hfr 14 _ (by omega)]; exact b5
      · rw [hfr 13 _ (by omega), h13 k hk, k6 q hq k hk]
        show _ = nI ((if kN A = kN A then aR A else _) q k)
        rw [if_pos rfl]
      · show (if kN A = kN A then aR A else _) r k = (if kN A + 1 < kN A + 1 then _ else (if r = q then w else aR A r) k)
        rw [if_pos rfl, if_neg (by omega), if_neg hne]
theorem sp_lays {A : AB} {S S0 : St} {q : Nat} {w : Nat → Nat} {post : Int32 → St → Prop} (h : rm A S0) (hw : wf A) (ht : aN A 0 = 1) (hs : sc S0 S) (hq : q < 8) (hwk : wk S (aN A 1) w) (h0 : (S 0 29 = 0 ∨ 60 < cn w 4096) → ∀ S', rm (aS A 3 (-1)) S' → post (-1) S') (h1 : S 0 29 ≠ 0 → cn w 4096 ≤ 60 → ∀ S', rm (aL A q w) S' → post (nI (cn w 4096)) S') : wp_lays (nI q) S post := by
  have hW := hw.2.2.2.2 ht
  have hpr := hW.1
  have hcn := cn_le w 4096
  unfold wp_lays wp_lays_j16
  refine ⟨fun c => sp_refused h hs (h0 (Or.inl c)), fun c => sp_workTerms hpr hwk ?_⟩
  rw [li_60, nI_leI (by omega) (by omega)]
  refine ⟨fun c2 => ?_, fun c2 => sp_refused h hs (h0 (Or.inr (by omega)))⟩
  have hr := rm_any h hs
  have hwr : wf A := hw
  have h45 : S 0 45 = nI (aN A 5) := (hr.2.2.2.2.2.2 ht).2.2.2.2.1
  refine sp_remembers hW.2.2.2.1 (Or.inr ⟨q, hq, rfl⟩) h45 (fun S2 hb h13 => ?_)
  have hb : rmb S S2 (nI q) (kN A) (kD A) := hb
  have h13 : ∀ k, k < 4096 → S2 13 (4096 * kN A + k) = S 1 (4096 * q + k) := fun k hk => h13 q rfl hq k hk
  unfold wp_lays_l29
  refine wl_up 4096 (fun i v => v.1 = nI i ∧ (∀ k j, k ≠ 1 → v.2 k j = S2 k j) ∧ (∀ j, (j < 4096 * q ∨ 4096 * q + i ≤ j) → v.2 1 j = S2 1 j) ∧ ∀ k, k < i → v.2 1 (4096 * q + k) = nI (w k)) 0 (by omega) ⟨rfl, fun _ _ _ => rfl, fun _ _ => rfl, fun k hk => absurd hk (by omega)⟩ ?_
  rintro i ⟨x2, S3⟩ hi ⟨hx2, hfr, hoth, hnew⟩ R hR
  dsimp only at hx2 hfr hoth hnew
  subst hx2
  unfold wp_lays_b29
  dsimp only
  have h6 : ∀ k, k < 4096 → S3 6 k = nI (w k) := fun k hk => by rw [hfr 6 k (by omega), hb.1 6 k (by omega) (by omega)]; exact (hwk k hk).1
  rw [li_4096, nI_leI (by omega) (by omega)]
  refine ⟨fun c3 => ?_, fun c3 => ?_⟩
  · have hi4 : i = 4096 := by omega
    subst hi4
    refine sp_workTerms hpr (fun k hk => ⟨h6 k hk, (hwk k hk).2⟩) ?_
    have hbase : rm (aG (aK (aS A (S 0 1) (S 0 2))) q w) S3 := by
      refine rm_push hr (A := aS A (S 0 1) (S 0 2)) hW.2.2.2.1 ht hq hb h13 hfr (fun r hr' k hk => ?_)
      · by_cases e : r = q
        · rw [if_pos e, e]; exact hnew k hk
        · rw [if_neg e, hoth _ (by omega), hb.1 1 _ (by omega) (by omega)]
          exact (hr.2.2.2.2.2.2 ht).2.2.2.2.2.1 r hr' k hk
    refine sp_good hbase (sc_rfl _) (fun S' hS' => h1 c c2 S' ?_)
    have e1 : aS (aG (aK (aS A (S 0 1) (S 0 2))) q w) 0 (-1) = aL A q w := aS_aS (aG (aK A) q w) (S 0 1) (S 0 2) 0 (-1)
    rw [← e1]
    exact hS'
  · refine ⟨i, by omega, rfl, 4096 * q + i, by omega, by rw [pk_mul, nI_add], fun S4 e4 x2 ex2 => ?_⟩
    subst ex2
    refine hR (by omega) _ ⟨by rw [li_1, nI_add], fun k j z => ?_, fun j hj => ?_, fun k hk => ?_⟩
    · show S4 k j = _
      rw [e4, bw_at, if_neg (by omega)]; exact hfr k j z
    · show S4 1 j = _
      rw [e4, bw_at, if_neg (by omega)]; exact hoth j (by omega)
    · show S4 1 _ = _
      rw [e4, bw_at]
      by_cases e : k = i
      · rw [if_pos ⟨rfl, by omega⟩, h6 i (by omega), e]
      · rw [if_neg (by omega)]; exact hnew k (by omega)
