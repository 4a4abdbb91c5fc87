set_option maxRecDepth 100000
/-! the Model: complete, order, undo, constant, size, feed -/
theorem sp_freeRegister {A : AB} {S0 S : St} {s : Nat} {post : Int32 → Prop} (h : rm A S0) (hs : sc S0 S) (hw : wf A) (ht : aN A 0 = 1) (hs2 : s < 256) (h0 : (∀ d, d < 8 → ¬ (¬ bit s d ∧ cn (aR A d) 4096 = 0)) → post (-1)) (h1 : ∀ d, d < 8 → ¬ bit s d → cn (aR A d) 4096 = 0 → (∀ e, e < d → ¬ (¬ bit s e ∧ cn (aR A e) 4096 = 0)) → post (nI d)) : wp_freeRegister (nI s) S post := by
  unfold wp_freeRegister wp_freeRegister_l2
  refine wl_up 8 (fun i v => v = nI i ∧ ∀ e, e < i → ¬ (¬ bit s e ∧ cn (aR A e) 4096 = 0)) 0 (by omega) ⟨rfl, fun e he => absurd he (by omega)⟩ ?_
  rintro i v hi ⟨rfl, hno⟩ R hR
  unfold wp_freeRegister_b2 wp_freeRegister_j26
  rw [li_8, nI_leI (by omega) (by omega)]
  refine ⟨fun c => h0 fun e he => hno e (by omega), fun c => ?_⟩
  rw [n_bit0 hs2 (by omega)]
  have next : ¬ (¬ bit s i ∧ cn (aR A i) 4096 = 0) → ∀ x, x = nI i + 1 → R x := fun q x e => by
    subst e
    refine hR (by omega) _ ⟨by rw [li_1, nI_add], fun e he => ?_⟩
    by_cases z : e = i
    · rw [z]; exact q
    · exact hno e (by omega)
  exact ⟨fun q => next fun w => q w.1, fun q => sp_isZero (by omega) (tb_any h hs hw ht (show i < 8 by omega)) (fun z => b01 rfl (next fun w => z w.2)) (fun z => b11 rfl (h1 i (by omega) q z hno))⟩
/-- the first free register -/
def fre (A : AB) (s d : Nat) : Prop := d < 8 ∧ ¬ bit s d ∧ cn (aR A d) 4096 = 0 ∧ ∀ e, e < d → ¬ (¬ bit s e ∧ cn (aR A e) 4096 = 0)
theorem mc_complete {A : AB} {S : St} {x : Int32} {post : Int32 → St → Prop} (h : rm A S) (hw : wf A) (h0 : ¬ aN A 0 = 1 → ∀ S', rm (aS A 1 (-1)) S' → post (-1) S') (h2 : aN A 0 = 1 → ¬ (∃ s, iset x s) → ∀ S', rm (aS A 2 (-1)) S' → post (-1) S') (h5 : aN A 0 = 1 → ∀ s, iset x s → (hzr A s ∨ ¬ ∃ d, fre A s d) → ∀ S', rm (aS A 5 (-1)) S' → post (-1) S')
    (h1 : aN A 0 = 1 → ∀ s k, iset x s → ¬ hzr A s → fre A s k → (∀ i, i < 64 → pbad A s i → (∀ j, j < i → pzr A s j) → ∀ S', rm (aS A 3 (-1)) S' → post (-1) S') ∧ ((∀ i, i < 64 → pzr A s i) → ∀ S', rm (aS A 0 (-1)) S' → post (-2) S') ∧ ∀ i D, i < 64 → pgot A s i D → cn (dR D) 4096 ≠ 0 → dinv (aN A 1) (aOk A) (aR A) s D → (∀ j, j < i → pzr A s j) → ∀ S', rm (aL A k (tr (dR D))) S' → post (nI k) S') : wp_complete x S post := by
  unfold wp_complete
  intro S1 e1
  have g : rm A S1 := by rw [e1]; exact rm_0 h
  have hlt := hw.1
  rw [g.2.2.2.1, li_0, nI_eq (by omega) (by omega)]
  refine ⟨fun c => ?_, fun c => sp_refused g (sc_rfl _) (h0 (by omega))⟩
  have ht : aN A 0 = 1 := by omega
  refine sp_refusesSet g (sc_rfl _) hw ht (fun c => ⟨fun q => absurd q (by decide), fun _ => sp_refused g (sc_rfl _) (h2 ht c)⟩) (fun s hse hz => ⟨fun q => absurd q (by decide), fun _ => sp_refused g (sc_rfl _) (h5 ht s hse (Or.inl hz))⟩) (fun s hse hz => ⟨fun _ => ?_, fun q => absurd (by decide) q⟩)
  have f5 := h5 ht s hse
  have f1 := fun k => h1 ht s k hse hz
  obtain ⟨s1, s2, rfl⟩ := hse
  refine sp_freeRegister g (sc_rfl _) hw ht s2 (fun q => ⟨fun w => absurd rfl w, fun _ => sp_refused g (sc_rfl _) (f5 (Or.inr fun ⟨d, d1, d2, d3, _⟩ => q d d1 ⟨d2, d3⟩))⟩) (fun k k1 k2 k3 k4 => ⟨fun _ => ?_, fun w => absurd w (n_m1 (by omega))⟩)
  obtain ⟨e3, e2, e1'⟩ := f1 k ⟨k1, k2, k3, k4⟩
  rw [← li_0, show (0 : Int32) = nI 0 from rfl]
  refine sp_firstMissing g (sc_rfl _) hw ht s2 hz (by omega) (fun i q1 q2 q3 q4 S2 s2 => ⟨fun w => absurd rfl w, fun _ => sp_refused g s2 (e3 i q2 q3 fun j hj => q4 j (by omega) hj)⟩) (fun i D q1 q2 q3 q4 hid q5 S2 s2 m2 => ⟨fun _ => ⟨fun _ => ?_, fun w => absurd w (n_m1 (by omega))⟩, fun w => absurd w ?_⟩) (fun q S2 s2 => ⟨fun _ => ⟨fun w => absurd rfl w, fun _ => sp_good g s2 (e2 fun i hi => q i (by omega) hi)⟩, fun w => absurd w (by decide)⟩)
  · have fin := e1' i D q2 q3 q4 hid (fun j hj => q5 j (by omega) hj)
    unfold wp_complete_l88
    refine wl_up 4096 (fun i v => v.1 = nI i ∧ fr6 S2 v.2 ∧ ∀ m, m < i → v.2 6 m = nI (dR D m)) 0 (by omega) ⟨rfl, fun _ _ _ _ => rfl, fun m hm => absurd hm (by omega)⟩ ?_
    rintro i ⟨x5, S3⟩ hi4 ⟨hx5, f3, w3⟩ R hR
    dsimp only at hx5 f3 w3
    subst hx5
    unfold wp_complete_b88
    dsimp only
    rw [li_4096, nI_leI (by omega) (by omega)]
    refine ⟨fun c S4 e4 => ?_, fun c => ⟨i, by omega, rfl, i, by omega, rfl, fun S4 e4 x5 ex5 => ?_⟩⟩
    · have r4 : S4 0 29 = 1 := by rw [e4, bw_at, if_pos ⟨rfl, rfl⟩]
      have f4 : fr6 S2 S4 := fun x y q1 q2 => by rw [e4, bw_at, if_neg q2]; exact f3 x y q1 q2
      have w4 : wk S4 (aN A 1) (tr (dR D)) := fun m hm => ⟨by rw [e4, bw_at, if_neg (by omega), tr_lt hm]; exact w3 m (by omega), by rw [tr_lt hm]; exact hid.2.1 m hm⟩
      have hi5 := hid.2.2.2.2.1
      refine sp_lays g hw ht (sc_tr s2 (fr6_sc f4)) k1 w4 (fun w => ?_) (fun _ _ S5 h5' => ?_)
      · rcases w with w | w
        · rw [r4] at w; exact absurd w (by decide)
        · rw [cn_tr] at w; omega
      · refine sp_good h5' (sc_rfl _) (fun S6 h6 => fin S6 ?_)
        have : aS (aL A k (tr (dR D))) 0 (-1) = aL A k (tr (dR D)) := aS_aS (aG (aK A) k (tr (dR D))) 0 (-1) 0 (-1)
        rw [this] at h6
        exact h6
    · rw [f3 8 i (by omega) (by omega), m2.2.2.1 i (by omega)] at e4
      subst ex5
      refine hR (by omega) _ ⟨by rw [li_1, nI_add], fun x y q1 q2 => ?_, fun m hm => ?_⟩
      · show S4 x y = _
        rw [e4, bw_at, if_neg (fun z => q1 z.1)]; exact f3 x y q1 q2
      · show S4 6 m = _
        rw [e4, bw_at]
        by_cases q : m = i
        · rw [if_pos ⟨rfl, q⟩, q]
        · rw [if_neg (fun z => q z.2)]; exact w3 m (by omega)
  · rw [z_nI, show (-3 : Int32) = zI (-3) from rfl, z_eq (by omega) (by omega)]; omega
/-- another order -/
def aOr (A : AB) (h a b : Nat) : AB := (fun i => if i = 2 then h else if i = 3 then a else if i = 4 then b else aN A i, aR A, aP A, aO A, aT A, aZ A)
theorem wf_Or {A : AB} {h a b : Nat} (hw : wf A) (ht : aN A 0 = 1) (v : vo h a b) : wf (aOr A h a b) := by
  obtain ⟨h1, h2, h3, h4, h5⟩ := hw
  obtain ⟨g1, g2, g3, g4, g5⟩ := h5 ht
  exact ⟨h1, h2, h3, fun z => absurd (z.symm.trans ht) (by decide), fun _ => ⟨g1, v, g3, g4, g5⟩⟩
theorem sp_order_j64 {A : AB} {S : St} {h a b : Nat} {y : Int32} {post : Int32 → St → Prop} (hr : rm A S) (hw : wf A) (ht : aN A 0 = 1) (v : vo h a b) (hp : ∀ S', rm (aS (aOr (aK A) h a b) 0 (-1)) S' → post (if y = 0 then 1 else 0) S') : wp_order_j64 (nI h) (nI a) (nI b) post y S := by
  have hW := hw.2.2.2.2 ht
  unfold wp_order_j64
  have h45 : S 0 45 = nI (aN A 5) := (hr.2.2.2.2.2.2 ht).2.2.2.2.1
  refine sp_remembers hW.2.2.2.1 (Or.inl rfl) h45 (fun S2 hb _ S3 e3 S4 e4 S5 e5 => ?_)
  have hb : rmb S S2 (-1) (kN A) (kD A) := hb
  have g5 : ∀ k i, ¬ (k = 0 ∧ (i = 6 ∨ i = 7 ∨ i = 8)) → S5 k i = S2 k i := fun k i q => by rw [e5, bw_at, if_neg (by omega), e4, bw_at, if_neg (by omega), e3, bw_at, if_neg (by omega)]
  have h6 : S5 0 6 = nI h := by rw [e5, bw_at, if_neg (by omega), e4, bw_at, if_neg (by omega), e3, bw_at, if_pos ⟨rfl, rfl⟩]
  have h7 : S5 0 7 = nI a := by rw [e5, bw_at, if_neg (by omega), e4, bw_at, if_pos ⟨rfl, rfl⟩]
  have h8 : S5 0 8 = nI b := by rw [e5, bw_at, if_pos ⟨rfl, rfl⟩]
  refine sp_laysOrder v h6 h7 h8 (fun S6 al f6 hal => ?_)
  have hg := hr
  obtain ⟨g1, g2, g3, g4, g5', g6, g7⟩ := hg
  obtain ⟨k1, k2, k3, k4, k5, k6, _, k8⟩ := g7 ht
  have hb' := hb
  obtain ⟨b1, b2, b3, b4, b5, b6, b7, b8⟩ := hb'
  have low : ∀ k i, k ≠ 4 → (k < 13 ∨ 17 < k) → ¬ (k = 0 ∧ (i = 25 ∨ i = 6 ∨ i = 7 ∨ i = 8 ∨ i = 45)) → S6 k i = S k i := fun k i q1 q2 q3 => by rw [f6 k i q1 (by omega), g5 k i (by omega)]; exact b1 k i q2 (by omega)
  have hi : ∀ k i, 13 ≤ k → k ≤ 17 → S6 k i = S2 k i := fun k i q1 q2 => by rw [f6 k i (by omega) (by omega), g5 k i (by omega)]
  have hrm : rm (aOr (aK A) h a b) S6 := by
    refine ⟨?_, ?_, ?_, ?_, ?_, fun j hj => ?_, fun _ => ⟨?_, ?_, ?_, ?_, ?_, fun r hr' k hk => ?_, ⟨al, hal⟩, ?_⟩⟩
    · rw [low 0 1 (by omega) (by omega) (by omega)]; exact g1
    · rw [low 0 2 (by omega) (by omega) (by omega)]; exact g2
    · rw [low 0 22 (by omega) (by omega) (by omega)]; exact g3
    · rw [low 0 14 (by omega) (by omega) (by omega)]; exact g4
    · rw [low 0 16 (by omega) (by omega) (by omega)]; exact g5'
    · rw [low 3 j (by omega) (by omega) (by omega)]; exact g6 j hj
    · rw [low 0 5 (by omega) (by omega) (by omega)]; exact k1
    · rw [f6 0 6 (by omega) (by omega)]; exact h6
    · rw [f6 0 7 (by omega) (by omega)]; exact h7
    · rw [f6 0 8 (by omega) (by omega)]; exact h8
    · rw [f6 0 45 (by omega) (by omega), g5 0 45 (by omega)]; exact b2
    · rw [low 1 _ (by omega) (by omega) (by omega)]; exact k6 r hr' k hk
    · refine rm_pushP hr hW.2.2.2.1 ht hb rfl rfl rfl hi ?_
      refine ⟨?_, ?_, ?_, Or.inl ⟨?_, fun r hr' k hk => ?_⟩⟩
      · rw [hi 15 _ (by omega) (by omega), b6, k2]
        show nI (aN A 2) = nI (if kN A = kN A then aN A 2 else _)
        rw [if_pos rfl]
      · rw [hi 16 _ (by omega) (by omega), b7, k3]
        show nI (aN A 3) = nI (if kN A = kN A then aN A 3 else _)
        rw [if_pos rfl]
      · rw [hi 17 _ (by omega) (by omega), b8, k4]
        show nI (aN A 4) = nI (if kN A = kN A then aN A 4 else _)
        rw [if_pos rfl]
      · rw [hi 14 _ (by omega) (by omega)]; exact b5
      · show (if kN A = kN A then aR A else _) r k = (if kN A + 1 < kN A + 1 then _ else aR A r k)
        rw [if_pos rfl, if_neg (by omega)]
  refine ⟨fun q => ?_, fun q => ?_⟩
  · rw [if_pos q] at hp; exact sp_good hrm (sc_rfl _) hp
  · rw [if_neg q] at hp; exact sp_good hrm (sc_rfl _) hp
theorem mc_order {A : AB} {S : St} {x y z : Int32} {post : Int32 → St → Prop} (h : rm A S) (hw : wf A) (h0 : ¬ aN A 0 = 1 → ∀ S', rm (aS A 1 (-1)) S' → post (-1) S') (h2 : aN A 0 = 1 → ¬ (∃ h a b, vo h a b ∧ x = nI h ∧ y = nI a ∧ z = nI b) → ∀ S', rm (aS A 2 (-1)) S' → post (-1) S')
    (h1 : aN A 0 = 1 → ∀ h a b, vo h a b → x = nI h → y = nI a → z = nI b → ∀ S', rm (aS (aOr (aK A) h a b) 0 (-1)) S' → post (if aN A 2 = h ∧ aN A 3 = a ∧ aN A 4 = b then 0 else 1) S') : wp_order x y z S post := by
  unfold wp_order
  intro S1 e1
  have g : rm A S1 := by rw [e1]; exact rm_0 h
  have hlt := hw.1
  rw [g.2.2.2.1, li_0, nI_eq (by omega) (by omega), ← li_0]
  refine ⟨fun c => ?_, fun c => sp_refused g (sc_rfl _) (h0 (by omega))⟩
  have ht : aN A 0 = 1 := by omega
  refine sp_isOrder (fun c => b02 rfl (sp_refused g (sc_rfl _) (h2 ht c))) (fun hh a b v ex ey ez => b12 rfl ?_)
  have fin := h1 ht hh a b v ex ey ez
  subst ex ey ez
  obtain ⟨k1, k2, k3, k4, _⟩ := g.2.2.2.2.2.2 ht
  have hv := (hw.2.2.2.2 ht).2.1
  obtain ⟨v1, v2, v3, v4⟩ := v
  obtain ⟨w1, w2, w3, w4⟩ := hv
  unfold wp_order_j61
  rw [k2, k3, k4, nI_eq (by omega) (by omega), nI_eq (by omega) (by omega), nI_eq (by omega) (by omega)]
  have no : ¬ (aN A 2 = hh ∧ aN A 3 = a ∧ aN A 4 = b) → wp_order_j64 (nI hh) (nI a) (nI b) post 0 S1 := fun q => by
    rw [if_neg q] at fin
    exact sp_order_j64 g hw ht ⟨v1, v2, v3, v4⟩ fin
  refine ⟨fun q => no fun w => q w.1, fun q1 => ⟨fun q => no fun w => q w.2.1, fun q2 => ⟨fun q => no fun w => q w.2.2, fun q3 => ?_⟩⟩⟩
  rw [if_pos ⟨q1, q2, q3⟩] at fin
  exact sp_order_j64 g hw ht ⟨v1, v2, v3, v4⟩ fin
/-- the last act undone -/
def aU (A : AB) : AB := (fun i => if i = 5 then aN A 5 - 1 else if i = 2 then aO A (aN A 5 - 1) 0 else if i = 3 then aO A (aN A 5 - 1) 1 else if i = 4 then aO A (aN A 5 - 1) 2 else aN A i, aP A (aN A 5 - 1), aP A, aO A, aT A, aZ A)
theorem wf_U {A : AB} (hw : wf A) (ht : aN A 0 = 1) (h0 : 0 < aN A 5) : wf (aU A) := by
  obtain ⟨h1, h2, h3, h4, h5⟩ := hw
  obtain ⟨g1, g2, g3, g4, g5⟩ := h5 ht
  obtain ⟨q1, q2⟩ := g5 (aN A 5 - 1) (by omega)
  exact ⟨h1, h2, h3, fun z => absurd (z.symm.trans ht) (by decide), fun _ => ⟨g1, q1, q2, by show aN A 5 - 1 ≤ 8; omega, fun j hj => g5 j (by have : j < aN A 5 - 1 := hj; omega)⟩⟩
theorem sp_undo_j94 {A : AB} {S0 S : St} {post : Int32 → St → Prop} (h : rm A S0) (hw : wf A) (ht : aN A 0 = 1) (h0 : 0 < aN A 5) (hfr : ∀ k i, k ≠ 1 → ¬ (k = 0 ∧ i = 45) → S k i = S0 k i) (h45 : S 0 45 = nI (aN A 5 - 1)) (h1 : ∀ r, r < 8 → ∀ k, k < 4096 → S 1 (4096 * r + k) = nI (aP A (aN A 5 - 1) r k)) (hp : ∀ S', rm (aS (aU A) 0 (-1)) S' → post 1 S') : wp_undo_j94 post S := by
  have hW := hw.2.2.2.2 ht
  obtain ⟨g1, g2, g3, g4, g5, g6, g7⟩ := h
  obtain ⟨k1, k2, k3, k4, k5, k6, _, k8⟩ := g7 ht
  have h8 := hW.2.2.2.1
  obtain ⟨m1, m2, m3, m4⟩ := k8 (aN A 5 - 1) (by omega)
  obtain ⟨v, _⟩ := hW.2.2.2.2 (aN A 5 - 1) (by omega)
  unfold wp_undo_j94
  refine ⟨aN A 5 - 1, by omega, h45, fun S1 e1 => ⟨aN A 5 - 1, by omega, by rw [e1, bw_at, if_neg (by omega)]; exact h45, fun S2 e2 => ⟨aN A 5 - 1, by omega, by rw [e2, bw_at, if_neg (by omega), e1, bw_at, if_neg (by omega)]; exact h45, fun S3 e3 => ?_⟩⟩⟩
  have f3 : ∀ k i, ¬ (k = 0 ∧ (i = 6 ∨ i = 7 ∨ i = 8)) → S3 k i = S k i := fun k i q => by rw [e3, bw_at, if_neg (by omega), e2, bw_at, if_neg (by omega), e1, bw_at, if_neg (by omega)]
  have h36 : S3 0 6 = nI (aO A (aN A 5 - 1) 0) := by rw [e3, bw_at, if_neg (by omega), e2, bw_at, if_neg (by omega), e1, bw_at, if_pos ⟨rfl, rfl⟩, hfr 15 _ (by omega) (by omega)]; exact m1
  have h37 : S3 0 7 = nI (aO A (aN A 5 - 1) 1) := by rw [e3, bw_at, if_neg (by omega), e2, bw_at, if_pos ⟨rfl, rfl⟩, e1, bw_at, if_neg (by omega), hfr 16 _ (by omega) (by omega)]; exact m2
  have h38 : S3 0 8 = nI (aO A (aN A 5 - 1) 2) := by rw [e3, bw_at, if_pos ⟨rfl, rfl⟩, e2, bw_at, if_neg (by omega), e1, bw_at, if_neg (by omega), hfr 17 _ (by omega) (by omega)]; exact m3
  refine sp_laysOrder v h36 h37 h38 (fun S4 al f4 hal => ?_)
  have low : ∀ k i, k ≠ 4 → k ≠ 1 → ¬ (k = 0 ∧ (i = 25 ∨ i = 6 ∨ i = 7 ∨ i = 8 ∨ i = 45)) → S4 k i = S0 k i := fun k i q1 q2 q3 => by rw [f4 k i q1 (by omega), f3 k i (by omega)]; exact hfr k i q2 (by omega)
  have hrm : rm (aU A) S4 := by
    refine ⟨?_, ?_, ?_, ?_, ?_, fun j hj => ?_, fun _ => ⟨?_, ?_, ?_, ?_, ?_, fun r hr' k hk => ?_, ⟨al, hal⟩, fun j hj => ?_⟩⟩
    · rw [low 0 1 (by omega) (by omega) (by omega)]; exact g1
    · rw [low 0 2 (by omega) (by omega) (by omega)]; exact g2
    · rw [low 0 22 (by omega) (by omega) (by omega)]; exact g3
    · rw [low 0 14 (by omega) (by omega) (by omega)]; exact g4
    · rw [low 0 16 (by omega) (by omega) (by omega)]; exact g5
    · rw [low 3 j (by omega) (by omega) (by omega)]; exact g6 j hj
    · rw [low 0 5 (by omega) (by omega) (by omega)]; exact k1
    · rw [f4 0 6 (by omega) (by omega)]; exact h36
    · rw [f4 0 7 (by omega) (by omega)]; exact h37
    · rw [f4 0 8 (by omega) (by omega)]; exact h38
    · rw [f4 0 45 (by omega) (by omega), f3 0 45 (by omega)]; exact h45
    · rw [f4 1 _ (by omega) (by omega), f3 1 _ (by omega)]; exact h1 r hr' k hk
    · have hj : j < aN A 5 - 1 := hj
      have hold := k8 j (by omega)
      have eX : ∀ r k, aX (aU A) j r k = aX A j r k := fun r k => by
        show (if j + 1 < aN A 5 - 1 then aP A (j + 1) r k else aP A (aN A 5 - 1) r k) = if j + 1 < aN A 5 then aP A (j + 1) r k else aR A r k
        rw [if_pos (show j + 1 < aN A 5 by omega)]
        by_cases q : j + 1 < aN A 5 - 1
        · rw [if_pos q]
        · rw [if_neg q, show aN A 5 - 1 = j + 1 by omega]
      unfold rmP at hold ⊢
      rw [low 14 j (by omega) (by omega) (by omega), low 15 j (by omega) (by omega) (by omega), low 16 j (by omega) (by omega) (by omega), low 17 j (by omega) (by omega) (by omega)]
      obtain ⟨q1, q2, q3, q4⟩ := hold
      refine ⟨q1, q2, q3, ?_⟩
      rcases q4 with ⟨w1, w2⟩ | ⟨w, w1, w2, w3, w4⟩
      · exact Or.inl ⟨w1, fun r hr k hk => by rw [eX]; exact w2 r hr k hk⟩
      · exact Or.inr ⟨w, w1, w2, fun k hk => by rw [low 13 _ (by omega) (by omega) (by omega)]; exact w3 k hk, fun r hr hne k hk => by rw [eX]; exact w4 r hr hne k hk⟩
  exact sp_good hrm (sc_rfl _) hp
theorem mc_undo {A : AB} {S : St} {post : Int32 → St → Prop} (h : rm A S) (hw : wf A) (h0 : ¬ (aN A 0 = 1 ∧ 0 < aN A 5) → ∀ S', rm (aS A 1 (-1)) S' → post 0 S') (h1 : aN A 0 = 1 → 0 < aN A 5 → ∀ S', rm (aS (aU A) 0 (-1)) S' → post 1 S') : wp_undo S post := by
  unfold wp_undo wp_undo_j19
  intro S1 e1
  have g : rm A S1 := by rw [e1]; exact rm_0 h
  have hlt := hw.1
  rw [g.2.2.2.1, li_0, nI_eq (by omega) (by omega), ← li_0]
  refine ⟨fun c => sp_refused g (sc_rfl _) (h0 (by omega)), fun c => ?_⟩
  have ht : aN A 0 = 1 := by omega
  have hW := hw.2.2.2.2 ht
  have h8 := hW.2.2.2.1
  obtain ⟨k1, k2, k3, k4, k5, k6, _, k8⟩ := g.2.2.2.2.2.2 ht
  rw [k5, li_0, nI_eq (by omega) (by omega), ← li_0]
  refine ⟨fun q S2 e2 => ?_, fun q => sp_refused g (sc_rfl _) (h0 (by omega))⟩
  rw [li_1, pk_sub (by omega)] at e2
  have f2 : ∀ k i, ¬ (k = 0 ∧ i = 45) → S2 k i = S1 k i := fun k i w => by rw [e2, bw_at, if_neg w]
  have h245 : S2 0 45 = nI (aN A 5 - 1) := by rw [e2, bw_at, if_pos ⟨rfl, rfl⟩]
  refine ⟨aN A 5 - 1, by omega, h245, ?_⟩
  have fin := h1 ht (by omega)
  obtain ⟨m1, m2, m3, m4⟩ := k8 (aN A 5 - 1) (by omega)
  rw [f2 14 _ (by omega)]
  have eX : ∀ r k, aX A (aN A 5 - 1) r k = aR A r k := fun r k => if_neg (by omega)
  unfold wp_undo_l49
  rcases m4 with ⟨w1, w2⟩ | ⟨w, w1, w2, w3, w4⟩
  · rw [w1]
    refine wl_n (fun n v => v = (0, S2)) 0 rfl ?_
    rintro n v rfl R hR
    unfold wp_undo_b49
    refine ⟨fun _ => sp_undo_j94 g hw ht (by omega) (fun k i q1 q2 => f2 k i q2) h245 (fun r hr k hk => ?_) fin, fun z => absurd rfl z⟩
    show S2 1 _ = _
    rw [f2 1 _ (by omega), k6 r hr k hk, w2 r hr k hk, eX]
  · rw [w2]
    refine wl_up 4096 (fun i v => v.1 = nI i ∧ (∀ k j, k ≠ 1 → v.2 k j = S2 k j) ∧ (∀ j, (j < 4096 * w ∨ 4096 * w + i ≤ j) → v.2 1 j = S2 1 j) ∧ ∀ k, k < i → v.2 1 (4096 * w + k) = nI (aP A (aN A 5 - 1) w k)) 0 (by omega) ⟨rfl, fun _ _ _ => rfl, fun _ _ => rfl, fun k hk => absurd hk (by omega)⟩ ?_
    rintro i ⟨x2, S3⟩ hi ⟨hx2, f3, o3, n3⟩ R hR
    dsimp only at hx2 f3 o3 n3
    subst hx2
    unfold wp_undo_b49
    dsimp only
    refine ⟨fun z => absurd z (n_m1 (by omega)), fun _ => ?_⟩
    rw [li_4096, nI_leI (by omega) (by omega)]
    have h345 : S3 0 45 = nI (aN A 5 - 1) := by rw [f3 0 45 (by omega)]; exact h245
    refine ⟨fun c => sp_undo_j94 g hw ht (by omega) (fun k j q1 q2 => by rw [f3 k j q1]; exact f2 k j q2) h345 (fun r hr k hk => ?_) fin, fun c => ?_⟩
    · by_cases e : r = w
      · rw [e]; exact n3 k (by omega)
      · rw [o3 _ (by omega), f2 1 _ (by omega), k6 r hr k hk, w4 r hr e k hk, eX]
    · rw [h345, pk_mul, nI_add, pk_mul, nI_add]
      refine ⟨4096 * (aN A 5 - 1) + i, by omega, rfl, 4096 * w + i, by omega, rfl, fun S4 e4 x2 ex2 => ?_⟩
      rw [f3 13 _ (by omega), f2 13 _ (by omega), w3 i (by omega)] at e4
      subst ex2
      refine hR (by omega) _ ⟨by rw [li_1, nI_add], fun k j z => ?_, fun j hj => ?_, fun k hk => ?_⟩
      · show S4 k j = _
        rw [e4, bw_at, if_neg (by omega)]; exact f3 k j z
      · show S4 1 j = _
        rw [e4, bw_at, if_neg (by omega)]; exact o3 j (by omega)
      · show S4 1 _ = _
        rw [e4, bw_at]
        by_cases e : k = i
        · rw [if_pos ⟨rfl, by omega⟩, e]
        · rw [if_neg (by omega)]; exact n3 k (by omega)
/-- constants -/
def isC (A : AB) (r : Nat) : Prop := cn (aR A r) 4096 = 1 ∧ aR A r 0 ≠ 0
noncomputable def nC (A : AB) (i : Nat) : Nat := ns (fun r => @ite _ (isC A r) (Classical.propDecidable _) 1 0) i
theorem nC_0 {A : AB} {i : Nat} (q : ¬ isC A i) : nC A i = nC A (i + 1) := by
  unfold nC
  rw [ns_s, if_neg q, Nat.add_zero]
theorem nC_1 {A : AB} {i : Nat} (q : isC A i) : nC A i + 1 = nC A (i + 1) := by
  unfold nC
  rw [ns_s, if_pos q]
theorem mc_constant {A : AB} {S : St} {x : Int32} {post : Int32 → St → Prop} (h : rm A S) (hw : wf A) (h0 : (¬ aN A 0 = 1 ∨ ∀ r, r < 8 → ¬ (isC A r ∧ x = nI (nC A r))) → ∀ S', rm A S' → S' 0 0 = 1 → post 0 S') (h1 : aN A 0 = 1 → ∀ r, r < 8 → isC A r → x = nI (nC A r) → (∀ q, q < r → ¬ (isC A q ∧ x = nI (nC A q))) → ∀ S', rm A S' → S' 0 0 = 0 → post (nI r) S') : wp_constant x S post := by
  unfold wp_constant
  intro S1 e1
  have g : rm A S1 := by rw [e1]; exact rm_0 h
  have z1 : S1 0 0 = 0 := by rw [e1, bw_at, if_pos ⟨rfl, rfl⟩]
  have hlt := hw.1
  have bad : (¬ aN A 0 = 1 ∨ ∀ r, r < 8 → ¬ (isC A r ∧ x = nI (nC A r))) → wp_constant_j59 x post S1 := fun q S2 e2 => h0 q S2 (rm_sc g (by rw [e2]; exact sc_bw (by unfold pers; omega)) (by rw [e2, bw_at, if_neg (by omega)]) (by rw [e2, bw_at, if_neg (by omega)])) (by rw [e2, bw_at, if_pos ⟨rfl, rfl⟩])
  unfold wp_constant_l9
  refine wl_up 8 (fun i v => v = (nI (nC A i), nI i) ∧ nC A i ≤ i ∧ ∀ q, q < i → ¬ (isC A q ∧ x = nI (nC A q))) 0 (by omega) ⟨rfl, Nat.le_refl _, fun q hq => absurd hq (by omega)⟩ ?_
  rintro i v hi ⟨rfl, hc, hno⟩ R hR
  unfold wp_constant_b9 wp_constant_j53
  dsimp only
  rw [g.2.2.2.1, li_0, nI_eq (by omega) (by omega), ← li_0, li_8, nI_leI (by omega) (by omega)]
  refine ⟨fun c => bad (Or.inl (by omega)), fun c => ⟨fun c2 => bad (Or.inr fun r hr => hno r (by omega)), fun c2 => ?_⟩⟩
  have ht : aN A 0 = 1 := by omega
  have tb1 := rm_tb g hw ht (show i < 8 by omega)
  have hcn := cn_le (aR A i) 4096
  have step : ∀ n, n = nC A (i + 1) → ¬ (isC A i ∧ x = nI (nC A i)) → ∀ x3, x3 = nI i + 1 → R (nI n, x3) := fun n en hn x3 e3 => by
    subst en e3
    refine hR (by omega) _ ⟨by rw [li_1, nI_add], ?_, fun q hq => ?_⟩
    · by_cases q : isC A i
      · rw [← nC_1 q]; omega
      · rw [← nC_0 q]; omega
    · by_cases e : q = i
      · rw [e]; exact hn
      · exact hno q (by omega)
  refine sp_termsOf (by omega) tb1 ?_
  rw [li_1, nI_eq (by omega) (by omega), ← li_1]
  refine ⟨fun q => step _ (nC_0 fun w => q w.1) (fun w => q w.1.1), fun q => ?_⟩
  rw [li_0]
  refine sp_coef (by omega) (by omega) ?_
  obtain ⟨t1, t2⟩ := tb1 0 (by omega)
  rw [t1, nI_eq (by omega) (by omega)]
  refine ⟨fun q2 => ⟨fun q3 x2 e2 => ?_, fun q3 => h1 ht i (by omega) ⟨q, q2⟩ q3.symm hno S1 g z1⟩, fun q2 => step _ (nC_0 fun w => w.2 q2) (fun w => w.1.2 q2)⟩
  rw [li_1, nI_add] at e2
  subst e2
  exact step _ (nC_1 ⟨q, q2⟩) (fun w => q3 w.2.symm)
theorem mc_size {A : AB} {S : St} {x : Int32} {post : Int32 → St → Prop} (h : rm A S) (hw : wf A) (h1 : ∀ S', rm A S' → post (if x = nI 0 then nI (aN A 6) else if x = nI 1 then nI (aN A 5) else if x = nI 2 then nI (ns (fun r => cn (aR A r) 4096) 8) else -1) S') : wp_size x S post := by
  unfold wp_size
  intro S1 e1
  have g : rm A S1 := by rw [e1]; exact rm_0 h
  have fin := h1 S1 g
  have hlt := hw.1
  have n01 : ¬ nI 0 = nI 1 := by decide
  have n02 : ¬ nI 0 = nI 2 := by decide
  have n12 : ¬ nI 1 = nI 2 := by decide
  rw [g.2.2.2.1, g.2.2.2.2.1]
  refine ⟨fun d => ?_, fun d => ?_, fun d => ?_, fun d => ?_⟩
  · have e : x = nI 0 := (n_int (by omega)).1 d
    rw [if_pos e] at fin
    exact fin
  · have e : x = nI 1 := (n_int (by omega)).1 d
    rw [e, if_neg (fun w => n01 w.symm), if_pos rfl] at fin
    rw [li_0, nI_eq (by omega) (by omega)]
    refine ⟨fun c => ?_, fun c => ?_⟩
    · rw [(hw.2.2.2.1 c).1] at fin; exact fin
    · rw [(g.2.2.2.2.2.2 (by omega)).2.2.2.2.1]; exact fin
  · have e : x = nI 2 := (n_int (by omega)).1 d
    rw [e, if_neg (fun w => n02 w.symm), if_neg (fun w => n12 w.symm), if_pos rfl] at fin
    rw [li_0, nI_eq (by omega) (by omega), ← li_0]
    refine ⟨fun c => ?_, fun c => ?_⟩
    · have : ns (fun r => cn (aR A r) 4096) 8 = 0 := ns_0 fun r hr => cn_z fun k hk => (hw.2.2.2.1 c).2 r hr k hk
      rw [this] at fin
      exact fin
    · unfold wp_allTerms wp_allTerms_l4
      refine wl_up 8 (fun i v => v = (nI (ns (fun r => cn (aR A r) 4096) i), nI i)) 0 (by omega) rfl ?_
      rintro i v hi rfl R hR
      unfold wp_allTerms_b4
      dsimp only
      rw [li_8, nI_leI (by omega) (by omega)]
      refine ⟨fun c2 => by rw [show i = 8 by omega]; exact fin, fun c2 => sp_termsOf (by omega) (rm_tb g hw (by omega) (show i < 8 by omega)) (fun x1 e1 x2 e2 => ?_)⟩
      rw [nI_add] at e1
      subst e1 e2
      exact hR (by omega) _ (by rw [li_1, nI_add]; rfl)
  · have no : ∀ n : Nat, n ≤ 2 → ¬ x = nI n := fun n hn e => by
      rw [e, nI_toInt (by omega)] at d
      omega
    rw [if_neg (no 0 (by omega)), if_neg (no 1 (by omega)), if_neg (no 2 (by omega))] at fin
    exact fin
