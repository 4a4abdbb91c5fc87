set_option maxRecDepth 100000
theorem pnn_0 {A : AB} {s i : Nat} (h : ¬ pnz A s i) : pnn A s i = 0 := if_neg h
theorem pnn_1 {A : AB} {s i : Nat} (h : pnz A s i) : pnn A s i = 1 := if_pos h
theorem got_not {A : AB} {s i : Nat} {D : DS} (h : pgot A s i D) : ¬ pbad A s i := fun ⟨_, w⟩ => by
  rcases w with w | w
  · exact w h.2.1
  · rw [h.2.2] at w; cases w
theorem act_not {A : AB} {s i : Nat} (h : ¬ act s i) : ¬ pnz A s i ∧ ¬ pbad A s i := pz_not (Or.inl h)
theorem xc_missing {A : AB} {K : XK} {T : XT} {x : Int32} {Z Y : Nat} {post : Int32 → XT → XK → Prop} (h : rx A K T) (hw : wf A) (hZ : kc K + 700 ≤ Z) (hY : ks K + 46000 ≤ Y) (h0 : ¬ aN A 0 = 1 → pst (aS A 1 (-1)) (-1) Z Y post) (h2 : aN A 0 = 1 → ¬ (∃ s, iset x s) → pst (aS A 2 (-1)) (-1) Z Y post) (h5 : aN A 0 = 1 → ∀ s, iset x s → hzr A s → pst (aS A 5 (-1)) (-1) Z Y post)
    (h1 : aN A 0 = 1 → ∀ s, iset x s → ¬ hzr A s → ((∃ i, i < 64 ∧ pbad A s i) → pst (aS A 3 (-1)) (-1) Z Y post) ∧ ((∀ i, i < 64 → ¬ pbad A s i) → pst (aS A 0 (-1)) (nI (ns (pnn A s) 64)) Z Y post)) : wx1_missing x K T Z Y post := by
  unfold wx1_missing wx1_isSet
  refine xs_inset (fun q => ⟨rfl, xh2 h hw (fun q T' r' => b11 rfl (pst_u (h0 fun w => q ⟨w, by decide⟩) r')) (fun ht _ _ T' r' => b11 rfl (pst_u (h2 ht q) r')) (fun _ _ w => absurd rfl w)⟩) (fun s hse => ⟨rfl, xh2 h hw (fun q T' r' => b11 rfl (pst_u (h0 fun w => q ⟨w, by decide⟩) r')) (fun _ _ w => absurd w (by decide)) (fun ht _ _ T1 f1 r1 => b01 rfl ?_)⟩)
  have g5 := h5 ht s hse
  have g1 := h1 ht s hse
  obtain ⟨s1, s2, es⟩ := hse
  subst es
  refine xs_hasZero (A := aS A 0 (-1)) r1 s2 (fun hz => b01 rfl ?_) (fun hz => b11 rfl (xs_no r1 (by decide) (fun T' r' => pst_u (g5 hz) (by rw [aS_aS] at r'; exact r'))))
  obtain ⟨e3, e1⟩ := g1 hz
  have hz : ¬ hzr A s := hz
  unfold wx1_missing_l36
  refine wl_up 64 (fun i w => w.1 = nI (ns (pnn A s) i) ∧ w.2.1 = nI i ∧ rx (aS A 0 (-1)) w.2.2.2 w.2.2.1 ∧ kc w.2.2.2 ≤ kc K + 21 * npr i ∧ ks w.2.2.2 ≤ ks K + 1621 * npr i ∧ (∀ j, j < i → ¬ pbad A s j) ∧ ns (pnn A s) i ≤ i) 0 (by omega) ⟨rfl, rfl, r1, Nat.le_refl _, Nat.le_refl _, fun j hj => absurd hj (by omega), Nat.le_refl _⟩ ?_
  rintro i ⟨x2, x3, T2, K2⟩ hi ⟨hx2, hx3, r2, c2, d2, hnb, hle⟩ R hR
  dsimp only at hx2 hx3 r2 c2 d2
  subst hx2 hx3
  have np := npr_le hi
  unfold wx1_missing_b36 wx1_missing_j111
  dsimp only
  rw [li_64, nI_leI (by omega) (by omega)]
  refine ⟨fun c => ?_, fun c x4 e4 x5 e5 => ?_⟩
  · have ei : i = 64 := by omega
    subst ei
    exact pst_u (e1 hnb) r2
  rw [li_8, n_div (by omega) (by omega) (by omega)] at e4
  rw [li_8, n_rem (by omega) (by omega) (by omega)] at e5
  subst e4 e5
  have nps := npr_s i
  have next : ¬ act s i → ∀ x3, x3 = nI i + 1 → R (nI (ns (pnn A s) i), x3, T2, K2) := fun ha x3 e3 => by
    subst e3
    have e := (act_not (A := A) ha)
    have em : npr i ≤ npr (i + 1) := by rw [nps]; omega
    have en : ns (pnn A s) (i + 1) = ns (pnn A s) i := by rw [ns_s, pnn_0 e.1]; rfl
    refine hR (by omega) _ ⟨by rw [en], by rw [li_1, nI_add], r2, ?_, ?_, fun j hj => ?_, by omega⟩
    · dsimp only; omega
    · dsimp only; omega
    · by_cases z : j = i
      · rw [z]; exact e.2
      · exact hnb j (by omega)
  rw [nI_leI (by omega) (by omega), n_bit0 s2 (by omega), n_bit0 s2 (by omega)]
  refine ⟨fun d => next fun w => by have := w.1; omega, fun d => ⟨fun d1 => next fun w => d1 w.2.1, fun d1 => ⟨fun d2 => ?_, fun d2 => next fun w => d2 w.2.2⟩⟩⟩
  have ha : act s i := ⟨by omega, Classical.byContradiction d1, Classical.byContradiction d2⟩
  have np' := npr_le (show i + 1 ≤ 64 by omega)
  rw [if_pos ha.1] at nps
  refine ⟨kc K2 + 21, ks K2 + 1621, by omega, by omega, by omega, by omega, xs_leaves r2 hw ht s2 hz (by omega) ha (Nat.le_refl _) (Nat.le_refl _) (fun q T3 K3 r3 c3 s3 => ?_) (fun D q di T3 K3 L N r3 x3' c3 s3 => ?_)⟩
  · refine ⟨fun w => absurd w (by decide), fun _ => ?_⟩
    exact xs_no r3 (by decide) (fun T' r' => pst_u (e3 ⟨i, by omega, q⟩) (by rw [aS_aS] at r'; exact r'))
  · have step : ∀ v, v = pnn A s i → ∀ x2, x2 = nI (ns (pnn A s) i) + nI v → ∀ x3, x3 = nI i + 1 → R (x2, x3, T3, K3) := fun v ev x2 e2 x3 e3 => by
      subst e2 e3
      have hv1 : v ≤ 1 := by
        rw [ev]
        by_cases z : pnz A s i
        · rw [pnn_1 z]; omega
        · rw [pnn_0 z]; omega
      refine hR (by omega) _ ⟨by dsimp only; rw [ns_s, nI_add, ev], by dsimp only; rw [li_1, nI_add], r3, ?_, ?_, fun j hj => ?_, by rw [ns_s]; omega⟩
      · dsimp only; omega
      · dsimp only; omega
      · by_cases z : j = i
        · rw [z]; exact got_not q
        · exact hnb j (by omega)
    by_cases z : cn (dR D) 4096 = 0
    · rw [if_pos z]
      refine ⟨fun _ x2 e2 x3 e3 => step 0 ?_ x2 (by rw [e2, li_0]) x3 e3, fun w => absurd (by decide) w⟩
      exact (pnn_0 (pz_not (Or.inr ⟨D, q, z⟩)).1).symm
    · rw [if_neg z]
      refine ⟨fun _ x2 e2 x3 e3 => step 1 ?_ x2 (by rw [e2, li_1]) x3 e3, fun w => absurd (by decide) w⟩
      exact (pnn_1 ⟨D, q, z⟩).symm
theorem xs_free {A : AB} {K : XK} {T : XT} {s : Nat} {post : Int32 → Prop} (h : rx A K T) (s2 : s < 256) (h0 : (∀ d, d < 8 → ¬ (¬ bit s d ∧ cn (aR A d) 4096 = 0)) → post (-1)) (h1 : ∀ d, fre A s d → post (nI d)) : wx1_free (nI s) K T post := by
  obtain ⟨g, q1, q2, q3⟩ := rx_reg h
  unfold wx1_free wx1_free_l2
  refine wl_up 8 (fun i v => v = nI i ∧ ∀ e, e < i → ¬ (¬ bit s e ∧ cn (aR A e) 4096 = 0)) 0 (by omega) ⟨rfl, fun e he => absurd he (by omega)⟩ ?_
  rintro i v hi ⟨rfl, hno⟩ R hR
  unfold wx1_free_b2 wx1_free_j30
  rw [li_8, nI_leI (by omega) (by omega)]
  refine ⟨fun c => h0 fun e he => hno e (by omega), fun c => ?_⟩
  rw [n_bit0 s2 (by omega)]
  have next : ¬ (¬ bit s i ∧ cn (aR A i) 4096 = 0) → ∀ x, x = nI i + 1 → R x := fun q x e => by
    subst e
    refine hR (by omega) _ ⟨by rw [li_1, nI_add], fun e he => ?_⟩
    by_cases z : e = i
    · rw [z]; exact q
    · exact hno e (by omega)
  obtain ⟨v, v1, v2⟩ := q3 i (by omega)
  exact ⟨fun q => next fun w => q w.1, fun q => ⟨g, q1, i, by omega, rfl, v, v1, xs_isZero v2 (fun z => b01 rfl (next fun w => z w.2)) (fun z => b11 rfl (h1 i ⟨by omega, q, z, hno⟩))⟩⟩
theorem xc_complete {A : AB} {K : XK} {T : XT} {x : Int32} {Z Y : Nat} {post : Int32 → XT → XK → Prop} (h : rx A K T) (hw : wf A) (hZ : kc K + 700 ≤ Z) (hY : ks K + 46000 ≤ Y) (h0 : ¬ aN A 0 = 1 → pst (aS A 1 (-1)) (-1) Z Y post) (h2 : aN A 0 = 1 → ¬ (∃ s, iset x s) → pst (aS A 2 (-1)) (-1) Z Y post) (h5 : aN A 0 = 1 → ∀ s, iset x s → (hzr A s ∨ ¬ ∃ d, fre A s d) → pst (aS A 5 (-1)) (-1) Z Y post)
    (h1 : aN A 0 = 1 → ∀ s k, iset x s → ¬ hzr A s → fre A s k → (∀ i, i < 64 → pbad A s i → (∀ j, j < i → pzr A s j) → pst (aS A 3 (-1)) (-1) Z Y post) ∧ ((∀ i, i < 64 → pzr A s i) → pst (aS A 0 (-1)) (-2) Z Y post) ∧ ∀ i D, i < 64 → pgot A s i D → cn (dR D) 4096 ≠ 0 → dinv (aN A 1) (aOk A) (aR A) s D → (∀ j, j < i → pzr A s j) → pst (aL A k (tr (dR D))) (nI k) Z Y post) : wx1_complete x K T Z Y post := by
  unfold wx1_complete wx1_isSet
  refine xs_inset (fun q => ⟨rfl, xh2 h hw (fun q T' r' => b11 rfl (pst_u (h0 fun w => q ⟨w, by decide⟩) r')) (fun ht _ _ T' r' => b11 rfl (pst_u (h2 ht q) r')) (fun _ _ w => absurd rfl w)⟩) (fun s hse => ⟨rfl, xh2 h hw (fun q T' r' => b11 rfl (pst_u (h0 fun w => q ⟨w, by decide⟩) r')) (fun _ _ w => absurd w (by decide)) (fun ht _ _ T1 f1 r1 => b01 rfl ?_)⟩)
  have g5 := h5 ht s hse
  have g1 := fun k => h1 ht s k hse
  obtain ⟨s1, s2, es⟩ := hse
  subst es
  have bad : (hzr A s ∨ ¬ ∃ d, fre A s d) → wx1_complete_j37 (nI s) Z Y post K T1 := fun q => by
    unfold wx1_complete_j37
    exact xs_no r1 (by decide) (fun T' r' => pst_u (g5 q) (by rw [aS_aS] at r'; exact r'))
  refine xs_free (A := aS A 0 (-1)) r1 s2 (fun q => ?_) (fun k hk => ?_)
  · exact xs_hasZero (A := aS A 0 (-1)) r1 s2 (fun _ => b02 rfl ⟨fun w => absurd rfl w, fun _ => bad (Or.inr fun ⟨d, d1, d2, d3, _⟩ => q d d1 ⟨d2, d3⟩)⟩) (fun hz => b12 rfl (bad (Or.inl hz)))
  refine xs_hasZero (A := aS A 0 (-1)) r1 s2 (fun hz => b02 rfl ⟨fun _ => ?_, fun w => absurd w (n_m1 (by have := hk.1; omega))⟩) (fun hz => b12 rfl (bad (Or.inl hz)))
  obtain ⟨e3, e2, e1⟩ := g1 k hz hk
  have hz : ¬ hzr A s := hz
  have hk8 : k < 8 := hk.1
  unfold wx1_complete_l45
  refine wl_up 64 (fun i w => w.1 = nI i ∧ rx (aS A 0 (-1)) w.2.2 w.2.1 ∧ kc w.2.2 ≤ kc K + 21 * npr i ∧ ks w.2.2 ≤ ks K + 1621 * npr i ∧ ∀ j, j < i → pzr A s j) 0 (by omega) ⟨rfl, r1, Nat.le_refl _, Nat.le_refl _, fun j hj => absurd hj (by omega)⟩ ?_
  rintro i ⟨x3, T2, K2⟩ hi ⟨hx3, r2, c2, d2, hnb⟩ R hR
  dsimp only at hx3 r2 c2 d2
  subst hx3
  have np := npr_le hi
  unfold wx1_complete_b45 wx1_complete_j142
  dsimp only
  rw [li_64, nI_leI (by omega) (by omega)]
  refine ⟨fun c => pst_u (e2 fun j hj => hnb j (by omega)) r2, fun c x4 e4 x5 e5 => ?_⟩
  rw [li_8, n_div (by omega) (by omega) (by omega)] at e4
  rw [li_8, n_rem (by omega) (by omega) (by omega)] at e5
  subst e4 e5
  have nps := npr_s i
  have next : ¬ act s i → ∀ x3, x3 = nI i + 1 → R (x3, T2, K2) := fun ha x3 e3 => by
    subst e3
    have em : npr i ≤ npr (i + 1) := by rw [nps]; omega
    refine hR (by omega) _ ⟨by rw [li_1, nI_add], r2, ?_, ?_, fun j hj => ?_⟩
    · dsimp only; omega
    · dsimp only; omega
    · by_cases z : j = i
      · rw [z]; exact Or.inl ha
      · exact hnb j (by omega)
  rw [nI_leI (by omega) (by omega), n_bit0 s2 (by omega), n_bit0 s2 (by omega)]
  refine ⟨fun d => next fun w => by have := w.1; omega, fun d => ⟨fun d1 => next fun w => d1 w.2.1, fun d1 => ⟨fun d2 => ?_, fun d2 => next fun w => d2 w.2.2⟩⟩⟩
  have ha : act s i := ⟨by omega, Classical.byContradiction d1, Classical.byContradiction d2⟩
  have np' := npr_le (show i + 1 ≤ 64 by omega)
  rw [if_pos ha.1] at nps
  refine ⟨kc K2 + 21, ks K2 + 1621, by omega, by omega, by omega, by omega, xs_leaves r2 hw ht s2 hz (by omega) ha (Nat.le_refl _) (Nat.le_refl _) (fun q T3 K3 r3 c3 s3 => ?_) (fun D q di T3 K3 L N r3 x3' c3 s3 => ?_)⟩
  · refine ⟨fun w => absurd w (by decide), fun _ => ?_⟩
    exact xs_no r3 (by decide) (fun T' r' => pst_u (e3 i (by omega) q hnb) (by rw [aS_aS] at r'; exact r'))
  · by_cases z : cn (dR D) 4096 = 0
    · rw [if_pos z]
      refine ⟨fun _ => ⟨fun w => absurd rfl w, fun _ x3 e3 => ?_⟩, fun w => absurd (by decide) w⟩
      subst e3
      refine hR (by omega) _ ⟨by rw [li_1, nI_add], r3, ?_, ?_, fun j hj => ?_⟩
      · dsimp only; omega
      · dsimp only; omega
      · by_cases w : j = i
        · rw [w]; exact Or.inr ⟨D, q, z⟩
        · exact hnb j (by omega)
    · rw [if_neg z]
      have fin := e1 i D (by omega) q z di hnb
      have h60 := di.2.2.2.2.1
      refine ⟨fun _ => ⟨fun _ => ?_, fun w => absurd w (by decide)⟩, fun w => absurd (by decide) w⟩
      refine xs_rowlay (post := fun r T K => post (nI k) T K) r3 hw ht hk8 (by omega) (r3.1.1 9 (by omega)) (r3.1.1 10 (by omega)) x3'.2.2.2.2.1 di.2.1 h60 (by omega) (by omega) ⟨fun w => ?_, fun _ _ T' K' h' c' s' => fin T' K' h' c' s'⟩
      rcases w with w | w
      · exact absurd trivial w
      · rw [cn_tr] at w; omega
