set_option maxRecDepth 100000
/-! acts are laid -/
theorem ply_ne {o : Nat → Nat} {p : Nat} {K : XK} {T : XT} {v g : Nat} {f : Nat → Nat} (h : ply o p K T v f) (hg : kl K g = 8) : v ≠ g := by
  obtain ⟨va, vb, n, a, h1, h2, h3, h4, h5, h6, h7, h8, h9, h10, h11⟩ := h
  intro e
  rw [e, hg] at h9
  omega
/-- a reference is written into a cell that is no polynomial's -/
theorem ply_wr {o : Nat → Nat} {p : Nat} {K : XK} {T T' : XT} {v g : Nat} {f : Nat → Nat} (h : ply o p K T v f) (hne : v ≠ g) (hi : xi T' = xi T) (hr : ∀ k, k ≠ g → xr T' k = xr T k) : ply o p K T' v f := by
  obtain ⟨va, vb, n, a, h1, h2, h3, h4, h5, h6, h7, h8, h9, h10, h11⟩ := h
  exact ⟨va, vb, n, a, by rw [hr v hne]; exact h1, by rw [hr v hne]; exact h2, by rw [hi]; exact h3, h4, h5, h6, fun i hi' => by rw [hi]; exact h7 i hi', h8, h9, h10, h11⟩
theorem rx_G {A : AB} {K : XK} {T : XT} {g k v : Nat} {w : Nat → Nat} (h : rx A K T) (hg : xr T 0 18 = some g) (hk : k < 8) (hv : ply (aOk A) (aN A 1) K T v w) : rx (aG A k w) K (xwr T g k (some v)) := by
  obtain ⟨q1, q2, q3, q4, q5, q6, q7, q8, q9, g', ga, q10, q11, q12⟩ := h
  have eg : g' = g := by
    rw [hg] at q10
    injection q10 with q10
    exact q10.symm
  subst eg
  have hkl := q11.1
  have hgg := q11.2.1
  have hgz := q11.2.2.1
  have hz := q1.2.1
  have hr : ∀ c, c ≠ g' → xr (xwr T g' k (some v)) c = xr T c := fun c hc => (xf_wr (P := fun c => c = g') rfl c hc).2
  have hi : xi (xwr T g' k (some v)) = xi T := rfl
  refine ⟨?_, q2, q3, q4, q5, q6, q7, q8, fun ht => ?_, g', ga, by rw [hr 0 (by omega)]; exact q10, ⟨hkl, hgg, hgz, fun r hr' => ?_⟩, fun j hj => ?_, q12.2⟩
  · obtain ⟨w1, w2, w3, w4, w5, w6, w7⟩ := q1
    exact ⟨w1, w2, by rw [hr 0 (by omega)]; exact w3, fun i hi' => by rw [hr 41 (by omega), hr 58 (by omega)]; exact w4 i hi', by rw [hr 6 (by omega)]; exact w5, fun d hd => by rw [hr 7 (by omega)]; exact w6 d hd, w7⟩
  · obtain ⟨w1, w2, w3, w4, ⟨q, w5, w6, w7, w8⟩, w9⟩ := q9 ht
    exact ⟨w1, w2, w3, w4, ⟨q, by rw [hr 0 (by omega)]; exact w5, w6, w7, w8⟩, w9⟩
  · rw [xr_wr]
    show ∃ v_1, _ = some v_1 ∧ ply (aOk A) (aN A 1) K _ v_1 ((fun r => if r = k then w else aR A r) r)
    dsimp only
    by_cases e : r = k
    · rw [if_pos ⟨rfl, e⟩, if_pos e]
      exact ⟨v, rfl, ply_wr hv (ply_ne hv hkl) hi hr⟩
    · rw [if_neg (fun z => e z.2), if_neg e]
      obtain ⟨v', h1, h2⟩ := q11.2.2.2 r hr'
      exact ⟨v', h1, ply_wr h2 (ply_ne h2 hkl) hi hr⟩
  · obtain ⟨w1, w2, w3, w4, w5⟩ := q12.1 j hj
    refine ⟨by rw [hr 88 (by omega)]; exact w1, w2, w3, ⟨w4.1, w4.2.1, w4.2.2.1, fun r hr' => ?_⟩, w5⟩
    obtain ⟨v', h1, h2⟩ := w4.2.2.2 r hr'
    exact ⟨v', by rw [hr _ w3]; exact h1, ply_wr h2 (ply_ne h2 hkl) hi hr⟩
theorem xs_keeps_end {A : AB} {K : XK} {T T0 : XT} {n d Z Y : Nat} {post : XT → XK → Prop} (h : rx A K T0) (hw : wf A) (ht : aN A 0 = 1) (en : n = kN A) (ed : d = kD A) (hf : xf (fun k => k = 0 ∨ k = 88 ∨ k = 89) T0 T) (h0r : xr T 0 = xr T0 0) (h0i : ∀ j, j ≠ 22 → xi T 0 j = xi T0 0 j) (h22 : xi T 0 22 = nI n) (h88 : ∀ j, j < n → xr T 88 j = xr T0 88 (j + d)) (h89 : ∀ j, j < n → xi T 89 j = xi T0 89 (j + d)) (hZ : kc K + 1 ≤ Z) (hY : ks K + 8 ≤ Y) (hp : ∀ T' K' g, rx (aK A) K' T' → xf (fun k => k = 0 ∨ k = 88 ∨ k = 89 ∨ kz K ≤ k) T0 T' → kx K K' → kc K' = Z → ks K' = Y → xr T' 0 18 = some g → xr T0 0 18 = some g → post T' K') : wx1_keeps_j61 Z Y post K T := by
  obtain ⟨k1', k2'⟩ := kN_le ((hw.2.2.2.2 ht).2.2.2.1)
  rw [← en, ← ed] at k2'
  rw [← en] at k1'
  have hv := (hw.2.2.2.2 ht).2.1
  obtain ⟨v1, v2, v3, v4⟩ := hv
  have hx := h
  obtain ⟨q1, q2, q3, q4, q5, q6, q7, q8, q9, g, ga, q10, q11, q12⟩ := hx
  have hz := q1.2.1
  obtain ⟨w1, w2, w3, w4, w5, w6⟩ := q9 ht
  have hkl := q11.1
  have hgz := q11.2.2.1
  unfold wx1_keeps_j61
  refine ⟨g, by rw [h0r]; exact q10, hZ, by rw [hkl]; exact hY, fun K1 e1 T1 t1 => ⟨n, by omega, h22, fun T2 t2 => ?_⟩⟩
  have z1 : kz K1 = kz K + 1 := by rw [e1]; rfl
  have x1 : kx K K1 := by rw [e1]; exact kx_new _ _ _ _
  have f1 : xf (fun k => k = kz K) T T1 := by rw [t1]; exact xf_tr (xf_nil rfl) (xf_dup rfl)
  have f2 : xf (fun k => k = 88 ∨ k = kz K) T T2 := by rw [t2]; exact xf_tr (xf_mono f1 (fun k hk => Or.inr hk)) (xf_wr (Or.inl rfl))
  have i2 := (f2 0 (by omega))
  refine ⟨n, by omega, by rw [i2.1]; exact h22, fun T3 t3 T4 t4 => ?_⟩
  have h1 : xi T2 0 1 = nI (aN A 2) := by rw [i2.1, h0i 1 (by omega)]; exact w2
  have h2 : xi T2 0 2 = nI (aN A 3) := by rw [i2.1, h0i 2 (by omega)]; exact w3
  have h3 : xi T2 0 3 = nI (aN A 4) := by rw [i2.1, h0i 3 (by omega)]; exact w4
  have h223 : xi T3 0 22 = nI n := by rw [t3, xi_wi, if_neg (by omega), i2.1]; exact h22
  rw [h1, h2, h3, li_16, li_4, pk_mul, pk_mul, nI_add, nI_add] at t3
  rw [h223, li_1, nI_add] at t4
  have f4 : xf (fun k => k = 0 ∨ k = 88 ∨ k = 89 ∨ kz K ≤ k) T0 T4 := by
    rw [t4, t3]
    exact xf_tr (xf_tr (xf_tr (xf_mono hf (fun k hk => by omega)) (xf_mono f2 (fun k hk => by omega))) (xf_wi (by omega))) (xf_wi (by omega))
  have r40 : xr T4 0 = xr T0 0 := by rw [t4, t3]; show xr T2 0 = _; rw [i2.2, h0r]
  have i40 : ∀ j, j ≠ 22 → xi T4 0 j = xi T0 0 j := fun j hj => by rw [t4, xi_wi, if_neg (fun z => hj z.2), t3, xi_wi, if_neg (by omega), i2.1, h0i j hj]
  have r488 : ∀ j, xr T4 88 j = if j = n then some (kz K) else xr T 88 j := fun j => by
    rw [t4, t3]
    show xr T2 88 j = _
    rw [t2, xr_wr]
    by_cases e : j = n
    · rw [if_pos ⟨rfl, e⟩, if_pos e]
    · rw [if_neg (fun z => e z.2), if_neg e, (f1 88 (by omega)).2]
  have i489 : ∀ j, xi T4 89 j = if j = n then nI (16 * aN A 2 + 4 * aN A 3 + aN A 4) else xi T 89 j := fun j => by
    rw [t4, xi_wi, if_neg (by omega), t3, xi_wi]
    by_cases e : j = n
    · rw [if_pos ⟨rfl, e⟩, if_pos e]
    · rw [if_neg (fun z => e z.2), if_neg e, (f2 89 (by omega)).1]
  have rz : ∀ j, xr T4 (kz K) j = xr T0 g j := fun j => by
    rw [t4, t3]
    show xr T2 (kz K) j = _
    rw [t2, xr_wr, if_neg (by omega), t1, xr_dup, if_pos rfl, xr_nil, if_neg (by omega), (hf g (by have := q11.2.1; omega)).2]
  have hP : ∀ k, 90 ≤ k → k < kz K → ¬ (k = 0 ∨ k = 88 ∨ k = 89 ∨ kz K ≤ k) := fun k a b => by omega
  have h87 : ¬ (87 = 0 ∨ 87 = 88 ∨ 87 = 89 ∨ kz K ≤ 87) := by omega
  have x5 : kx K (kset K1 Z Y) := kx_tr x1 (kx_set _ _ _)
  have kl5 : kl (kset K1 Z Y) (kz K) = 8 := by rw [kl_set, e1, kl_new, if_pos rfl]; exact hkl
  refine hp T4 (kset K1 Z Y) g ⟨?_, ?_, ?_, ?_, ?_, ?_, ?_, fun j hj => ?_, fun _ => ?_, g, fun j => if j = n then kz K else ga (j + d), ?_, ?_, fun j hj => ?_, fun i j hij hj => ?_⟩ f4 x5 rfl rfl (by rw [r40]; exact q10) q10
  · obtain ⟨y1, y2, y3, y4, y5, y6, y7⟩ := q1
    refine ⟨fun k hk => by rw [x5.2 k (by omega)]; exact y1 k hk, Nat.le_trans y2 x5.1, by rw [r40]; exact y3, fun i hi => by rw [(f4 41 (by omega)).2, (f4 58 (by omega)).2]; exact y4 i hi, by rw [(f4 6 (by omega)).2]; exact y5, fun d hd => by rw [(f4 7 (by omega)).2]; exact y6 d hd, by rw [(f4 78 (by omega)).1]; exact y7⟩
  · rw [i40 23 (by omega)]; exact q2
  · rw [i40 24 (by omega)]; exact q3
  · intro z; rw [i40 25 (by omega)]; exact q4 z
  · rw [i40 21 (by omega)]; exact q5
  · rw [i40 16 (by omega)]; exact q6
  · show xi T4 0 22 = nI (kN A + 1)
    rw [t4, xi_wi, if_pos ⟨rfl, rfl⟩, en]
  · rw [(f4 79 (by omega)).1]; exact q8 j hj
  · obtain ⟨q, w5a, w5b, w5c, w5d⟩ := w5
    refine ⟨by rw [i40 0 (by omega)]; exact w1, by rw [i40 1 (by omega)]; exact w2, by rw [i40 2 (by omega)]; exact w3, by rw [i40 3 (by omega)]; exact w4, ⟨q, by rw [r40]; exact w5a, ?_, w5c, Nat.lt_of_lt_of_le w5d x5.1⟩, fun a ha1 ha2 => by rw [(f4 1 (by omega)).1]; exact w6 a ha1 ha2⟩
    unfold orn at w5b ⊢
    rw [x5.2 q w5d, (f4 q (by omega)).1]
    exact w5b
  · rw [r40]; exact q10
  · exact rgs_keep q11 f4 x5 hP h87
  · have hj : j < kN A + 1 := hj
    rw [← en] at hj
    show xr T4 88 j = some (if j = n then kz K else ga (j + d)) ∧ 90 ≤ (if j = n then kz K else ga (j + d)) ∧ (if j = n then kz K else ga (j + d)) ≠ g ∧ rgs (ok (if j = kN A then aN A 2 else aO A (j + kD A) 0) (if j = kN A then aN A 3 else aO A (j + kD A) 1) (if j = kN A then aN A 4 else aO A (j + kD A) 2)) (aN A 1) (kset K1 Z Y) T4 (if j = n then kz K else ga (j + d)) (if j = kN A then aR A else aP A (j + kD A)) ∧ xi T4 89 j = nI (16 * (if j = kN A then aN A 2 else aO A (j + kD A) 0) + 4 * (if j = kN A then aN A 3 else aO A (j + kD A) 1) + (if j = kN A then aN A 4 else aO A (j + kD A) 2))
    rw [r488, i489, ← en, ← ed]
    by_cases e : j = n
    · rw [if_pos e, if_pos e, if_pos e, if_pos e, if_pos e, if_pos e, if_pos e]
      refine ⟨rfl, hz, by omega, ⟨kl5, Or.inr hz, by rw [kz_set]; omega, fun r hr => ?_⟩, rfl⟩
      obtain ⟨v, y1, y2⟩ := q11.2.2.2 r hr
      exact ⟨v, by rw [rz]; exact y1, ply_keep y2 f4 x5 hP⟩
    · rw [if_neg e, if_neg e, if_neg e, if_neg e, if_neg e, if_neg e, if_neg e]
      obtain ⟨y1, y2, y3, y4, y5⟩ := q12.1 (j + d) (by omega)
      exact ⟨by rw [h88 j (by omega)]; exact y1, y2, y3, rgs_keep y4 f4 x5 hP h87, by rw [h89 j (by omega)]; exact y5⟩
  · have hj : j < kN A + 1 := hj
    rw [← en] at hj
    dsimp only
    rw [if_neg (show i ≠ n by omega)]
    by_cases e : j = n
    · rw [if_pos e]
      obtain ⟨y1, y2, y3, y4, y5⟩ := q12.1 (i + d) (by omega)
      have := y4.2.2.1
      omega
    · rw [if_neg e]
      exact q12.2 (i + d) (j + d) (by omega) (by omega)
theorem xs_keeps {A : AB} {K : XK} {T : XT} {Z Y : Nat} {post : XT → XK → Prop} (h : rx A K T) (hw : wf A) (ht : aN A 0 = 1) (hZ : kc K + 1 ≤ Z) (hY : ks K + 8 ≤ Y) (hp : ∀ T' K' g, rx (aK A) K' T' → xf (fun k => k = 0 ∨ k = 88 ∨ k = 89 ∨ kz K ≤ k) T T' → kx K K' → kc K' = Z → ks K' = Y → xr T' 0 18 = some g → xr T 0 18 = some g → post T' K') : wx1_keeps K T Z Y post := by
  have h8 := (hw.2.2.2.2 ht).2.2.2.1
  have q7 := h.2.2.2.2.2.2.1
  unfold wx1_keeps
  rw [q7, li_8, nI_eq (by omega) (by omega)]
  refine ⟨fun c => xs_keeps_end h hw ht (n := aN A 5) (d := 0) (by unfold kN; rw [if_neg c]) (by unfold kD; rw [if_neg c]) (xf_rfl _ _) rfl (fun _ _ => rfl) q7 (fun _ _ => rfl) (fun _ _ => rfl) hZ hY hp, fun c => ?_⟩
  have hx := h
  obtain ⟨_, _, _, _, _, _, _, _, _, g, ga, q10, q11, q12⟩ := hx
  unfold wx1_keeps_l11
  refine wl_up 8 (fun i w => w.1 = nI i ∧ 1 ≤ i ∧ xf (fun k => k = 0 ∨ k = 88 ∨ k = 89) T w.2 ∧ xr w.2 0 = xr T 0 ∧ xi w.2 0 = xi T 0 ∧ (∀ j, j < i - 1 → xr w.2 88 j = xr T 88 (j + 1) ∧ xi w.2 89 j = xi T 89 (j + 1)) ∧ ∀ j, i - 1 ≤ j → xr w.2 88 j = xr T 88 j ∧ xi w.2 89 j = xi T 89 j) 1 (by omega) ⟨rfl, by omega, xf_rfl _ _, rfl, rfl, fun j hj => absurd hj (by omega), fun _ _ => ⟨rfl, rfl⟩⟩ ?_
  rintro i ⟨x1, T1⟩ hi ⟨hx1, hi1, f1, r1, i1, l1, o1⟩ R hR
  dsimp only at hx1 f1 r1 i1 l1 o1
  subst hx1
  unfold wx1_keeps_b11
  dsimp only
  rw [li_8, nI_leI (by omega) (by omega)]
  refine ⟨fun c2 T2 e2 => ?_, fun c2 => ?_⟩
  · have e22 : xi T1 0 22 = nI 8 := by rw [i1, q7, c]
    rw [e22, li_1, pk_sub (by omega)] at e2
    refine xs_keeps_end h hw ht (n := 7) (d := 1) (by unfold kN; rw [if_pos c]) (by unfold kD; rw [if_pos c]) (by rw [e2]; exact xf_tr f1 (xf_wi (Or.inl rfl))) (by rw [e2]; exact r1) (fun j hj => by rw [e2, xi_wi, if_neg (fun z => hj z.2), i1]) (by rw [e2, xi_wi, if_pos ⟨rfl, rfl⟩]) (fun j hj => ?_) (fun j hj => ?_) hZ hY hp
    · rw [e2]; exact (l1 j (by omega)).1
    · rw [e2, xi_wi, if_neg (by omega)]; exact (l1 j (by omega)).2
  · obtain ⟨y1, _⟩ := q12.1 i (by omega)
    have hm1 : nI i - 1 = nI (i - 1) := by rw [li_1, pk_sub (by omega)]
    refine ⟨i, by omega, rfl, ga i, by rw [(o1 i (by omega)).1]; exact y1, i - 1, by omega, hm1, fun T2 e2 => ⟨i, by omega, rfl, i - 1, by omega, hm1, fun T3 e3 x1 ex1 => ?_⟩⟩
    subst ex1
    have r3' : ∀ j, xr T3 88 j = if j = i - 1 then xr T 88 i else xr T1 88 j := fun j => by
      rw [e3]
      show xr T2 88 j = _
      rw [e2, xr_wr]
      by_cases e : j = i - 1
      · rw [if_pos ⟨rfl, e⟩, if_pos e, y1]
      · rw [if_neg (fun z => e z.2), if_neg e]
    have i3' : ∀ j, xi T3 89 j = if j = i - 1 then xi T 89 i else xi T1 89 j := fun j => by
      rw [e3, xi_wi]
      have e5 : ∀ j, xi T2 89 j = xi T1 89 j := fun j => by rw [e2]; rfl
      by_cases e : j = i - 1
      · rw [if_pos ⟨rfl, e⟩, if_pos e, e5, (o1 i (by omega)).2]
      · rw [if_neg (fun z => e z.2), if_neg e, e5]
    refine hR (by omega) _ ⟨by rw [li_1, nI_add], by omega, ?_, ?_, ?_, fun j hj => ?_, fun j hj => ?_⟩
    · show xf _ T T3
      rw [e3, e2]
      exact xf_tr (xf_tr f1 (xf_wr (Or.inr (Or.inl rfl)))) (xf_wi (Or.inr (Or.inr rfl)))
    · show xr T3 0 = _
      rw [e3]
      show xr T2 0 = _
      rw [e2, (xf_wr (P := fun k => k = 88) rfl 0 (by omega)).2]; exact r1
    · show xi T3 0 = _
      rw [e3, (xf_wi (P := fun k => k = 89) rfl 0 (by omega)).1, e2]; exact i1
    · show xr T3 88 j = _ ∧ xi T3 89 j = _
      rw [r3', i3']
      by_cases e : j = i - 1
      · rw [if_pos e, if_pos e, e, show i - 1 + 1 = i by omega]; exact ⟨rfl, rfl⟩
      · rw [if_neg e, if_neg e]; exact l1 j (by omega)
    · show xr T3 88 j = _ ∧ xi T3 89 j = _
      rw [r3', i3', if_neg (by omega), if_neg (by omega)]; exact o1 j (by omega)
