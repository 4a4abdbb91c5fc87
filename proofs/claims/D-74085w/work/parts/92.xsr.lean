set_option maxRecDepth 100000
/-! a table is made a sorted row -/
theorem n_dec {j : Nat} (h : 0 < j) : nI j + (-1) = nI (j - 1) := by
  rw [z_m1, z_nI, z_nI, z_add, show (j : Int) + -1 = ((j - 1 : Nat) : Int) by omega]
/-- a term is put into a sorted row -/
theorem xs_ins {h a' b' p1 Z Y E C N m q : Nat} {x2 : Int32} {K : XK} {T : XT} {e : Nat → Nat} {post : Nat → XT → XK → Prop} {R : Int32 → Int32 → XT → Prop} (vd : vo h a' b') (hq : xr T 0 4 = some q) (ho : orn K T q h a' b') (hE0 : E ≠ 0) (hEq : E ≠ q) (hNl : N < kl K E) (hN : N < 4096) (hm : m < 4096) (he : ∀ l, l < N → e l < m ∧ xi T E l = nI (e l)) (hs : ∀ l l', l < l' → l' < N → ok h a' b' (e l') < ok h a' b' (e l))
    (hR : ∀ T' j, j ≤ N → xf (fun k => k = E) T T' → (∀ l, l < j → ok h a' b' m < ok h a' b' (e l)) → (∀ l, j ≤ l → l < N → ok h a' b' (e l) < ok h a' b' m) → (∀ l, l ≤ N → xi T' E l = nI (if l < j then e l else if l = j then m else e (l - 1))) → R (nI (N + 1)) (nI (m + 1)) T') : wx1_sorted_l79 p1 Z Y post R x2 E C (nI N) (nI m) (nI N) K T := by
  unfold wx1_sorted_l79
  refine wl_n (fun j w => w.1 = nI j ∧ j ≤ N ∧ xf (fun k => k = E) T w.2 ∧ (∀ l, l < j → xi w.2 E l = nI (e l)) ∧ (∀ l, j < l → l ≤ N → xi w.2 E l = nI (e (l - 1))) ∧ ∀ l, j ≤ l → l < N → ok h a' b' (e l) < ok h a' b' m) N ⟨rfl, Nat.le_refl _, xf_rfl _ _, fun l hl => (he l hl).2, fun l a b => absurd b (by omega), fun l a b => absurd b (by omega)⟩ ?_
  rintro j ⟨x7, T1⟩ ⟨hx, hj, f1, l1, u1, o1⟩ R' hR'
  dsimp only at hx f1 l1 u1
  subst hx
  have fin : (∀ l, l < j → ok h a' b' m < ok h a' b' (e l)) → wx1_sorted_j129 p1 Z Y post R x2 E C (nI N) (nI m) (nI j) K T1 := fun hlow => by
    unfold wx1_sorted_j129 wx1_sorted_j138
    refine ⟨j, by omega, rfl, fun T2 e2 x5 e5 x6 e6 => ?_⟩
    rw [e5, e6, li_1, nI_add, nI_add]
    refine hR T2 j hj (by rw [e2]; exact xf_tr f1 (xf_wi rfl)) hlow o1 (fun l hl => ?_)
    rw [e2, xi_wi]
    by_cases c : l = j
    · rw [if_pos ⟨rfl, c⟩, if_neg (by omega), if_pos c]
    · rw [if_neg (fun z => c z.2)]
      by_cases c2 : l < j
      · rw [if_pos c2]; exact l1 l c2
      · rw [if_neg c2, if_neg c]; exact u1 l (by omega) hl
  unfold wx1_sorted_b79
  dsimp only
  rw [li_0, nI_leI (by omega) (by omega)]
  refine ⟨fun c => fin (fun l hl => absurd hl (by omega)), fun c => ?_⟩
  have hdec : nI j - 1 = nI (j - 1) := by rw [li_1, pk_sub (by omega)]
  have hq1 : xr T1 0 4 = some q := by rw [(f1 0 (fun z => hE0 z.symm)).2]; exact hq
  have ho1 : orn K T1 q h a' b' := by
    unfold orn at ho ⊢
    rw [(f1 q (fun z => hEq z.symm)).1]
    exact ho
  have hel := (he (j - 1) (by omega)).1
  refine ⟨q, hq1, j - 1, by omega, hdec, ?_⟩
  rw [l1 (j - 1) (by omega)]
  refine xs_key vd ho1 (by omega) ⟨q, hq1, xs_key vd ho1 (by omega) ?_⟩
  have b1 := ok_lt vd m
  have b2 := ok_lt vd (e (j - 1))
  rw [nI_leI (by omega) (by omega)]
  have hne : ok h a' b' m ≠ ok h a' b' (e (j - 1)) := fun z => by
    have := ok_inj vd hm (by omega) z
    omega
  refine ⟨fun c2 => fin (fun l hl => ?_), fun c2 => ⟨j - 1, by omega, hdec, j, by omega, rfl, fun T2 e2 x7 e7 => ?_⟩⟩
  · by_cases c3 : l = j - 1
    · rw [c3]; omega
    · have := hs l (j - 1) (by omega) (by omega)
      omega
  · rw [e7, n_dec (by omega)]
    rw [l1 (j - 1) (by omega)] at e2
    refine hR' (j - 1) _ (by omega) ⟨rfl, by omega, by show xf _ T T2; rw [e2]; exact xf_tr f1 (xf_wi rfl), fun l hl => ?_, fun l hl1 hl2 => ?_, fun l hl1 hl2 => ?_⟩
    · show xi T2 E l = _
      rw [e2, xi_wi, if_neg (by omega)]
      exact l1 l (by omega)
    · show xi T2 E l = _
      rw [e2, xi_wi]
      by_cases c3 : l = j
      · rw [if_pos ⟨rfl, c3⟩, c3]
      · rw [if_neg (fun z => c3 z.2)]
        exact u1 l (by omega) hl2
    · by_cases c3 : l = j - 1
      · rw [c3]; omega
      · exact o1 l (by omega) hl2
theorem xs_sorted {h a' b' p p1 Z Y q : Nat} {K : XK} {T : XT} {f : Nat → Nat} {post : Nat → XT → XK → Prop} (vd : vo h a' b') (hp97 : p ≤ 97) (hq : xr T 0 4 = some q) (ho : orn K T q h a' b') (hqz : q < kz K) (hz : 90 ≤ kz K) (hp1 : p1 < kz K) (hl : kl K p1 = 4096) (hv : ∀ k, k < 4096 → xi T p1 k = nI (f k)) (hfp : ∀ k, k < 4096 → f k < p) (hZ : kc K + 3 ≤ Z) (hY : ks K + 3 + 2 * cn f 4096 ≤ Y)
    (hp : ∀ T' K', xf (fun k => kz K ≤ k) T T' → kx K K' → kz K' = kz K + 3 → kc K' = Z → ks K' = Y → ply (ok h a' b') p K' T' (kz K + 2) f → post (kz K + 2) T' K') : wx1_sorted p1 K T Z Y post := by
  have hcn := cn_le f 4096
  unfold wx1_sorted
  intro x4 e4
  rw [hl] at e4
  subst e4
  unfold wx1_sorted_l11
  refine wl_up 4096 (fun i w => w.1 = nI (cn f i) ∧ w.2 = nI i) 0 (by omega) ⟨rfl, rfl⟩ ?_
  rintro i ⟨x2, x5⟩ hi ⟨hx2, hx5⟩ R hR
  dsimp only at hx2 hx5
  subst hx2 hx5
  unfold wx1_sorted_b11 wx1_sorted_j37
  dsimp only
  rw [nI_leI (by omega) (by omega)]
  refine ⟨fun c => ?_, fun c => ⟨i, by omega, rfl, fun c2 x2 e2 x5 e5 => ?_, fun c2 x2 e2 x5 e5 => ?_⟩⟩
  rotate_left
  · have hlt := hfp i (by omega)
    rw [hv i (by omega), li_0, nI_eq (by omega) (by omega)] at c2
    rw [e2, e5, li_1, nI_add, nI_add]
    exact hR (by omega) _ ⟨by rw [cn_s, if_neg c2], rfl⟩
  · have hlt := hfp i (by omega)
    rw [hv i (by omega), li_0, nI_eq (by omega) (by omega)] at c2
    rw [e2, e5, li_1, li_0, nI_add, nI_add]
    exact hR (by omega) _ ⟨by rw [cn_s, if_pos c2], rfl⟩
  have ei : i = 4096 := by omega
  subst ei
  refine ⟨cn f 4096, by omega, rfl, by omega, by omega, fun K1 e1 T1 t1 => ⟨cn f 4096, by omega, rfl, by rw [e1, kc_new]; omega, by rw [e1, ks_new]; omega, fun K2 e2 T2 t2 => ?_⟩⟩
  have z1 : kz K1 = kz K + 1 := by rw [e1]; rfl
  have z2 : kz K2 = kz K + 2 := by rw [e2, kz_new, z1]
  have c2 : kc K2 = kc K + 2 := by rw [e2, e1]; rfl
  have s2 : ks K2 = ks K + cn f 4096 + cn f 4096 := by rw [e2, e1]; rfl
  have x2 : kx K K2 := by rw [e2, e1]; exact kx_tr (kx_new _ _ _ _) (kx_new _ _ _ _)
  have lE : kl K2 (kz K) = cn f 4096 := by rw [e2, kl_new, if_neg (by omega), e1, kl_new, if_pos rfl]
  have lC : kl K2 (kz K + 1) = cn f 4096 := by rw [e2, z1.symm, kl_new, if_pos rfl]
  have f2 : xf (fun k => kz K ≤ k) T T2 := by rw [t2, t1]; exact xf_tr (xf_nil (Nat.le_refl _)) (xf_nil (by omega))
  have l1' : kl K2 p1 = 4096 := by rw [x2.2 _ hp1]; exact hl
  rw [z1]
  unfold wx1_sorted_l58
  refine wl_up 4096 (fun m w => w.1 = nI (cn f m) ∧ w.2.1 = nI m ∧ xf (fun k => k = kz K) T2 w.2.2 ∧ ∃ e : Nat → Nat, (∀ l, l < cn f m → e l < m ∧ f (e l) ≠ 0 ∧ xi w.2.2 (kz K) l = nI (e l)) ∧ (∀ l l', l < l' → l' < cn f m → ok h a' b' (e l') < ok h a' b' (e l)) ∧ ∀ k, k < m → f k ≠ 0 → ∃ l, l < cn f m ∧ e l = k) 0 (by omega) ⟨rfl, rfl, xf_rfl _ _, fun l => l, fun l hl => absurd hl (Nat.not_lt_zero _), fun l l' _ hl => absurd hl (Nat.not_lt_zero _), fun k hk => absurd hk (Nat.not_lt_zero _)⟩ ?_
  rintro m ⟨x5, x6, T3⟩ hm ⟨hx5, hx6, f3, e, g1, g2, g3⟩ R hR
  dsimp only at hx5 hx6 f3 g1
  subst hx5 hx6
  have f3' : xf (fun k => kz K ≤ k) T T3 := xf_tr f2 (xf_mono f3 (fun k hk => by omega))
  have v3 : ∀ k, k < 4096 → xi T3 p1 k = nI (f k) := fun k hk => by rw [(f3' p1 (by omega)).1]; exact hv k hk
  unfold wx1_sorted_b58
  dsimp only
  rw [l1', nI_leI (by omega) (by omega)]
  refine ⟨fun c => ?_, fun c => ⟨m, by omega, rfl, fun c3 => ?_, fun c3 => ?_⟩⟩
  · have em : m = 4096 := by omega
    subst em
    unfold wx1_sorted_l147
    refine wl_up (cn f 4096) (fun i w => w.1 = nI i ∧ xf (fun k => k = kz K + 1) T3 w.2 ∧ ∀ l, l < i → xi w.2 (kz K + 1) l = nI (f (e l))) 0 (by omega) ⟨rfl, xf_rfl _ _, fun l hl => absurd hl (by omega)⟩ ?_
    rintro i ⟨x6, T4⟩ hi ⟨hx6, f4, g4⟩ R hR
    dsimp only at hx6 f4 g4
    subst hx6
    have f4' : xf (fun k => kz K ≤ k) T T4 := xf_tr f3' (xf_mono f4 (fun k hk => by omega))
    have iE : xi T4 (kz K) = xi T3 (kz K) := (f4 (kz K) (by omega)).1
    unfold wx1_sorted_b147 wx6_init_2
    dsimp only
    rw [nI_leI (by omega) (by omega)]
    refine ⟨fun c4 => ⟨by omega, by omega, fun K3 e3 T5 e5 T6 e6 T7 e7 T8 e8 => ?_⟩, fun c4 => ⟨i, by omega, rfl, e i, ?_, by rw [iE]; exact (g1 i (by omega)).2.2, i, by omega, rfl, fun T5 e5 x6 e6 => ?_⟩⟩
    · rw [z2] at e5 e6 e7 e8 ⊢
      have i8 : ∀ k j, k ≠ kz K + 2 → xi T8 k j = xi T4 k j := fun k j hk => by rw [e8, xi_wr, e7, xi_wr, e6, xi_wi, if_neg (fun z => hk z.1), e5, xi_nil, if_neg hk]
      have f8 : xf (fun k => kz K ≤ k) T T8 := by
        rw [e8, e7, e6, e5]
        exact xf_tr (xf_tr (xf_tr (xf_tr f4' (xf_nil (by omega))) (xf_wi (by omega))) (xf_wr (by omega))) (xf_wr (by omega))
      have x3 : kx K2 K3 := by rw [e3]; exact kx_new _ _ _ _
      have z3 : kz K3 = kz K + 3 := by rw [e3, kz_new, z2]
      refine hp T8 (kset K3 Z Y) f8 (kx_tr (kx_tr x2 x3) (kx_set _ _ _)) (by rw [kz_set]; exact z3) rfl rfl ⟨kz K, kz K + 1, cn f 4096, e, ?_, ?_, ?_, ?_, ?_, ⟨fun l hl => ⟨(g1 l hl).1, (g1 l hl).2.1⟩, g2, g3⟩, fun l hl => ?_, hfp, ?_, ?_, ?_⟩
      · rw [e8, xr_wr, if_neg (by omega), e7, xr_wr, if_pos ⟨rfl, rfl⟩]
      · rw [e8, xr_wr, if_pos ⟨rfl, rfl⟩]
      · rw [e8, xi_wr, e7, xi_wr, e6, xi_wi, if_pos ⟨rfl, rfl⟩]
      · rw [kl_set, x3.2 _ (by omega), lE]; exact Nat.le_refl _
      · rw [kl_set, x3.2 _ (by omega), lC]; exact Nat.le_refl _
      · rw [i8 _ _ (by omega), i8 _ _ (by omega), iE]
        exact ⟨(g1 l hl).2.2, g4 l (by omega)⟩
      · refine ⟨by omega, by rw [kz_set]; omega, ?_⟩
        rw [kl_set, e3, kl_new, if_pos z2.symm]
      · rw [kz_set]; omega
      · rw [kz_set]; omega
    · rw [l1']; exact (g1 i (by omega)).1
    · have e4 := (g1 i (by omega)).1
      rw [(f4' p1 (by omega)).1, hv _ e4] at e5
      rw [e6, li_1, nI_add]
      refine hR (by omega) _ ⟨rfl, by show xf _ T3 T5; rw [e5]; exact xf_tr f4 (xf_wi rfl), fun l hl => ?_⟩
      show xi T5 _ l = _
      rw [e5, xi_wi]
      by_cases c5 : l = i
      · rw [if_pos ⟨rfl, c5⟩, c5]
      · rw [if_neg (fun z => c5 z.2)]; exact g4 l (by omega)
  · have hlt := hfp m (by omega)
    rw [v3 m (by omega), li_0, nI_eq (by omega) (by omega)] at c3
    have hNm : cn f m ≤ m := cn_le f m
    have hN1 : cn f m + 1 = cn f (m + 1) := by rw [cn_s, if_neg c3]
    have hN2 : cn f (m + 1) ≤ cn f 4096 := cn_mono f (by omega)
    have q3 : xr T3 0 4 = some q := by rw [(f3' 0 (by omega)).2]; exact hq
    have o3 : orn K2 T3 q h a' b' := by
      unfold orn at ho ⊢
      rw [x2.2 q hqz, (f3' q (by omega)).1]
      exact ho
    refine xs_ins vd q3 o3 (by omega) (by omega) (by omega) (by omega) (by omega) (fun l hl => ⟨(g1 l hl).1, (g1 l hl).2.2⟩) g2 (fun T4 j hj f4 w1 w2 w3 => ?_)
    rw [hN1]
    refine hR (by omega) _ ⟨rfl, rfl, xf_tr f3 f4, fun l => if l < j then e l else if l = j then m else e (l - 1), fun l hl => ?_, fun l l' hl hl' => ?_, fun k hk hk0 => ?_⟩
    · refine ⟨?_, ?_, w3 l (by omega)⟩
      · dsimp only
        by_cases d1 : l < j
        · rw [if_pos d1]; have := (g1 l (by omega)).1; omega
        · by_cases d2 : l = j
          · rw [if_neg d1, if_pos d2]; omega
          · rw [if_neg d1, if_neg d2]; have := (g1 (l - 1) (by omega)).1; omega
      · dsimp only
        by_cases d1 : l < j
        · rw [if_pos d1]; exact (g1 l (by omega)).2.1
        · by_cases d2 : l = j
          · rw [if_neg d1, if_pos d2]; exact c3
          · rw [if_neg d1, if_neg d2]; exact (g1 (l - 1) (by omega)).2.1
    · dsimp only
      by_cases d1 : l' < j
      · rw [if_pos d1, if_pos (show l < j by omega)]; exact g2 l l' hl (by omega)
      · by_cases d2 : l' = j
        · rw [if_neg d1, if_pos d2, if_pos (show l < j by omega)]; exact w1 l (by omega)
        · rw [if_neg d1, if_neg d2]
          by_cases d3 : l < j
          · rw [if_pos d3]; exact g2 l (l' - 1) (by omega) (by omega)
          · by_cases d4 : l = j
            · rw [if_neg d3, if_pos d4]; exact w2 (l' - 1) (by omega) (by omega)
            · rw [if_neg d3, if_neg d4]; exact g2 (l - 1) (l' - 1) (by omega) (by omega)
    · by_cases d : k = m
      · exact ⟨j, by omega, by dsimp only; rw [if_neg (Nat.lt_irrefl _), if_pos rfl, d]⟩
      · obtain ⟨l, hl, el⟩ := g3 k (by omega) hk0
        by_cases d1 : l < j
        · exact ⟨l, by omega, by dsimp only; rw [if_pos d1]; exact el⟩
        · exact ⟨l + 1, by omega, by dsimp only; rw [if_neg (by omega), if_neg (by omega)]; exact el⟩
  · have hlt := hfp m (by omega)
    rw [v3 m (by omega), li_0, nI_eq (by omega) (by omega)] at c3
    have hN1 : cn f (m + 1) = cn f m := by rw [cn_s, if_pos c3, Nat.add_zero]
    unfold wx1_sorted_j138
    intro x6 e6
    rw [e6, li_1, nI_add]
    refine hR (by omega) _ ⟨by rw [hN1], rfl, f3, e, fun l hl => ?_, fun l l' hl hl' => ?_, fun k hk hk0 => ?_⟩
    · rw [hN1] at hl
      have := g1 l hl
      exact ⟨by omega, this.2⟩
    · rw [hN1] at hl'
      exact g2 l l' hl hl'
    · rw [hN1]
      exact g3 k (by
        by_cases d : k = m
        · rw [d] at hk0; exact absurd c3 hk0
        · omega) hk0
