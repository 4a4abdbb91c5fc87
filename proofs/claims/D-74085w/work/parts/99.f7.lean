set_option maxRecDepth 100000
/-! TermDesk's text: a polynomial's line -/
theorem xs_poly71 {c : Nat → Nat} {n z Z Y : Nat} {K0 K : XK} {T0 T : XT} {t : Tk} {ps : PS} {post xpost : XT → XK → Prop} (hc : cds c n) (hb : xb c n z K0 T0 K T) (hx : xcu c n z K T t) (hps : xps T ps) (hp : 0 < ps.1) (h6 : ps.2.2.2.2.1 < 6) (hen : xen ps.1 T ps.2.2.2.2.1 (ps.2.2.2.2.2 ps.2.2.2.2.1) 1) (hZ : kc K + 176 ≤ Z) (hY : ks K + 792 ≤ Y)
    (hi : ∀ e p, (pPl c n 12 1 ps (.inr t)).1 = .inl (e, p) → ∀ T' K', ff z T0 T' → kx K0 K' → kc K' = Z → ks K' = Y → xi T' 81 0 = nI e → xi T' 81 1 = nI p → xpost T' K')
    (hr : ∀ t', (pPl c n 12 1 ps (.inr t)).1 = .inr t' → ∀ T' K', xb c n z K0 T0 K' T' → kc K' = Z → ks K' = Y → xcu c n z K' T' t' → xps T' (pPl c n 12 1 ps (.inr t)).2 → post T' K') : wx4_polyLine_l71 Z Y post xpost K T := by
  have h90 := hb.2.2.1
  generalize hg : pPl c n 12 1 ps (.inr t) = G at hi hr
  unfold wx4_polyLine_l71
  refine wl_n (fun m (v : XT × XK) => ∃ k ps' ty, m + k = 13 ∧ 1 ≤ k ∧ k ≤ 12 ∧ xb c n z K0 T0 v.2 v.1 ∧ xcu c n z v.2 v.1 ty ∧ xps v.1 ps' ∧ 0 < ps'.1 ∧ ps'.2.2.2.2.1 < 6 ∧ xen ps'.1 v.1 ps'.2.2.2.2.1 (ps'.2.2.2.2.2 ps'.2.2.2.2.1) k ∧ pPl c n m k ps' (.inr ty) = G ∧ kc v.2 + 16 * (12 - k) ≤ Z ∧ ks v.2 + 72 * (12 - k) ≤ Y) 12 ⟨1, ps, t, rfl, by omega, by omega, hb, hx, hps, hp, h6, hen, hg, by show kc K + 16 * (12 - 1) ≤ Z; omega, by show ks K + 72 * (12 - 1) ≤ Y; omega⟩ ?_
  rintro m ⟨T1, K1⟩ ⟨k, ps', ty, hm, hk1, hk2, b1, y1, hps1, hp1, h61, en1, hz, c1, s1⟩ R hR
  dsimp only at b1 y1 hps1 en1 c1 s1 ⊢
  obtain ⟨f, rfl⟩ : ∃ f, m = f + 1 := ⟨m - 1, by omega⟩
  rw [pPl_s] at hz
  have k7 := y1.2.2.2.2.2.1
  have g13 := hps1.2.2.1
  unfold wx4_polyLine_b71
  rw [y1.2.1, li_t5, li_t6, tkc_e k7 (by omega), tkc_e k7 (by omega)]
  have go : (ty.1 = 5 ∨ ty.1 = 6) → wx4_polyLine_j89 Z Y post xpost (fun T K => R (T, K)) K1 T1 := fun w => by
    rw [if_pos w] at hz
    unfold wx4_polyLine_j89
    refine ⟨_, h61, g13, ?_⟩
    rw [en1.1, li_12, nI_leI (by omega) (by omega)]
    refine ⟨fun q => ?_, fun q => xs_good1 ?_⟩
    · rw [if_pos (by omega)] at hz
      refine xs_good0 li_5 y1.2.2.1 (fun T2 hb2 => hi 5 ty.2.1 ?_ T2 _ (xb_bad b1 hb2) (kx_tr b1.2.2.2.2.2 (kx_set _ _ _)) rfl rfl hb2.2.1 hb2.2.2)
      rw [← hz]; rfl
    · rw [if_neg (by omega)] at hz
      unfold wx4_polyLine_j113
      have j128 : ∀ x1 : Int32, x1 = (if decide (ty.1 = 6) = true then 1 else 0) → wx4_polyLine_j128 Z Y post xpost (fun T K => R (T, K)) x1 K1 T1 := fun x1 ex1 => by
        subst ex1
        unfold wx4_polyLine_j128
        refine xs_go hc b1 y1.1 y1.2.2.2.1 (by omega) (by omega) (fun T2 K2 b2 f2 k2 c2 s2 y2 => ?_)
        have hz : pPl c n f (k + 1) (pTm c n (decide (ty.1 = 6)) ps' (.inr (tok c n ty.2.2.2))).2 (pTm c n (decide (ty.1 = 6)) ps' (.inr (tok c n ty.2.2.2))).1 = G := hz
        generalize tok c n ty.2.2.2 = tq at y2 hz
        refine ⟨kc K2 + 14, ks K2 + 63, by omega, by omega, by omega, by omega, ?_⟩
        refine xs_term hc b2 y2 (xps_s h90 hps1 f2) hp1 h61 (show k < 12 by omega) (xen_g en1 (f2.1 83 (by omega)).1 (f2.1 84 (by omega)).1 (f2.1 85 (by omega)).1) (Nat.le_refl _) (Nat.le_refl _) (fun e p he T3 K3 f3 k3 c3 s3 w0 w1 => hi e p ?_ T3 _ f3 (kx_tr k3 (kx_set _ _ _)) rfl rfl w0 w1) (fun t' et' T3 K3 b3 c3 s3 y3 p3 e3 => ?_)
        · rw [← hz, he, pPl_l]
        · rw [et'] at hz
          have q1 := pTm_k (c := c) (n := n) (less := decide (ty.1 = 6)) (ps := ps') (x := .inr tq)
          refine hR f _ (by omega) ⟨k + 1, _, t', by omega, by omega, by omega, b3, y3, p3, by rw [q1.1]; exact hp1, by rw [q1.2]; exact h61, ?_, hz, by show kc K3 + 16 * (12 - (k + 1)) ≤ Z; omega, by show ks K3 + 72 * (12 - (k + 1)) ≤ Y; omega⟩
          rw [q1.1, q1.2]
          exact e3
      rw [y1.2.1, li_t6, tkc_e k7 (by omega)]
      refine ⟨fun q2 => j128 0 ?_, fun q2 => j128 1 ?_⟩
      · rw [if_neg (by rw [decide_eq_false q2]; decide)]
      · rw [if_pos (decide_eq_true q2)]
  refine ⟨fun q => go (Or.inl q), fun q => ⟨fun q2 T2 e2 => ?_, fun q2 => go (Or.inr q2)⟩⟩
  rw [if_neg (by omega)] at hz
  rw [g13, li_1, nI_add] at e2
  obtain ⟨a1, a2, a3, a4, a5, a6, a7, a8⟩ := y1
  obtain ⟨p1, p2, p3, p4, p5⟩ := hps1
  have o : ∀ k j, ¬ (k = 80 ∧ j = 13) → xi T2 k j = xi T1 k j := fun k j hkj => by rw [e2, xi_wi, if_neg hkj]
  have or : xr T2 = xr T1 := by rw [e2, xr_wi]
  have o83 : xi T2 83 = xi T1 83 := funext fun j => o 83 j (by omega)
  have o84 : xi T2 84 = xi T1 84 := funext fun j => o 84 j (by omega)
  have o85 : xi T2 85 = xi T1 85 := funext fun j => o 85 j (by omega)
  rw [← hz] at hr
  refine hr ty rfl T2 _ (xb_k (by rw [e2]; exact xb_w b1 (by omega) (by omega))) rfl rfl ⟨?_, ?_, ?_, a4, a5, a6, fun w => ?_, fun w => ?_⟩ ⟨?_, fun w => ?_, ?_, fun i hi2 => ?_, fun w => absurd w (by show ¬ ps'.1 = 0; omega)⟩
  · rw [o 80 7 (by omega)]; exact a1
  · rw [o 80 8 (by omega)]; exact a2
  · rw [o 80 9 (by omega)]; exact a3
  · rw [o 80 10 (by omega)]; exact a7 w
  · obtain ⟨v, w', L, r1, r2, r3, r4, r5, r6, r7, r8, r9, r10, r11, r12, r13, r14⟩ := a8 w
    refine ⟨v, w', L, by rw [or]; exact r1, r2, r3, r4, r5, by rw [o v 1 (by omega)]; exact r6, by rw [o v 2 (by omega)]; exact r7, by rw [o v 3 (by omega)]; exact r8, by rw [or]; exact r9, r10, r11, r12, fun j hj => by rw [o w' j (by omega)]; exact r13 j hj, r14⟩
  · rw [o 80 15 (by omega)]; exact p1
  · rw [o 80 11 (by omega), o 80 12 (by omega), o 86 0 (by omega), o 86 1 (by omega)]; exact p2 w
  · rw [e2, xi_wi, if_pos ⟨rfl, rfl⟩]; rfl
  · have hi2 : i < ps'.2.2.2.2.1 + 1 := hi2
    by_cases w : i = ps'.2.2.2.2.1
    · subst w
      exact ⟨k, xen_g en1 o83 o84 o85⟩
    · obtain ⟨mi, hmi⟩ := p4 i (by omega)
      exact ⟨mi, xen_g hmi o83 o84 o85⟩
theorem xs_polyLine {c : Nat → Nat} {n z Z Y : Nat} {K0 K : XK} {T0 T : XT} {t : Tk} {ps : PS} {post xpost : XT → XK → Prop} (hc : cds c n) (hb : xb c n z K0 T0 K T) (h7 : xi T 80 7 = nI t.2.2.2) (h9 : xi T 80 9 = nI t.2.1) (hn : t.2.2.2 ≤ n) (hps : xps T ps) (hg : pgd 0 ps) (hZ : kc K + 194 ≤ Z) (hY : ks K + 873 ≤ Y)
    (hi : ∀ e p, (pPy c n ps (.inr t)).1 = .inl (e, p) → ∀ T' K', ff z T0 T' → kx K0 K' → kc K' = Z → ks K' = Y → xi T' 81 0 = nI e → xi T' 81 1 = nI p → xpost T' K')
    (hr : ∀ t', (pPy c n ps (.inr t)).1 = .inr t' → ∀ T' K', xb c n z K0 T0 K' T' → kc K' = Z → ks K' = Y → xcu c n z K' T' t' → xps T' (pPy c n ps (.inr t)).2 → post T' K') : wx4_polyLine K T Z Y post xpost := by
  have h90 := hb.2.2.1
  have l6 := hg.2.1
  have hps' := hps
  obtain ⟨g15, g11, g13, gen, g0⟩ := hps
  have epy : ∀ x2, (if ps.1 = 0 then cF 6 (if ps.2.2.2.2.1 = 6 then cF 5 (.inr t) else .inr t) else (if ps.2.2.2.2.1 = 6 then cF 5 (.inr t) else .inr t)) = x2 → pPy c n ps (.inr t) = pPl c n 12 1 (pTm c n (decide (cK (cN c n x2) = 6)) ps (if cK (cN c n x2) = 6 then cN c n (cN c n x2) else cN c n x2)).2 (pTm c n (decide (cK (cN c n x2) = 6)) ps (if cK (cN c n x2) = 6 then cN c n (cN c n x2) else cN c n x2)).1 := fun x2 ex2 => by rw [← ex2]; rfl
  have epl : ∀ q, (if ps.1 = 0 then cF 6 (if ps.2.2.2.2.1 = 6 then cF 5 (.inr t) else .inr t) else (if ps.2.2.2.2.1 = 6 then cF 5 (.inr t) else .inr t)) = .inl q → (pPy c n ps (.inr t)).1 = .inl q := fun q eq => by
    rw [epy _ eq, show cN c n (.inl q) = .inl q from rfl, if_neg (show ¬ cK (.inl q) = 6 by show ¬ 0 = 6; omega), pTm_l, pPl_l]
  have bad : ∀ e p T2, (if ps.1 = 0 then cF 6 (if ps.2.2.2.2.1 = 6 then cF 5 (.inr t) else .inr t) else (if ps.2.2.2.2.1 = 6 then cF 5 (.inr t) else .inr t)) = .inl (e, p) → xbad e p T T2 → xpost T2 (kset K Z Y) := fun e p T2 hx hb2 => hi e p (epl _ hx) T2 _ (xb_bad hb hb2) (kx_tr hb.2.2.2.2.2 (kx_set _ _ _)) rfl rfl hb2.2.1 hb2.2.2
  unfold wx4_polyLine wx4_polyLine_j19
  rw [g13, li_6, nI_leI (by omega) (by omega)]
  refine ⟨fun q => xs_good0 li_5 h9 (fun T2 hb2 => bad 5 t.2.1 T2 ?_ hb2), fun q => xs_good1 ?_⟩
  · rw [if_pos (show ps.2.2.2.2.1 = 6 by omega)]
    split <;> rfl
  rw [g15]
  by_cases hp : 0 < ps.1
  rotate_left
  · rw [if_neg hp]
    refine xs_good0 rfl h9 (fun T2 hb2 => bad 6 t.2.1 T2 ?_ hb2)
    rw [if_pos (by omega), if_neg (by omega)]; rfl
  rw [if_pos hp]
  refine xs_good1 ?_
  have epy := epy (.inr t) (by rw [if_neg (by omega), if_neg (by omega)])
  rw [epy] at hi hr
  have ecn : cN c n (.inr t) = .inr (tok c n t.2.2.2) := rfl
  rw [ecn] at hi hr
  refine xs_go hc hb h7 hn (by omega) (by omega) (fun T1 K1 b1 f1 k1 c1 s1 y1 => ?_)
  generalize tok c n t.2.2.2 = tq at y1 hi hr
  refine ⟨_, show ps.2.2.2.2.1 < 6 by omega, by rw [f1.2 13 (by omega) (by omega)]; exact g13, fun T2 e2 => ?_⟩
  have hps1 := xps_s h90 hps' f1
  have b2 : xb c n z K0 T0 K1 T2 := by rw [e2]; exact xb_w b1 (by omega) (by omega)
  have o : ∀ k j, ¬ (k = 85 ∧ j = ps.2.2.2.2.1) → xi T2 k j = xi T1 k j := fun k j hkj => by rw [e2, xi_wi, if_neg hkj]
  have y2 : xcu c n z K1 T2 tq := xcu_o y1 (fun k hk => funext fun j => o k j (by omega)) (by rw [e2, xr_wi])
  have hps2 : xps T2 ps := by
    obtain ⟨p1, p2, p3, p4, p5⟩ := hps1
    refine ⟨by rw [o 80 15 (by omega)]; exact p1, fun w => by rw [o 80 11 (by omega), o 80 12 (by omega), o 86 0 (by omega), o 86 1 (by omega)]; exact p2 w, by rw [o 80 13 (by omega)]; exact p3, fun i hi2 => ?_, p5⟩
    obtain ⟨mi, n1, n2, at', cf, ls, n3, n4⟩ := p4 i hi2
    refine ⟨mi, by rw [o 85 i (by omega)]; exact n1, n2, at', cf, ls, fun j hj => by rw [o 83 _ (by omega), o 84 _ (by omega)]; exact n3 j hj, n4⟩
  have en2 : xen ps.1 T2 ps.2.2.2.2.1 (ps.2.2.2.2.2 ps.2.2.2.2.1) 0 := by
    refine ⟨by rw [e2, xi_wi, if_pos ⟨rfl, rfl⟩]; rfl, by omega, fun _ => 0, fun _ => 0, fun _ => false, fun j hj => absurd hj (by omega), fun k hk => ?_⟩
    exact cn_0 (Nat.le_antisymm hg.2.2.2.2.1 (Nat.zero_le _)) k hk
  have j66 : ∀ (x1 : Int32) ty K3 T3, xb c n z K0 T0 K3 T3 → fs z T2 T3 → xcu c n z K3 T3 ty → (if cK (.inr tq) = 6 then cN c n (.inr tq) else .inr tq) = .inr ty → x1 = (if decide (cK (.inr tq) = 6) = true then 1 else 0) → kc K3 + 190 ≤ Z → ks K3 + 855 ≤ Y → wx4_polyLine_j66 Z Y post xpost x1 K3 T3 := fun x1 ty K3 T3 b3 f3 y3 ety ex1 c3 s3 => by
    subst ex1
    rw [ety] at hi hr
    unfold wx4_polyLine_j66
    refine ⟨kc K3 + 14, ks K3 + 63, by omega, by omega, by omega, by omega, ?_⟩
    refine xs_term hc b3 y3 (xps_s h90 hps2 f3) hp (by omega) (show 0 < 12 by omega) (xen_g en2 (f3.1 83 (by omega)).1 (f3.1 84 (by omega)).1 (f3.1 85 (by omega)).1) (Nat.le_refl _) (Nat.le_refl _) (fun e p he T4 K4 f4 k4 c4 s4 w0 w1 => hi e p ?_ T4 _ f4 (kx_tr k4 (kx_set _ _ _)) rfl rfl w0 w1) (fun t' et' T4 K4 b4 c4 s4 y4 p4 e4 => ?_)
    · rw [he, pPl_l]
    · rw [et'] at hi hr
      have q1 := pTm_k (c := c) (n := n) (less := decide (cK (.inr tq) = 6)) (ps := ps) (x := .inr ty)
      refine xs_poly71 hc b4 y4 p4 (by rw [q1.1]; exact hp) (by rw [q1.2]; omega) ?_ (by omega) (by omega) hi hr
      rw [q1.1, q1.2]
      exact e4
  have k7 := y2.2.2.2.2.2.1
  unfold wx4_polyLine_j58
  rw [y2.2.1, li_t6, tkc_e k7 (by omega)]
  refine ⟨fun q => b01 rfl (j66 0 tq K1 T2 b2 (fs_rfl _ _) y2 (by rw [if_neg (show ¬ cK (.inr tq) = 6 from q)]) ?_ (by omega) (by omega)), fun q => b11 rfl ?_⟩
  · rw [if_neg (by rw [decide_eq_false (show ¬ cK (.inr tq) = 6 from q)]; decide)]
  · refine xs_go hc b2 y2.1 y2.2.2.2.1 (by omega) (by omega) (fun T3 K3 b3 f3 k3 c3 s3 y3 => ?_)
    refine j66 1 _ K3 T3 b3 f3 y3 (by rw [if_pos (show cK (.inr tq) = 6 from q)]; rfl) ?_ (by omega) (by omega)
    rw [if_pos (decide_eq_true (show cK (.inr tq) = 6 from q))]
