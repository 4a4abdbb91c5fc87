set_option maxRecDepth 100000
/-! TermDesk's text: the ring's line -/
theorem xs_ring3 {c : Nat → Nat} {n z Z Y : Nat} {K0 K : XK} {T0 T : XT} {x4 : Cu} {t : Tk} {post xpost : XT → XK → Prop} (hc : cds c n) (hb : xb c n z K0 T0 K T) (ht : x4 = .inr t) (hx : xcu c n z K T t) (hZ : kc K + 6 ≤ Z) (hY : ks K + 27 ≤ Y)
    (hi : ∀ e p, xk c n x4 3 = .inl (e, p) → ∀ T' K', ff z T0 T' → kx K0 K' → kc K' = Z → ks K' = Y → xi T' 81 0 = nI e → xi T' 81 1 = nI p → xpost T' K')
    (hr : ∀ t', xk c n x4 3 = .inr t' → ∀ T' K', xb c n z K0 T0 K' T' → kc K' = Z → ks K' = Y → xcu c n z K' T' t' → xi T' 80 15 = nI 1 → xi T' 80 11 = xi T 80 11 → xi T' 80 12 = xi T 80 12 → xi T' 80 13 = xi T 80 13 → xi T' 86 0 = oI (cUn (xk c n x4 0)) → xi T' 86 1 = oI (cUn (xk c n x4 1)) → (cUn (xk c n x4 0)) ≠ none → (cUn (xk c n x4 1)) ≠ none → post T' K') : wx4_ringLine_l164 Z Y post xpost 0 K T := by
  have h90 := hb.2.2.1
  unfold wx4_ringLine_l164
  refine wl_up 3 (fun k (v : Int32 × XT × XK) => v.1 = nI k ∧ ∃ tk, xk c n x4 k = .inr tk ∧ xb c n z K0 T0 v.2.2 v.2.1 ∧ xcu c n z v.2.2 v.2.1 tk ∧ kc v.2.2 + 2 * (3 - k) ≤ Z ∧ ks v.2.2 + 9 * (3 - k) ≤ Y ∧ xi v.2.1 80 11 = xi T 80 11 ∧ xi v.2.1 80 12 = xi T 80 12 ∧ xi v.2.1 80 13 = xi T 80 13 ∧ ∀ j, j < k → ∃ u, cUn (xk c n x4 j) = some u ∧ u < 3 ∧ xi v.2.1 86 j = nI u) 0 (by omega) ⟨rfl, t, ht, hb, hx, by show kc K + 2 * (3 - 0) ≤ Z; omega, by show ks K + 9 * (3 - 0) ≤ Y; omega, rfl, rfl, rfl, fun j hj => absurd hj (by omega)⟩ ?_
  rintro k ⟨x1, T1, K1⟩ hk ⟨ex, tk, e1, b1, y1, z1, s1, q11, q12, q13, hu⟩ R hR
  dsimp only at ex b1 y1 z1 s1 q11 q12 q13 hu ⊢
  subst ex
  have bad : ∀ e p T2 K2, xbad e p T1 T2 → xk c n x4 (k + 1) = .inl (e, p) → k < 3 → kx K1 K2 → xpost T2 (kset K2 Z Y) := fun e p T2 K2 hb2 hx2 hk3 hK2 => hi e p (xk_l (by omega) hx2) T2 _ (xb_bad b1 hb2) (kx_tr (kx_tr b1.2.2.2.2.2 hK2) (kx_set _ _ _)) rfl rfl hb2.2.1 hb2.2.2
  unfold wx4_ringLine_b164
  rw [li_3, nI_leI (by omega) (by omega)]
  refine ⟨fun q T2 e2 => ?_, fun q => ?_⟩
  · have ek : k = 3 := by omega
    subst ek
    obtain ⟨u0, c0, l0, d0⟩ := hu 0 (by omega)
    obtain ⟨u1, c1, l1, d1⟩ := hu 1 (by omega)
    obtain ⟨a1, a2, a3, a4, a5, a6, a7, a8⟩ := y1
    have o : ∀ k j, ¬ (k = 80 ∧ j = 15) → xi T2 k j = xi T1 k j := fun k j hkj => by rw [e2, xi_wi, if_neg hkj]
    have or : xr T2 = xr T1 := by rw [e2, xr_wi]
    refine hr tk e1 T2 _ (xb_k (by rw [e2]; exact xb_w b1 (by omega) (by omega))) rfl rfl ⟨?_, ?_, ?_, a4, a5, a6, fun w => ?_, fun w => ?_⟩ ?_ ?_ ?_ ?_ ?_ ?_ ?_ ?_
    · rw [o 80 7 (by omega)]; exact a1
    · rw [o 80 8 (by omega)]; exact a2
    · rw [o 80 9 (by omega)]; exact a3
    · rw [o 80 10 (by omega)]; exact a7 w
    · obtain ⟨v, w', L, r1, r2, r3, r4, r5, r6, r7, r8, r9, r10, r11, r12, r13, r14⟩ := a8 w
      refine ⟨v, w', L, by rw [or]; exact r1, r2, r3, r4, r5, by rw [o v 1 (by omega)]; exact r6, by rw [o v 2 (by omega)]; exact r7, by rw [o v 3 (by omega)]; exact r8, by rw [or]; exact r9, r10, r11, r12, fun j hj => by rw [o w' j (by omega)]; exact r13 j hj, r14⟩
    · rw [e2, xi_wi, if_pos ⟨rfl, rfl⟩]; rfl
    · rw [o 80 11 (by omega)]; exact q11
    · rw [o 80 12 (by omega)]; exact q12
    · rw [o 80 13 (by omega)]; exact q13
    · rw [o 86 0 (by omega), c0]; exact d0
    · rw [o 86 1 (by omega), c1]; exact d1
    · rw [c0]; exact fun w => by cases w
    · rw [c1]; exact fun w => by cases w
  · have z1' : kc K1 + 2 ≤ Z := by omega
    have s1' : ks K1 + 9 ≤ Y := by omega
    have zq : ∀ a, a = kc K1 + 2 → a + 2 * (3 - (k + 1)) ≤ Z := fun a ha => by omega
    have sq : ∀ b, b = ks K1 + 9 → b + 9 * (3 - (k + 1)) ≤ Y := fun b hb' => by omega
    obtain ⟨x0, xs⟩ := xk_s (k := k) (by omega) e1
    refine xs_tunknown y1 ?_
    have em : (oI (cUn (.inr tk)) = -1) ↔ cUn (.inr tk) = none := oI_eq (b := none) (fun u w => cUn_lt w) (fun u w => by cases w)
    rw [em]
    refine ⟨fun w => xs_must0 y1.2.2.1 (fun T2 hb2 => bad 1 _ T2 K1 hb2 (x0 w) (by omega) (kx_rfl _)), fun w => xs_must1 ?_⟩
    obtain ⟨u, eu⟩ : ∃ u, cUn (.inr tk) = some u := by
      cases hh : cUn (.inr tk) with
      | none => exact absurd hh w
      | some u => exact ⟨u, rfl⟩
    have u3 := cUn_lt eu
    obtain ⟨xs1, xs2⟩ := xs u eu
    rw [eu]
    unfold wx4_ringLine_j188 wx4_ringLine_l190
    refine wl_up k (fun i (v : Int32 × XT) => v.1 = nI i ∧ v.2 = T1 ∧ ∀ j, j < i → cUn (xk c n x4 j) ≠ some u) 0 (by omega) ⟨rfl, rfl, fun j hj => absurd hj (by omega)⟩ ?_
    rintro i ⟨x3, T2⟩ hi3 ⟨ex3, eT, hno⟩ R' hR'
    dsimp only at ex3 eT hno ⊢
    subst ex3 eT
    unfold wx4_ringLine_b190 wx4_ringLine_j215
    rw [nI_leI (by omega) (by omega)]
    refine ⟨fun q2 => ⟨k, by omega, rfl, fun T3 e3 => ?_⟩, fun q2 => ⟨i, by omega, rfl, ?_⟩⟩
    · have b3 : xb c n z K0 T0 K1 T3 := by rw [e3]; exact xb_w b1 (by omega) (by omega)
      have a7 : xi T3 80 7 = nI tk.2.2.2 := by rw [e3, xi_wi, if_neg (by omega)]; exact y1.1
      refine xs_go hc b3 a7 y1.2.2.2.1 z1' s1' (fun T4 K4 b4 f4 k4 z4 s4 y4 x1 ex1 => ?_)
      rw [li_1, nI_add] at ex1
      have o3 : ∀ j, xi T3 80 j = xi T2 80 j := fun j => by rw [e3, xi_wi, if_neg (by omega)]
      refine hR (by omega) _ ⟨ex1, tok c n tk.2.2.2, xs2 (fun ⟨j, hj, hw⟩ => hno j (by omega) hw), b4, y4, zq _ z4, sq _ s4, ?_, ?_, ?_, fun j hj => ?_⟩
      · show xi T4 80 11 = _
        rw [f4.2 11 (by omega) (by omega), o3]; exact q11
      · show xi T4 80 12 = _
        rw [f4.2 12 (by omega) (by omega), o3]; exact q12
      · show xi T4 80 13 = _
        rw [f4.2 13 (by omega) (by omega), o3]; exact q13
      · show ∃ u, cUn (xk c n x4 j) = some u ∧ u < 3 ∧ xi T4 86 j = nI u
        rw [(f4.1 86 (by omega)).1, e3, xi_wi]
        by_cases w : j = k
        · rw [if_pos ⟨rfl, w⟩, w]
          exact ⟨u, by rw [e1]; exact eu, u3, rfl⟩
        · rw [if_neg (fun z => w z.2)]; exact hu j (by omega)
    · obtain ⟨ui, ci, li, di⟩ := hu i (by omega)
      rw [di, show oI (some u) = nI u from rfl, nI_eq (by omega) (by omega)]
      refine ⟨fun w2 => xs_good0 li_3 y1.2.2.1 (fun T3 hb3 => bad 3 _ T3 K1 hb3 (xs1 ⟨i, by omega, by rw [ci, w2]⟩) (by omega) (kx_rfl _)), fun w2 => xs_good1 (fun x3 ex3 => ?_)⟩
      rw [li_1, nI_add] at ex3
      refine hR' (by omega) _ ⟨ex3, rfl, fun j hj => ?_⟩
      by_cases w : j = i
      · rw [w, ci]; exact fun z => w2 (by injection z)
      · exact hno j (by omega)
theorem xs_ringLine {c : Nat → Nat} {n z Z Y : Nat} {K0 K : XK} {T0 T : XT} {t : Tk} {ps : PS} {post xpost : XT → XK → Prop} (hc : cds c n) (hb : xb c n z K0 T0 K T) (h7 : xi T 80 7 = nI t.2.2.2) (h9 : xi T 80 9 = nI t.2.1) (hn : t.2.2.2 ≤ n) (hps : xps T ps) (hZ : kc K + 16 ≤ Z) (hY : ks K + 72 ≤ Y)
    (hi : ∀ e p, (pRg c n ps (.inr t)).1 = .inl (e, p) → ∀ T' K', ff z T0 T' → kx K0 K' → kc K' = Z → ks K' = Y → xi T' 81 0 = nI e → xi T' 81 1 = nI p → xpost T' K')
    (hr : ∀ t', (pRg c n ps (.inr t)).1 = .inr t' → ∀ T' K', xb c n z K0 T0 K' T' → kc K' = Z → ks K' = Y → xcu c n z K' T' t' → xps T' (pRg c n ps (.inr t)).2 → post T' K') : wx4_ringLine K T Z Y post xpost := by
  have h90 := hb.2.2.1
  obtain ⟨g15, _, g13, _, g0⟩ := hps
  have e1 : (pRg c n ps (.inr t)).1 = xk c n (rg4 c n (rg3 c n (rg2 (rg1 c n ps (.inr t))))) 3 := rfl
  have e2 : (pRg c n ps (.inr t)).2 = (cV (rg2 (rg1 c n ps (.inr t))), (cHw (rg3 c n (rg2 (rg1 c n ps (.inr t))))).getD 0, (cUn (xk c n (rg4 c n (rg3 c n (rg2 (rg1 c n ps (.inr t))))) 0)).getD 0, (cUn (xk c n (rg4 c n (rg3 c n (rg2 (rg1 c n ps (.inr t))))) 1)).getD 0, ps.2.2.2.2.1, ps.2.2.2.2.2) := rfl
  rw [e1] at hi hr
  rw [e2] at hr
  have bad : ∀ e p T1 T2 K1 K2, rg4 c n (rg3 c n (rg2 (rg1 c n ps (.inr t)))) = .inl (e, p) → xb c n z K0 T0 K1 T1 → xbad e p T1 T2 → kx K1 K2 → xpost T2 (kset K2 Z Y) := fun e p T1 T2 K1 K2 hx hb1 hb2 hk => hi e p (xk_l (k := 0) (by omega) hx) T2 _ (xb_bad hb1 hb2) (kx_tr (kx_tr hb1.2.2.2.2.2 hk) (kx_set _ _ _)) rfl rfl hb2.2.1 hb2.2.2
  unfold wx4_ringLine
  rw [g15]
  by_cases hp : 0 < ps.1
  · rw [if_pos hp]
    refine ⟨fun _ => xs_good0 li_3 h9 (fun T2 hb2 => bad 3 t.2.1 T T2 K K ?_ hb hb2 (kx_rfl _)), fun q => absurd q (by decide)⟩
    unfold rg1
    rw [if_pos hp, show cN c n (cF 3 (.inr t)) = .inl (3, t.2.1) from rfl, cNd_l, rg2_l, rg3_l, rg4_l]
  rw [if_neg hp]
  have g0 := g0 (by omega)
  refine ⟨fun q => absurd rfl q, fun _ => xs_good1 ?_⟩
  have er1 : rg1 c n ps (.inr t) = cN c n (if cIs 5 (.inr (tok c n t.2.2.2)) then .inr (tok c n t.2.2.2) else cF 1 (.inr (tok c n t.2.2.2))) := by
    unfold rg1
    rw [if_neg hp]; rfl
  generalize rg1 c n ps (.inr t) = r1 at er1 hi hr bad
  unfold wx4_ringLine_j17
  refine xs_go hc hb h7 hn (by omega) (by omega) (fun T1 K1 b1 f1 k1 c1 s1 y1 => ?_)
  refine xs_tk (i := 5) (by omega) hc b1 y1 (by omega) (by omega) (fun q5 T2 K2 b2 f2 k2 c2 s2 y2 => ?_) (fun q5 T2 K2 hb2 hk2 => bad 1 _ T1 T2 K1 K2 ?_ b1 hb2 hk2)
  rotate_left
  · rw [er1, if_neg (by rw [q5]; decide), show cN c n (cF 1 (.inr (tok c n t.2.2.2))) = .inl (1, (tok c n t.2.2.2).2.1) from rfl, rg2_l, rg3_l, rg4_l]
  rw [if_pos q5] at er1
  have er1 : r1 = .inr (tok c n (tok c n t.2.2.2).2.2.2) := er1
  generalize tok c n (tok c n t.2.2.2).2.2.2 = t2 at y2 er1
  subst er1
  have fs12 := fs_tr f1 f2
  have g15' : xi T2 80 13 = nI 0 := by rw [fs12.2 13 (by omega) (by omega), g13, g0]
  rw [y2.2.1, li_t3, tkc_e y2.2.2.2.2.2.1 (by omega)]
  refine ⟨fun q => xs_must0 y2.2.2.1 (fun T3 hb3 => bad 1 _ T2 T3 K2 K2 ?_ b2 hb3 (kx_rfl _)), fun q => xs_must1 ?_⟩
  · have : rg2 (.inr t2) = .inl (1, t2.2.1) := by unfold rg2; rw [if_neg (show ¬ cK (.inr t2) = 3 from q)]; rfl
    rw [this, rg3_l, rg4_l]
  obtain ⟨v1, v2⟩ := y2.2.2.2.2.2.2.1 q
  unfold wx4_ringLine_j44
  rw [v1]
  have nop : ¬ (prb t2.2.2.1 = true ∧ t2.2.2.1 ≤ 97) → wx4_good 0 2 K2 T2 (fun T_74 => wx4_ringLine_j79 Z Y post xpost K2 T_74) (fun T9 => xpost T9 (kset K2 Z Y)) := fun w => xs_good0 li_2 y2.2.2.1 (fun T3 hb3 => bad 2 _ T2 T3 K2 K2 (by
    have : rg2 (.inr t2) = .inl (2, t2.2.1) := by unfold rg2; rw [if_pos (show cK (.inr t2) = 3 from q), if_neg (show ¬ (prb (cV (.inr t2)) = true ∧ cV (.inr t2) ≤ 97) from w)]; rfl
    rw [this, rg3_l, rg4_l]) b2 hb3 (kx_rfl _))
  rw [li_2, li_97]
  refine xs_in (fun w => b01 rfl (nop fun z => ?_)) (fun w1 w2 => b11 rfl ?_)
  · have := (prb_iff _).1 z.1
    rw [nI_ltI (by omega) (by omega), nI_ltI (by omega) (by omega)] at w
    omega
  rw [nI_ltI (by omega) (by omega)] at w1 w2
  refine ⟨t2.2.2.1, by omega, rfl, ?_⟩
  rw [sprime_p _ (by omega)]
  refine ⟨fun w => nop fun z => w z.1, fun w => xs_good1 ?_⟩
  have er2 : rg2 (.inr t2) = .inr t2 := by unfold rg2; rw [if_pos (show cK (.inr t2) = 3 from q), if_pos (show prb (cV (.inr t2)) = true ∧ cV (.inr t2) ≤ 97 from ⟨w, by show t2.2.2.1 ≤ 97; omega⟩)]
  rw [er2] at hi hr bad
  unfold wx4_ringLine_j79
  intro T3 e3
  rw [v1] at e3
  have b3 : xb c n z K0 T0 K2 T3 := by rw [e3]; exact xb_w b2 (by omega) (by omega)
  refine xs_go hc b3 (s := t2.2.2.2) (by rw [e3, xi_wi, if_neg (by omega)]; exact y2.1) y2.2.2.2.1 (by omega) (by omega) (fun T4 K4 b4 f4 k4 c4 s4 y4 => ?_)
  have er3 : rg3 c n (.inr t2) = cN c n (if cIs 6 (.inr (tok c n t2.2.2.2)) then .inr (tok c n t2.2.2.2) else cF 1 (.inr (tok c n t2.2.2.2))) := rfl
  generalize rg3 c n (.inr t2) = r3 at er3 hi hr bad
  refine xs_tk (i := 6) (by omega) hc b4 y4 (by omega) (by omega) (fun q6 T5 K5 b5 f5 k5 c5 s5 y5 => ?_) (fun q6 T5 K5 hb5 hk5 => bad 1 _ T4 T5 K4 K5 ?_ b4 hb5 hk5)
  rotate_left
  · rw [er3, if_neg (by rw [q6]; decide), show cN c n (cF 1 (.inr (tok c n t2.2.2.2))) = .inl (1, (tok c n t2.2.2.2).2.1) from rfl, rg4_l]
  rw [if_pos q6] at er3
  have er3 : r3 = .inr (tok c n (tok c n t2.2.2.2).2.2.2) := er3
  generalize tok c n (tok c n t2.2.2.2).2.2.2 = t3 at y5 er3
  subst er3
  have fs45 := fs_tr f4 f5
  have h11 : xi T5 80 11 = nI t2.2.2.1 := by rw [fs45.2 11 (by omega) (by omega), e3, xi_wi, if_pos ⟨rfl, rfl⟩]
  have h13 : xi T5 80 13 = nI 0 := by rw [fs45.2 13 (by omega) (by omega), e3, xi_wi, if_neg (by omega)]; exact g15'
  have j141 : ∀ T6, T6 = xwi T5 80 12 (oI (cHw (.inr t3))) → wx4_ringLine_j141 Z Y post xpost K5 T6 := fun T6 e6 => by
    have b6 : xb c n z K0 T0 K5 T6 := by rw [e6]; exact xb_w b5 (by omega) (by omega)
    have g12 : xi T6 80 12 = oI (cHw (.inr t3)) := by rw [e6, xi_wi, if_pos ⟨rfl, rfl⟩]
    have g9 : xi T6 80 9 = nI t3.2.1 := by rw [e6, xi_wi, if_neg (by omega)]; exact y5.2.2.1
    unfold wx4_ringLine_j141
    rw [g12]
    have em : (oI (cHw (.inr t3)) = -1) ↔ cHw (.inr t3) = none := oI_eq (b := none) (fun u w => cHw_lt w) (fun u w => by cases w)
    rw [em]
    refine ⟨fun w => xs_must0 g9 (fun T7 hb7 => bad 1 _ T6 T7 K5 K5 (by unfold rg4; rw [w]; rfl) b6 hb7 (kx_rfl _)), fun w => xs_must1 ?_⟩
    obtain ⟨hw, ehw⟩ : ∃ u, cHw (.inr t3) = some u := by
      cases hh : cHw (.inr t3) with
      | none => exact absurd hh w
      | some u => exact ⟨u, rfl⟩
    have er4 : rg4 c n (.inr t3) = .inr (tok c n t3.2.2.2) := by unfold rg4; rw [ehw]; rfl
    unfold wx4_ringLine_j158
    refine xs_go hc b6 (s := t3.2.2.2) (by rw [e6, xi_wi, if_neg (by omega)]; exact y5.1) y5.2.2.2.1 (by omega) (by omega) (fun T7 K7 b7 f7 k7 c7 s7 y7 => ?_)
    refine xs_ring3 hc b7 er4 y7 (by omega) (by omega) hi (fun t' et' T8 K8 b8 c8 s8 y8 a15 a11 a12 a13 a0 a1 n0 n1 => hr t' et' T8 K8 b8 c8 s8 y8 ?_)
    obtain ⟨u0, eu0⟩ : ∃ u, cUn (xk c n (rg4 c n (.inr t3)) 0) = some u := by
      cases hh : cUn (xk c n (rg4 c n (.inr t3)) 0) with
      | none => exact absurd hh n0
      | some u => exact ⟨u, rfl⟩
    obtain ⟨u1, eu1⟩ : ∃ u, cUn (xk c n (rg4 c n (.inr t3)) 1) = some u := by
      cases hh : cUn (xk c n (rg4 c n (.inr t3)) 1) with
      | none => exact absurd hh n1
      | some u => exact ⟨u, rfl⟩
    rw [eu0] at a0 ⊢
    rw [eu1] at a1 ⊢
    rw [ehw] at g12 ⊢
    have hp2 : 0 < t2.2.2.1 := by omega
    refine ⟨?_, fun _ => ⟨?_, ?_, ?_, ?_⟩, ?_, fun i hi2 => absurd hi2 (by show ¬ i < ps.2.2.2.2.1; omega), fun z => absurd z (by show ¬ t2.2.2.1 = 0; omega)⟩
    · rw [if_pos (show 0 < cV (.inr t2) from hp2)]; exact a15
    · rw [a11, f7.2 11 (by omega) (by omega), e6, xi_wi, if_neg (by omega)]; exact h11
    · rw [a12, f7.2 12 (by omega) (by omega)]; exact g12
    · rw [a0]; rfl
    · rw [a1]; rfl
    · rw [a13, f7.2 13 (by omega) (by omega), e6, xi_wi, if_neg (by omega), h13]
      show nI 0 = nI ps.2.2.2.2.1
      rw [g0]
  have hh : ∀ P : Option Nat → Prop, P (cHw (.inr t3)) → P (if cIs 7 (.inr t3) then some 0 else if cIs 8 (.inr t3) then some 1 else if cIs 9 (.inr t3) then some 2 else none) := fun P hP => hP
  have j' := hh (fun o => ∀ T6, T6 = xwi T5 80 12 (oI o) → wx4_ringLine_j141 Z Y post xpost K5 T6) j141
  refine xs_tis (i := 7) (by omega) y5 (fun q => b11 rfl ?_) (fun q => b01 rfl ?_)
  · rw [if_pos q] at j'; exact j'
  · rw [if_neg (by rw [q]; decide)] at j'
    refine xs_tis (i := 8) (by omega) y5 (fun q => b11 rfl ?_) (fun q => b01 rfl ?_)
    · rw [if_pos q] at j'; exact j'
    · rw [if_neg (by rw [q]; decide)] at j'
      refine xs_tis (i := 9) (by omega) y5 (fun q => b11 rfl ?_) (fun q => b01 rfl ?_)
      · rw [if_pos q] at j'; exact j'
      · rw [if_neg (by rw [q]; decide)] at j'; exact j'
