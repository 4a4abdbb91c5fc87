set_option maxRecDepth 100000
theorem xc_ahead {A : AB} {K : XK} {T : XT} {x y z u v w : Int32} {Z Y : Nat} {post : Int32 → XT → XK → Prop} (h : rx A K T) (hw : wf A) (hZ : kc K + 1 ≤ Z) (hY : ks K + 6 ≤ Y) (h0 : aN A 0 = 0 → pst (aS A 1 (-1)) (-2) Z Y post) (h2 : aN A 0 = 1 → ¬ six x y z u v w → pst (aS A 2 (-1)) (-2) Z Y post)
    (h1 : aN A 0 = 1 → ∀ a b c d e f, a < 16 → b < 16 → c < 16 → d < 16 → e < 16 → f < 16 → x = nI a → y = nI b → z = nI c → u = nI d → v = nI e → w = nI f → pst (aS A 0 (-1)) (if ok (aN A 2) (aN A 3) (aN A 4) (d + 16 * e + 256 * f) < ok (aN A 2) (aN A 3) (aN A 4) (a + 16 * b + 256 * c) then 1 else if ok (aN A 2) (aN A 3) (aN A 4) (a + 16 * b + 256 * c) < ok (aN A 2) (aN A 3) (aN A 4) (d + 16 * e + 256 * f) then -1 else 0) Z Y post) : wx1_ahead x y z u v w K T Z Y post := by
  have hl := hw.1
  unfold wx1_ahead
  refine xv6 hZ hY (fun K1 T1 f1 k1 l1 a1 c1 s1 z1 => ?_)
  have g := rx_keep h f1 k1
  refine xs_areExponents l1 (by omega) a1 (fun q => ?_) (fun q => ?_)
  · rw [all6] at q
    exact xh2 g hw (fun c T' r' => b11 rfl (pst_u (h0 (Classical.byContradiction fun z => c ⟨by omega, by decide⟩)) r')) (fun ht _ _ T' r' => b11 rfl (pst_u (h2 ht q) r')) (fun _ _ c => absurd rfl c)
  · rw [all6] at q
    refine xh2 g hw (fun c T' r' => b11 rfl (pst_u (h0 (Classical.byContradiction fun z => c ⟨by omega, by decide⟩)) r')) (fun _ _ c => absurd c (by decide)) (fun ht _ _ T2 f2 r2 => b01 rfl ?_)
    obtain ⟨⟨a, ha, ea⟩, ⟨b, hb, eb⟩, ⟨c, hc, ec⟩, ⟨d, hd, ed⟩, ⟨e, he, ee⟩, ⟨f, hf, ef⟩⟩ := q
    have fin := h1 ht a b c d e f (by omega) (by omega) (by omega) (by omega) (by omega) (by omega) ea eb ec ed ee ef
    subst ea eb ec ed ee ef
    have hv := (hw.2.2.2.2 ht).2.1
    obtain ⟨k1', k2', k3', k4', ⟨o, o1, o2, o3, o4⟩, _⟩ := r2.2.2.2.2.2.2.2.2.1 ht
    have o2 : orn K1 T2 o (aN A 2) (aN A 3) (aN A 4) := o2
    refine ⟨o, o1, xs_packed (by omega) (by omega) (by omega) (xs_key hv o2 (by omega) ⟨o, o1, xs_packed (by omega) (by omega) (by omega) (xs_key hv o2 (by omega) ?_)⟩)⟩
    have b1 := ok_lt hv (a + 16 * b + 256 * c)
    have b2 := ok_lt hv (d + 16 * e + 256 * f)
    unfold wxJ10_compare
    rw [nI_leI (by omega) (by omega), nI_eq (by omega) (by omega)]
    refine ⟨fun q => ⟨fun q2 => ?_, fun q2 => ?_⟩, fun q => ?_⟩
    · rw [if_pos (by omega)] at fin; exact pst_u fin r2
    · rw [if_neg (by omega), if_neg (by omega)] at fin; exact pst_u fin r2
    · rw [if_neg (by omega), if_pos (by omega)] at fin; exact pst_u fin r2
theorem xs_isOrder {x y z : Int32} {K : XK} {T : XT} {post : Int32 → Prop} (h0 : ¬ (∃ h a b, vo h a b ∧ x = nI h ∧ y = nI a ∧ z = nI b) → post 0) (h1 : ∀ h a b, vo h a b → x = nI h → y = nI a → z = nI b → post 1) : wx1_isOrder x y z K T post := sp_isOrder (S := fun _ _ => 0) h0 h1
theorem xlm_at (T : XT) (q : Nat) (z0 z1 z2 : Int32) : xi (xlm T q z0 z1 z2) q 0 = z0 ∧ xi (xlm T q z0 z1 z2) q 1 = z1 ∧ xi (xlm T q z0 z1 z2) q 2 = z2 := by
  unfold xlm
  refine ⟨?_, ?_, ?_⟩
  · rw [xi_wi, if_neg (by omega), xi_wi, if_neg (by omega), xi_wi, if_pos ⟨rfl, rfl⟩]
  · rw [xi_wi, if_neg (by omega), xi_wi, if_pos ⟨rfl, rfl⟩]
  · rw [xi_wi, if_pos ⟨rfl, rfl⟩]
theorem xlm_f {P : Nat → Prop} (T : XT) {q : Nat} (hq : P q) (z0 z1 z2 : Int32) : xf P T (xlm T q z0 z1 z2) := xf_tr (xf_tr (xf_tr (xf_nil hq) (xf_wi hq)) (xf_wi hq)) (xf_wi hq)
theorem xs_orderOf {h a b : Nat} {K : XK} {T : XT} {Z Y : Nat} {post : Nat → XT → XK → Prop} (v : vo h a b) (hZ : kc K + 1 ≤ Z) (hY : ks K + 3 ≤ Y) (hp : ∀ K' T', xf (fun k => k = kz K) T T' → kx K K' → kz K' = kz K + 1 → kc K' = Z → ks K' = Y → orn K' T' (kz K) h a b → post (kz K) T' K') : wx1_orderOf (nI h) (nI a) (nI b) K T Z Y post := by
  obtain ⟨v1, v2, v3, v4⟩ := v
  unfold wx1_orderOf
  intro x3 e3
  rw [li_3, pk_sub (by omega), pk_sub (by omega)] at e3
  subst e3
  rw [li_0, nI_eq (by omega) (by omega), li_1, nI_eq (by omega) (by omega)]
  have kl2 : ∀ n, kl (kset (knew K 16 n 3) Z Y) (kz K) = n := fun n => if_pos rfl
  have kx2 : ∀ n, kx K (kset (knew K 16 n 3) Z Y) := fun n => kx_tr (kx_new _ _ _ _) (kx_set _ _ _)
  refine ⟨fun q1 => ⟨fun q2 => ⟨hZ, hY, fun K1 e1 T1 et => ?_⟩, fun q2 => ⟨hZ, hY, fun K1 e1 T1 et => ?_⟩⟩, fun q1 => ⟨hZ, hY, fun K1 e1 T1 et => ?_⟩⟩
  · subst e1 et
    exact hp _ _ (xlm_f (P := fun k => k = kz K) T rfl _ _ _) (kx2 2) rfl rfl rfl ⟨(kl2 2).trans (by omega), fun w => absurd w (by omega), fun _ => xlm_at T (kz K) _ _ _⟩
  · subst e1 et
    exact hp _ _ (xlm_f (P := fun k => k = kz K) T rfl _ _ _) (kx2 1) rfl rfl rfl ⟨(kl2 1).trans (by omega), fun _ => xlm_at T (kz K) _ _ _, fun w => absurd w (by omega)⟩
  · subst e1 et
    exact hp _ _ (xlm_f (P := fun k => k = kz K) T rfl _ _ _) (kx2 0) rfl rfl rfl ⟨(kl2 0).trans (by omega), fun _ => xlm_at T (kz K) _ _ _, fun w => absurd w (by omega)⟩
theorem xc_leadBy {A : AB} {K : XK} {T : XT} {x y z w : Int32} {Z Y : Nat} {post : Int32 → XT → XK → Prop} (h : rx A K T) (hw : wf A) (hZ : kc K + 2 ≤ Z) (hY : ks K + 4 ≤ Y) (h0 : ¬ (aN A 0 = 1 ∧ inr x 7) → pst (aS A 1 (-1)) (-1) Z Y post) (h2 : aN A 0 = 1 → inr x 7 → ¬ (∃ h a b, vo h a b ∧ y = nI h ∧ z = nI a ∧ w = nI b) → pst (aS A 2 (-1)) (-1) Z Y post)
    (h1 : aN A 0 = 1 → ∀ r h a b, r < 8 → vo h a b → x = nI r → y = nI h → z = nI a → w = nI b → ((∀ k, k < 4096 → aR A r k = 0) → pst (aS A 0 (-1)) (-2) Z Y post) ∧ ∀ k, led (ok h a b) (aR A r) k → pst (aS A 0 (-1)) (nI k) Z Y post) : wx1_leadBy x y z w K T Z Y post := by
  unfold wx1_leadBy
  refine xv1 (by omega) (by omega) (fun K1 T1 f1 k1 l1 a1 c1 s1 z1 => ?_)
  have g := rx_keep h f1 k1
  have tail : ∀ rr : Int32, (rr ≠ 0 ↔ inr x 7) → wx1_isOrder y z w K1 T1 (fun r_27 => wx1_why_2 rr r_27 K1 T1 (fun r_30 => wx1_isRefused r_30 K1 T1 (fun r_33 T_34 => (r_33 = 0 → ∃ Z_39 Y_40 : Nat, kc K1 ≤ Z_39 ∧ Z_39 ≤ Z ∧ ks K1 ≤ Y_40 ∧ Y_40 ≤ Y ∧ wx1_orderOf y z w K1 T_34 Z_39 Y_40 (fun r_36 T_37 K_38 => wx1_leadBy_l46 x y z w Z Y post r_36 (-2) 0 K_38 T_37)) ∧ (¬ r_33 = 0 → post (-1) T_34 (kset K1 Z Y))))) := by
    intro rr hrr
    refine xs_isOrder (fun q => ?_) (fun hh a b v ey ez ew => ?_)
    · exact xh2 g hw (fun c T' r' => b11 rfl (pst_u (h0 fun w3 => c ⟨w3.1, hrr.2 w3.2⟩) r')) (fun ht c _ T' r' => b11 rfl (pst_u (h2 ht (hrr.1 c) q) r')) (fun _ _ c => absurd rfl c)
    · refine xh2 g hw (fun c T' r' => b11 rfl (pst_u (h0 fun w3 => c ⟨w3.1, hrr.2 w3.2⟩) r')) (fun _ _ c => absurd c (by decide)) (fun ht c _ T2 f2 r2 => b01 rfl ?_)
      obtain ⟨r, hr, er⟩ := hrr.1 c
      obtain ⟨e0, e1⟩ := h1 ht r hh a b (by omega) v er ey ez ew
      subst ey ez ew
      refine ⟨kc K1 + 1, ks K1 + 3, by omega, by omega, by omega, by omega, xs_orderOf v (Nat.le_refl _) (Nat.le_refl _) (fun K2 T3 f3 k2 z2 c2 s2 o2 => ?_)⟩
      have r3 : rx (aS A 0 (-1)) K2 T3 := rx_keep r2 (xf_mono f3 (fun k e => by rw [e]; unfold xsc; omega)) k2
      obtain ⟨gg, q1, q2, q3⟩ := rx_reg r3
      obtain ⟨vv, v1, v2⟩ := q3 r (by omega)
      have v2 : ply (aOk A) (aN A 1) K2 T3 vv (aR A r) := v2
      obtain ⟨va, vb, n, ra, p1, p2, p3, p4, p5, p6, p7, p8, p9, p10, p11⟩ := v2
      have hn : n ≤ 4096 := by rw [isr_cn p6]; exact cn_le _ _
      unfold wx1_leadBy_l46
      refine wl_up n (fun i u => u.2 = nI i ∧ ((i = 0 ∧ u.1 = -2) ∨ ∃ k, k < i ∧ u.1 = nI (ra k) ∧ ∀ l, l < i → l ≠ k → ok hh a b (ra l) < ok hh a b (ra k))) 0 (by omega) ⟨rfl, Or.inl ⟨rfl, rfl⟩⟩ ?_
      rintro i ⟨x6, x7⟩ hi ⟨hx7, hx6⟩ R hR
      dsimp only at hx7 hx6
      subst hx7
      unfold wx1_leadBy_b46 wx1_leadBy_j98 wx1_leadBy_j112
      dsimp only
      refine ⟨gg, q1, r, by omega, er, vv, v1, ?_⟩
      rw [p3, nI_leI (by omega) (by omega)]
      refine ⟨fun c3 => ?_, fun c3 => ?_⟩
      · have hi2 : i = n := by omega
        subst hi2
        rcases hx6 with ⟨i0, ex6⟩ | ⟨k, hk, ex6, hmax⟩
        · subst i0
          rw [ex6]
          exact pst_u (e0 fun k hk => Classical.byContradiction fun q => by
            obtain ⟨j, hj, _⟩ := p6.2.2 k hk q
            omega) r3
        · rw [ex6]
          refine pst_u (e1 (ra k) ⟨(p6.1 k hk).1, (p6.1 k hk).2, fun l hl hlz hne => ?_⟩) r3
          obtain ⟨j, hj, ej⟩ := p6.2.2 l hl hlz
          rw [← ej]
          exact hmax j hj (fun q => hne (by rw [← ej, q]))
      · obtain ⟨w1, w2⟩ := p7 i (by omega)
        have hra := (p6.1 i (by omega)).1
        have take : (∀ l, l < i → ok hh a b (ra l) < ok hh a b (ra i)) → ∃ v_2 : Nat, xr T3 0 18 = some v_2 ∧ ∃ j_3 : Nat, j_3 < kl K2 v_2 ∧ x = nI j_3 ∧ ∃ v_4 : Nat, xr T3 v_2 j_3 = some v_4 ∧ ∃ v_5 : Nat, xr T3 v_4 0 = some v_5 ∧ ∃ j_6 : Nat, j_6 < kl K2 v_5 ∧ nI i = nI j_6 ∧ ∀ x7_1 : Int32, x7_1 = nI i + 1 → R (xi T3 v_5 j_6, x7_1) := fun hmax => ⟨gg, q1, r, by omega, er, vv, v1, va, p1, i, by omega, rfl, fun x7 e7 => by
          subst e7
          refine hR (by omega) _ ⟨by rw [li_1, nI_add], Or.inr ⟨i, by omega, w1, fun l hl hne => hmax l (by omega)⟩⟩⟩
        rcases hx6 with ⟨i0, ex6⟩ | ⟨k, hk, ex6, hmax⟩
        · subst ex6
          refine ⟨fun _ => take (fun l hl => absurd hl (by omega)), fun q => absurd rfl q⟩
        · have hrk := (p6.1 k (by omega)).1
          subst ex6
          refine ⟨fun q => absurd q (n_m2 (by omega)), fun _ => ⟨gg, q1, r, by omega, er, vv, v1, va, p1, i, by omega, rfl, ?_⟩⟩
          rw [w1]
          refine xs_key v o2 (by omega) (xs_key v o2 (by omega) ?_)
          have b1 := ok_lt v (ra i)
          have b2 := ok_lt v (ra k)
          rw [nI_leI (by omega) (by omega)]
          refine ⟨fun c4 x7 e7 => ?_, fun c4 => take (fun l hl => ?_)⟩
          · subst e7
            refine hR (by omega) _ ⟨by rw [li_1, nI_add], Or.inr ⟨k, by omega, rfl, fun l hl hne => ?_⟩⟩
            by_cases ql : l = i
            · subst ql
              have : ok hh a b (ra l) ≠ ok hh a b (ra k) := fun e => isr_ne p6 (show k < l by omega) (by omega) (ok_inj v hrk hra e.symm)
              omega
            · exact hmax l (by omega) hne
          · by_cases ql : l = k
            · rw [ql]; omega
            · have := hmax l hl ql
              omega
  refine xs_is l1 (by omega) a1 (fun q => tail 0 ⟨fun c => absurd rfl c, fun c => absurd (all1.2 c) q⟩) (fun q => tail 1 ⟨fun _ => all1.1 q, fun _ => by decide⟩)
theorem xc_term {A : AB} {K : XK} {T : XT} {x y z : Int32} {Z Y : Nat} {post : Int32 → XT → XK → Prop} (h : rx A K T) (hw : wf A) (hZ : kc K + 1 ≤ Z) (hY : ks K + 1 ≤ Y) (h0 : ¬ (aN A 0 = 1 ∧ ∃ r k w, r < 8 ∧ k < cn (aR A r) 4096 ∧ w < 5 ∧ x = nI r ∧ y = nI k ∧ z = nI w) → pst (aS A 1 (-1)) (-1) Z Y post)
    (h1 : aN A 0 = 1 → ∀ a r k w, isr (aOk A) (aR A r) (cn (aR A r) 4096) a → r < 8 → k < cn (aR A r) 4096 → w < 5 → x = nI r → y = nI k → z = nI w → pst (aS A 0 (-1)) (nI (trm (aR A r) a k w)) Z Y post) : wx1_term x y z K T Z Y post := by
  unfold wx1_term wx1_term_j59
  refine xv1 hZ hY (fun K1 T1 f1 k1 l1 a1 c1 s1 z1 => ?_)
  have g := rx_keep h f1 k1
  refine xs_is l1 (by omega) a1 (fun q => b01 rfl (xh_bad g hw (fun T2 r2 => b11 rfl (pst_u (h0 fun ⟨_, r, k, w, q1, q2, q3, q4, _⟩ => q (all1.2 ⟨r, by omega, q4⟩)) r2)))) (fun q => b11 rfl ?_)
  obtain ⟨r, hr, er⟩ := all1.1 q
  obtain ⟨gg, q1, q2, q3⟩ := rx_reg g
  obtain ⟨v, v1, v2⟩ := q3 r (by omega)
  have hcn := cn_le (aR A r) 4096
  refine ⟨gg, q1, r, by omega, er, v, v1, ?_⟩
  rw [ply_n v2]
  have hru : ∀ {r'}, r' < 8 → x = nI r' → r = r' := fun hh e => by rwa [er, nI_eq (by omega) (by omega)] at e
  refine xs_inlt (by omega) (fun c => b01 rfl (xh_bad g hw (fun T2 r2 => b11 rfl (pst_u (h0 fun ⟨_, r', k, w, q1, q2, q3, q4, q5, _⟩ => c ⟨k, by have := hru q1 q4; subst this; exact q2, q5⟩) r2)))) (fun k hk ek => b11 rfl ?_)
  refine xs_inr (n := 4) rfl (by omega) (fun c => b01 rfl (xh_bad g hw (fun T2 r2 => b11 rfl (pst_u (h0 fun ⟨_, r', k, w, q1, q2, q3, q4, q5, q6⟩ => c ⟨w, by omega, q6⟩) r2)))) (fun w hw4 ew => b11 rfl ?_)
  refine xh_ok g hw (fun c T2 r2 => b11 rfl (pst_u (h0 fun w3 => c w3.1) r2)) (fun ht T2 f2 r2 => b01 rfl ?_)
  obtain ⟨gg, q1, q2, q3⟩ := rx_reg r2
  obtain ⟨v, v1, v2⟩ := q3 r (by omega)
  have v2 : ply (aOk A) (aN A 1) K1 T2 v (aR A r) := v2
  refine ⟨gg, q1, r, by omega, er, v, v1, ?_⟩
  obtain ⟨va, vb, n, ra, p1, p2, p3, p4, p5, p6, p7, p8, p9, p10, p11⟩ := v2
  have en := isr_cn p6
  rw [← en] at hk hcn
  have p6' := p6
  rw [en] at p6'
  have fin := h1 ht ra r k w p6' (by omega) (by omega) (by omega) er ek ew
  subst ek ew
  have ha := (p6.1 k hk).1
  obtain ⟨w1, w2⟩ := p7 k hk
  unfold trm at fin
  rw [li_0, nI_eq (by omega) (by omega), li_4, nI_eq (by omega) (by omega)]
  refine ⟨fun w0 => ⟨fun w4 => ⟨va, p1, k, by omega, rfl, ?_⟩, fun w4 => ⟨va, p1, k, by omega, rfl, ?_⟩⟩, fun w0 => ⟨vb, p2, k, by omega, rfl, ?_⟩⟩
  · rw [if_neg w0, if_neg w4] at fin
    rw [w1, li_1, pk_sub (by omega)]
    exact xs_exponent (by omega) (by omega) (pst_u fin r2)
  · rw [if_neg w0, if_pos w4] at fin
    rw [w1]
    exact xs_sum (by omega) (pst_u fin r2)
  · rw [if_pos w0] at fin
    rw [w2]
    exact pst_u fin r2
