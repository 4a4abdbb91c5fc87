set_option maxRecDepth 100000
theorem xs_fill {K : XK} {T : XT} {v : Nat} {x : Int32} {post : XT → Prop} (hl : kl K v < 2 ^ 31) (hp : ∀ T', xf (fun k => k = v) T T' → xr T' v = xr T v → (∀ j, j < kl K v → xi T' v j = x) → (∀ j, kl K v ≤ j → xi T' v j = xi T v j) → post T') : wxJ3_fill_2 v x K T post := by
  unfold wxJ3_fill_2
  intro x3 e3
  subst e3
  unfold wxJ3_fill_2_l5
  refine wl_up (kl K v) (fun i w => w.1 = nI i ∧ xf (fun k => k = v) T w.2 ∧ xr w.2 v = xr T v ∧ (∀ j, j < i → xi w.2 v j = x) ∧ ∀ j, i ≤ j → xi w.2 v j = xi T v j) 0 (by omega) ⟨rfl, xf_rfl _ _, rfl, fun j hj => absurd hj (by omega), fun _ _ => rfl⟩ ?_
  rintro i ⟨x2, T1⟩ hi ⟨hx, f1, r1, l1, o1⟩ R hR
  dsimp only at hx f1 r1 l1 o1
  subst hx
  unfold wxJ3_fill_2_b5
  dsimp only
  rw [nI_leI (by omega) (by omega)]
  refine ⟨fun c => hp T1 f1 r1 (fun j hj => l1 j (by omega)) (fun j hj => o1 j (by omega)), fun c => ⟨i, by omega, rfl, fun T2 e2 x2 ex2 => ?_⟩⟩
  subst ex2
  refine hR (by omega) _ ⟨by rw [li_1, nI_add], by rw [e2]; exact xf_tr f1 (xf_wi rfl), by rw [e2]; exact r1, fun j hj => ?_, fun j hj => ?_⟩
  · show xi T2 v j = x
    rw [e2, xi_wi]
    by_cases q : j = i
    · rw [if_pos ⟨rfl, q⟩]
    · rw [if_neg (fun z => q z.2)]; exact l1 j (by omega)
  · show xi T2 v j = _
    rw [e2, xi_wi, if_neg (by omega)]; exact o1 j (by omega)
theorem xs_blank {K : XK} {T : XT} {post : Nat → XT → Prop} (hl : kl K 2 = 4096) (hp : ∀ T', xf (fun k => k = 2) T T' → (∀ j, j < 4096 → xi T' 2 j = nI 0) → post 2 T') : wx1_blank K T post := by
  unfold wx1_blank
  refine xs_fill (by omega) (fun T' f r l _ => hp T' f (fun j hj => ?_))
  rw [l j (by omega)]; rfl
theorem xf_sc {K : XK} {T T' : XT} {k : Nat} (hk : xsc K k) (h : xf (fun j => j = k) T T') : xf (xsc K) T T' := xf_mono h (fun j e => by rw [e]; exact hk)
theorem xs_spread {o : Nat → Nat} {p : Nat} {K : XK} {T : XT} {v : Nat} {f : Nat → Nat} {post : Nat → XT → Prop} (h : ply o p K T v f) (hl : kl K 2 = 4096) (hp : ∀ T', xf (fun k => k = 2) T T' → (∀ k, k < 4096 → xi T' 2 k = nI (f k)) → post 2 T') : wx1_spread v K T post := by
  obtain ⟨va, vb, n, a, h1, h2, h3, h4, h5, h6, h7, h8, h9, h10, h11⟩ := h
  have hn : n ≤ 4096 := by rw [isr_cn h6]; exact cn_le _ _
  unfold wx1_spread
  refine xs_blank hl (fun T1 f1 z1 => ?_)
  unfold wx1_spread_l7
  refine wl_up n (fun i w => w.1 = nI i ∧ xf (fun k => k = 2) T w.2 ∧ (∀ j, j < i → xi w.2 2 (a j) = nI (f (a j))) ∧ ∀ k, k < 4096 → (∀ j, j < i → a j ≠ k) → xi w.2 2 k = nI 0) 0 (by omega) ⟨rfl, f1, fun j hj => absurd hj (by omega), fun k hk _ => z1 k hk⟩ ?_
  rintro i ⟨x3, T2⟩ hi ⟨hx, f2, l2, o2⟩ R hR
  dsimp only at hx f2 l2 o2
  subst hx
  have ev := f2 v (by omega)
  have eva := f2 va (by omega)
  have evb := f2 vb (by omega)
  unfold wx1_spread_b7
  dsimp only
  rw [ev.1, ev.2, h3, nI_leI (by omega) (by omega)]
  refine ⟨fun c => hp T2 f2 (fun k hk => ?_), fun c => ⟨va, h1, i, by omega, rfl, vb, h2, i, by omega, rfl, ?_⟩⟩
  · by_cases q : f k = 0
    · rw [o2 k hk (fun j hj e => by have := (h6.1 j (by omega)).2; rw [e] at this; exact this q), q]
    · obtain ⟨j, hj, e⟩ := h6.2.2 k hk q
      rw [← e]; exact l2 j (by omega)
  · obtain ⟨w1, w2⟩ := h7 i (by omega)
    have ha := (h6.1 i (by omega)).1
    rw [eva.1, evb.1, w1, w2]
    refine ⟨a i, by rw [hl]; exact ha, rfl, fun T3 e3 x3 ex3 => ?_⟩
    subst ex3
    refine hR (by omega) _ ⟨by rw [li_1, nI_add], by rw [e3]; exact xf_tr f2 (xf_wi rfl), fun j hj => ?_, fun k hk hne => ?_⟩
    · show xi T3 2 (a j) = _
      rw [e3, xi_wi]
      by_cases q : j = i
      · rw [if_pos ⟨rfl, by rw [q]⟩, q]
      · rw [if_neg (fun z => isr_ne h6 (show j < i by omega) (by omega) z.2)]; exact l2 j (by omega)
    · show xi T3 2 k = _
      rw [e3, xi_wi, if_neg (fun z => hne i (by omega) z.2.symm)]
      exact o2 k hk (fun j hj => hne j (by omega))
theorem xs_packed {x y z : Nat} {K : XK} {T : XT} {post : Int32 → Prop} (hx : x < 16) (hy : y < 16) (hz : z < 16) (h : post (nI (x + 16 * y + 256 * z))) : wx1_packed (nI x) (nI y) (nI z) K T post := sp_keyOf (S := fun _ _ => 0) hx hy hz h
theorem rx_l2 {A : AB} {K : XK} {T : XT} (h : rx A K T) : kl K 2 = 4096 := h.1.1 2 (by omega)
theorem xc_coefficient {A : AB} {K : XK} {T : XT} {x a b c : Int32} {Z Y : Nat} {post : Int32 → XT → XK → Prop} (h : rx A K T) (hw : wf A) (hZ : kc K + 2 ≤ Z) (hY : ks K + 4 ≤ Y) (h0 : ¬ (aN A 0 = 1 ∧ inr x 7) → pst (aS A 1 (-1)) (-1) Z Y post) (h2 : aN A 0 = 1 → inr x 7 → ¬ (inr a 15 ∧ inr b 15 ∧ inr c 15) → pst (aS A 2 (-1)) (-1) Z Y post)
    (h1 : aN A 0 = 1 → ∀ r i j k, r < 8 → i < 16 → j < 16 → k < 16 → x = nI r → a = nI i → b = nI j → c = nI k → pst (aS A 0 (-1)) (nI (aR A r (i + 16 * j + 256 * k))) Z Y post) : wx1_coefficient x a b c K T Z Y post := by
  unfold wx1_coefficient
  refine xv1 (by omega) (by omega) (fun K1 T1 f1 k1 l1 a1 c1 s1 z1 => ?_)
  have g1 := rx_keep h f1 k1
  have tail : ∀ rr : Int32, (rr ≠ 0 ↔ inr x 7) → kc K1 + 1 ≤ Z ∧ ks K1 + 3 ≤ Y ∧ ∀ K_8 : XK, K_8 = knew K1 1 3 3 → ∀ T_9 : XT, T_9 = xnil T1 (kz K1) → ∃ j_10 : Nat, j_10 < kl K_8 (kz K1) ∧ 0 = nI j_10 ∧ ∀ T_11 : XT, T_11 = xwi T_9 (kz K1) j_10 a → ∃ j_12 : Nat, j_12 < kl K_8 (kz K1) ∧ 1 = nI j_12 ∧ ∀ T_13 : XT, T_13 = xwi T_11 (kz K1) j_12 b → ∃ j_14 : Nat, j_14 < kl K_8 (kz K1) ∧ 2 = nI j_14 ∧ ∀ T_15 : XT, T_15 = xwi T_13 (kz K1) j_14 c → wx1_areExponents (kz K1) K_8 T_15 fun r_16 => wx1_why_2 rr r_16 K_8 T_15 fun r_19 => wx1_isRefused r_19 K_8 T_15 fun r_22 T_23 => (r_22 = 0 → ∃ v_25 : Nat, xr T_23 0 18 = some v_25 ∧ ∃ j_26 : Nat, j_26 < kl K_8 v_25 ∧ x = nI j_26 ∧ ∃ v_27 : Nat, xr T_23 v_25 j_26 = some v_27 ∧ wx1_spread v_27 K_8 T_23 fun r_28 T_29 => wx1_packed a b c K_8 T_29 fun r_31 => ∃ j_34 : Nat, j_34 < kl K_8 r_28 ∧ r_31 = nI j_34 ∧ post (xi T_29 r_28 j_34) T_29 (kset K_8 Z Y)) ∧ (¬ r_22 = 0 → post (-1) T_23 (kset K_8 Z Y)) := by
    intro rr hrr
    refine xv3 (by omega) (by omega) (fun K2 T2 f2 k2 l2 a2 c2 s2 z2 => ?_)
    have g2 := rx_keep g1 f2 k2
    have exps : (∀ j, j < 3 → inr (([a, b, c] : List Int32).getD j 0) 15) ↔ (inr a 15 ∧ inr b 15 ∧ inr c 15) := ⟨fun q => ⟨q 0 (by omega), q 1 (by omega), q 2 (by omega)⟩, fun q j hj => by
      have : j = 0 ∨ j = 1 ∨ j = 2 := by omega
      rcases this with e | e | e <;> subst e
      · exact q.1
      · exact q.2.1
      · exact q.2.2⟩
    refine xs_areExponents l2 (by omega) a2 (fun q => ?_) (fun q => ?_)
    · rw [exps] at q
      refine xs_why2 g2 hw (fun w => xs_isRefused g2 (by decide) (fun w2 => absurd w2 (by decide)) (fun _ T' _ hr => b11 rfl (pst_u (h0 fun w3 => w ⟨w3.1, hrr.2 w3.2⟩) hr))) (fun ht w1 _ => xs_isRefused g2 (by decide) (fun w2 => absurd w2 (by decide)) (fun _ T' _ hr => b11 rfl (pst_u (h2 ht (hrr.1 w1) q) hr))) (fun _ _ w => absurd rfl w)
    · rw [exps] at q
      refine xs_why2 g2 hw (fun w => xs_isRefused g2 (by decide) (fun w2 => absurd w2 (by decide)) (fun _ T' _ hr => b11 rfl (pst_u (h0 fun w3 => w ⟨w3.1, hrr.2 w3.2⟩) hr))) (fun _ _ w => absurd w (by decide)) (fun ht w1 _ => xs_isRefused g2 (by decide) (fun _ T3 f3 r3 => b01 rfl ?_) (fun w2 => absurd rfl w2))
      obtain ⟨r, hr, er⟩ := hrr.1 w1
      obtain ⟨⟨i, hi, ei⟩, ⟨j, hj, ej⟩, ⟨k, hk, ek⟩⟩ := q
      obtain ⟨gg, q1, q2, q3⟩ := rx_reg r3
      obtain ⟨v, v1, v2⟩ := q3 r (by omega)
      have fin := h1 ht r i j k (by omega) (by omega) (by omega) (by omega) er ei ej ek
      refine ⟨gg, q1, r, by omega, er, v, v1, xs_spread v2 (rx_l2 r3) (fun T4 f4 l4 => ?_)⟩
      subst ei ej ek
      refine xs_packed (by omega) (by omega) (by omega) ⟨i + 16 * j + 256 * k, by rw [rx_l2 r3]; omega, rfl, ?_⟩
      rw [l4 _ (by omega)]
      exact pst_u fin (rx_keep r3 (xf_sc (by unfold xsc; omega) f4) (kx_rfl _))
  refine xs_is l1 (by omega) a1 (fun q => tail 0 ⟨fun w => absurd rfl w, fun w => absurd (fun j hj => by rw [show j = 0 by omega]; exact w) q⟩) (fun q => tail 1 ⟨fun _ => q 0 (by omega), fun _ => by decide⟩)
theorem xs_power {p v n : Nat} {K : XK} {T : XT} {post : Int32 → Prop} (hp : pr p) (h5 : xi T 0 0 = nI p) (hv : v < p) (hn : n < 16) (h : post (nI (pw p v n))) : wx1_power (nI v) (nI n) K T post := by
  have h1 := hp.1
  have h97 := hp.2.1
  unfold wx1_power wx1_power_l5
  refine wl_up n (fun i w => w = (nI (pw p v i), nI i)) 0 (by omega) rfl ?_
  rintro i w hi rfl R hR
  unfold wx1_power_b5
  dsimp only
  rw [nI_leI (by omega) (by omega), h5]
  refine ⟨fun c => ?_, fun c => ⟨n_ne0 hp, fun x3 e3 x4 e4 => ?_⟩⟩
  · rw [show i = n by omega]; exact h
  · have hl := pw_lt (v := v) hp i
    have hm := mul97 (a := pw p v i) (b := v) (by omega) (by omega)
    rw [pk_mul, n_rem (by omega) (by omega) (by omega)] at e3
    subst e3 e4
    exact hR (by omega) _ (by rw [li_1, nI_add]; rfl)
theorem xs_valueOf {o : Nat → Nat} {p : Nat} {K : XK} {T : XT} {v : Nat} {f : Nat → Nat} {x y z : Nat} {post : Int32 → Prop} (h : ply o p K T v f) (hp : pr p) (h50 : xi T 0 0 = nI p) (hx : x < p) (hy : y < p) (hz : z < p) (hpo : post (nI (vl p f x y z))) : wx1_valueOf v (nI x) (nI y) (nI z) K T post := by
  have hp1 := hp.1
  have hp97 := hp.2.1
  obtain ⟨va, vb, n, a, h1, h2, h3, h4, h5, h6, h7, h8, h9, h10, h11⟩ := h
  have hn : n ≤ 4096 := by rw [isr_cn h6]; exact cn_le _ _
  unfold vl at hpo
  rw [← isr_sum h6] at hpo
  unfold wx1_valueOf wx1_valueOf_l6
  refine wl_up n (fun i w => w = (nI (ns (fun j => tv p f x y z (a j)) i % p), nI i)) 0 (by omega) (by rw [ns_z, Nat.zero_mod]; rfl) ?_
  rintro i w hi rfl R hR
  unfold wx1_valueOf_b6
  dsimp only
  rw [h3, nI_leI (by omega) (by omega)]
  refine ⟨fun c => by rw [show i = n by omega]; exact hpo, fun c => ⟨vb, h2, i, by omega, rfl, va, h1, i, by omega, rfl, ?_⟩⟩
  obtain ⟨w1, w2⟩ := h7 i (by omega)
  have ha := (h6.1 i (by omega)).1
  have hfa := h8 _ ha
  have l0 := ex_lt (a i) 0
  have l1 := ex_lt (a i) 1
  have l2 := ex_lt (a i) 2
  have q0 := pw_lt (v := x) hp (ex (a i) 0)
  have q1 := pw_lt (v := y) hp (ex (a i) 1)
  have q2 := pw_lt (v := z) hp (ex (a i) 2)
  rw [w1, w2, h50, li_0, li_1, li_2, h1]
  refine xs_exponent (by omega) (by omega) (xs_power hp h50 hx l0 ⟨n_ne0 hp, va, rfl, i, by omega, rfl, ?_⟩)
  rw [w1]
  refine xs_exponent (by omega) (by omega) (xs_power hp h50 hy l1 ⟨n_ne0 hp, va, rfl, i, by omega, rfl, ?_⟩)
  rw [w1]
  refine xs_exponent (by omega) (by omega) (xs_power hp h50 hz l2 ⟨n_ne0 hp, fun x5 e5 x6 e6 => ?_⟩)
  have m1 := mul97 (a := f (a i)) (b := pw p x (ex (a i) 0)) (by omega) (by omega)
  have r1 := Nat.mod_lt (f (a i) * pw p x (ex (a i) 0)) (show 0 < p by omega)
  have m2 := mul97 (a := f (a i) * pw p x (ex (a i) 0) % p) (b := pw p y (ex (a i) 1)) (by omega) (by omega)
  have r2 := Nat.mod_lt (f (a i) * pw p x (ex (a i) 0) % p * pw p y (ex (a i) 1)) (show 0 < p by omega)
  have m3 := mul97 (a := f (a i) * pw p x (ex (a i) 0) % p * pw p y (ex (a i) 1) % p) (b := pw p z (ex (a i) 2)) (by omega) (by omega)
  have r4 := Nat.mod_lt (ns (fun j => tv p f x y z (a j)) i) (show 0 < p by omega)
  rw [pk_mul, n_rem (by omega) (by omega) (by omega), pk_mul, n_rem (by omega) (by omega) (by omega), pk_mul, nI_add, n_rem (by omega) (by omega) (by omega)] at e5
  subst e5 e6
  refine hR (by omega) _ ?_
  rw [nI_add, ns_s, Nat.mod_add_mod]
  congr 2
  show _ = (ns _ i + f (a i) * pw p x (ex (a i) 0) % p * pw p y (ex (a i) 1) % p * pw p z (ex (a i) 2) % p) % p
  rw [Nat.add_mod_mod]
theorem xs_areValues_any {K : XK} {T : XT} {v n : Nat} {post : Int32 → Prop} (hl : kl K v = n) (hn : n < 8) (h0 : post 0) (h1 : post 1) : wx1_areValues v K T post := by
  unfold wx1_areValues
  intro x2 e2
  subst e2
  unfold wx1_areValues_l8
  rw [hl]
  refine wl_up n (fun i w => w = nI i) 0 (by omega) rfl ?_
  rintro i w hi rfl R hR
  unfold wx1_areValues_b8
  rw [nI_leI (by omega) (by omega), hl]
  refine ⟨fun c => h1, fun c => ⟨i, by omega, rfl, xs_in (fun _ => b02 rfl h0) (fun _ _ => b12 rfl (fun x ex => ?_))⟩⟩
  subst ex
  exact hR (by omega) _ (by rw [li_1, nI_add])
