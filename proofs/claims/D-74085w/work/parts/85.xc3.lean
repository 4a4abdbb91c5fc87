set_option maxRecDepth 100000
theorem xh2 {A : AB} {K : XK} {T : XT} {x y : Int32} {P : Int32 → XT → Prop} (h : rx A K T) (hw : wf A) (h1 : ¬ (aN A 0 = 1 ∧ x ≠ 0) → ∀ T', rx (aS A 1 (-1)) K T' → P 1 T') (h2 : aN A 0 = 1 → x ≠ 0 → y = 0 → ∀ T', rx (aS A 2 (-1)) K T' → P 1 T') (h0 : aN A 0 = 1 → x ≠ 0 → y ≠ 0 → ∀ T', xf (fun k => k = 0) T T' → rx (aS A 0 (-1)) K T' → P 0 T') : wx1_why_2 x y K T (fun r => wx1_isRefused r K T P) := xs_why2 h hw (fun q => xs_isRefused h (by decide) (fun w => absurd w (by decide)) (fun _ T' _ hr => h1 q T' hr)) (fun a b c => xs_isRefused h (by decide) (fun w => absurd w (by decide)) (fun _ T' _ hr => h2 a b c T' hr)) (fun a b c => xs_isRefused h (by decide) (fun _ T' f hr => h0 a b c T' f hr) (fun w => absurd rfl w))
theorem all1 {a : Int32} {n : Nat} : (∀ j, j < 1 → inr (([a] : List Int32).getD j 0) n) ↔ inr a n := ⟨fun q => q 0 (by omega), fun q j hj => by rw [show j = 0 by omega]; exact q⟩
theorem all2 {a b : Int32} {n : Nat} : (∀ j, j < 2 → inr (([a, b] : List Int32).getD j 0) n) ↔ (inr a n ∧ inr b n) := ⟨fun q => ⟨q 0 (by omega), q 1 (by omega)⟩, fun q j hj => by
  have : j = 0 ∨ j = 1 := by omega
  rcases this with e | e <;> subst e
  · exact q.1
  · exact q.2⟩
theorem all3 {a b c : Int32} {n : Nat} : (∀ j, j < 3 → inr (([a, b, c] : List Int32).getD j 0) n) ↔ (inr a n ∧ inr b n ∧ inr c n) := ⟨fun q => ⟨q 0 (by omega), q 1 (by omega), q 2 (by omega)⟩, fun q j hj => by
  have : j = 0 ∨ j = 1 ∨ j = 2 := by omega
  rcases this with e | e | e <;> subst e
  · exact q.1
  · exact q.2.1
  · exact q.2.2⟩
theorem all6 {a b c d e f : Int32} {n : Nat} : (∀ j, j < 6 → inr (([a, b, c, d, e, f] : List Int32).getD j 0) n) ↔ (inr a n ∧ inr b n ∧ inr c n ∧ inr d n ∧ inr e n ∧ inr f n) := ⟨fun q => ⟨q 0 (by omega), q 1 (by omega), q 2 (by omega), q 3 (by omega), q 4 (by omega), q 5 (by omega)⟩, fun q j hj => by
  have : j = 0 ∨ j = 1 ∨ j = 2 ∨ j = 3 ∨ j = 4 ∨ j = 5 := by omega
  rcases this with e | e | e | e | e | e <;> subst e
  · exact q.1
  · exact q.2.1
  · exact q.2.2.1
  · exact q.2.2.2.1
  · exact q.2.2.2.2.1
  · exact q.2.2.2.2.2⟩
theorem rx_p {A : AB} {K : XK} {T : XT} (h : rx A K T) (ht : aN A 0 = 1) : xi T 0 0 = nI (aN A 1) := (h.2.2.2.2.2.2.2.2.1 ht).1
theorem xc_value {A : AB} {K : XK} {T : XT} {x a b c : Int32} {Z Y : Nat} {post : Int32 → XT → XK → Prop} (h : rx A K T) (hw : wf A) (hZ : kc K + 2 ≤ Z) (hY : ks K + 4 ≤ Y) (h0 : ¬ (aN A 0 = 1 ∧ inr x 7) → pst (aS A 1 (-1)) (-1) Z Y post) (h2 : aN A 0 = 1 → inr x 7 → ¬ (inr a (aN A 1 - 1) ∧ inr b (aN A 1 - 1) ∧ inr c (aN A 1 - 1)) → pst (aS A 2 (-1)) (-1) Z Y post)
    (h1 : aN A 0 = 1 → ∀ r i j k, r < 8 → i < aN A 1 → j < aN A 1 → k < aN A 1 → x = nI r → a = nI i → b = nI j → c = nI k → pst (aS A 0 (-1)) (nI (vl (aN A 1) (aR A r) i j k)) Z Y post) : wx1_value x a b c K T Z Y post := by
  unfold wx1_value
  refine xv1 (by omega) (by omega) (fun K1 T1 f1 k1 l1 a1 c1 s1 z1 => ?_)
  have g1 := rx_keep h f1 k1
  have tail : ∀ rr : Int32, (rr ≠ 0 ↔ inr x 7) → kc K1 + 1 ≤ Z ∧ ks K1 + 3 ≤ Y ∧ ∀ K_8 : XK, K_8 = knew K1 1 3 3 → ∀ T_9 : XT, T_9 = xnil T1 (kz K1) → ∃ j_10 : Nat, j_10 < kl K_8 (kz K1) ∧ 0 = nI j_10 ∧ ∀ T_11 : XT, T_11 = xwi T_9 (kz K1) j_10 a → ∃ j_12 : Nat, j_12 < kl K_8 (kz K1) ∧ 1 = nI j_12 ∧ ∀ T_13 : XT, T_13 = xwi T_11 (kz K1) j_12 b → ∃ j_14 : Nat, j_14 < kl K_8 (kz K1) ∧ 2 = nI j_14 ∧ ∀ T_15 : XT, T_15 = xwi T_13 (kz K1) j_14 c → wx1_areValues (kz K1) K_8 T_15 fun r_16 => wx1_why_2 rr r_16 K_8 T_15 fun r_19 => wx1_isRefused r_19 K_8 T_15 fun r_22 T_23 => (r_22 = 0 → ∃ v_25 : Nat, xr T_23 0 18 = some v_25 ∧ ∃ j_26 : Nat, j_26 < kl K_8 v_25 ∧ x = nI j_26 ∧ ∃ v_27 : Nat, xr T_23 v_25 j_26 = some v_27 ∧ wx1_valueOf v_27 a b c K_8 T_23 fun r_28 => post r_28 T_23 (kset K_8 Z Y)) ∧ (¬ r_22 = 0 → post (-1) T_23 (kset K_8 Z Y)) := by
    intro rr hrr
    refine xv3 (by omega) (by omega) (fun K2 T2 f2 k2 l2 a2 c2 s2 z2 => ?_)
    have g2 := rx_keep g1 f2 k2
    by_cases ht : aN A 0 = 1
    · have hp := (hw.2.2.2.2 ht).1
      have hp1 := hp.1
      have hp2 := hp.2.1
      refine xs_areValues l2 (by omega) (by omega) hp2 (rx_p g2 ht) a2 (fun q => ?_) (fun q => ?_)
      · rw [all3] at q
        exact xh2 g2 hw (fun w T' r' => b11 rfl (pst_u (h0 fun w3 => w ⟨w3.1, hrr.2 w3.2⟩) r')) (fun _ w1 _ T' r' => b11 rfl (pst_u (h2 ht (hrr.1 w1) q) r')) (fun _ _ w => absurd rfl w)
      · rw [all3] at q
        refine xh2 g2 hw (fun w T' r' => b11 rfl (pst_u (h0 fun w3 => w ⟨w3.1, hrr.2 w3.2⟩) r')) (fun _ _ w => absurd w (by decide)) (fun _ w1 _ T3 f3 r3 => b01 rfl ?_)
        obtain ⟨r, hr, er⟩ := hrr.1 w1
        obtain ⟨⟨i, hi, ei⟩, ⟨j, hj, ej⟩, ⟨k, hk, ek⟩⟩ := q
        obtain ⟨gg, q1, q2, q3⟩ := rx_reg r3
        obtain ⟨v, v1, v2⟩ := q3 r (by omega)
        have fin := h1 ht r i j k (by omega) (by omega) (by omega) (by omega) er ei ej ek
        refine ⟨gg, q1, r, by omega, er, v, v1, ?_⟩
        subst ei ej ek
        have v2 : ply (aOk A) (aN A 1) K2 T3 v (aR A r) := v2
        have hp0 : xi T3 0 0 = nI (aN A 1) := rx_p (A := aS A 0 (-1)) r3 ht
        exact xs_valueOf v2 hp hp0 (by omega) (by omega) (by omega) (pst_u fin r3)
    · have bad : ∀ y : Int32, wx1_why_2 rr y K2 T2 fun r_19 => wx1_isRefused r_19 K2 T2 fun r_22 T_23 => (r_22 = 0 → ∃ v_25 : Nat, xr T_23 0 18 = some v_25 ∧ ∃ j_26 : Nat, j_26 < kl K2 v_25 ∧ x = nI j_26 ∧ ∃ v_27 : Nat, xr T_23 v_25 j_26 = some v_27 ∧ wx1_valueOf v_27 a b c K2 T_23 fun r_28 => post r_28 T_23 (kset K2 Z Y)) ∧ (¬ r_22 = 0 → post (-1) T_23 (kset K2 Z Y)) := fun y => xh2 g2 hw (fun w T' r' => b11 rfl (pst_u (h0 fun w3 => ht w3.1) r')) (fun w => absurd w ht) (fun w => absurd w ht)
      exact xs_areValues_any l2 (by omega) (bad 0) (bad 1)
  refine xs_is l1 (by omega) a1 (fun q => tail 0 ⟨fun w => absurd rfl w, fun w => absurd (all1.2 w) q⟩) (fun q => tail 1 ⟨fun _ => all1.1 q, fun _ => by decide⟩)
theorem ns_cat (f : Nat → Nat) (n m : Nat) : ns f (n + m) = ns f n + ns (fun i => f (n + i)) m := by
  induction m with
  | zero => rfl
  | succ m ih =>
    show ns f (n + m) + f (n + m) = _
    rw [ih, ns_s, Nat.add_assoc]
theorem ns_prod (g : Nat → Nat → Nat) {X : Nat} (hX : 0 < X) (M : Nat) : ns (fun k => g (k % X) (k / X)) (X * M) = ns (fun j => ns (fun i => g i j) X) M := by
  induction M with
  | zero => rfl
  | succ M ih =>
    rw [Nat.mul_succ, ns_cat, ih, ns_s]
    congr 1
    refine ns_ext (fun i hi => ?_)
    rw [Nat.mul_add_mod, Nat.mod_eq_of_lt hi, Nat.mul_add_div hX, Nat.div_eq_of_lt hi, Nat.add_zero]
theorem rts_flat {p : Nat} {f : Nat → Nat} {X Y Z : Nat} (hX : 0 < X) (hY : 0 < Y) : rts p f X Y Z = ns (fun k => if vl p f (k % X) (k / X % Y) (k / X / Y) = 0 then 1 else 0) (X * Y * Z) := by
  rw [Nat.mul_assoc, ns_prod (fun i j => if vl p f i (j % Y) (j / Y) = 0 then 1 else 0) hX (Y * Z)]
  unfold rts
  rw [ns_swap (fun j i => if vl p f i (j % Y) (j / Y) = 0 then 1 else 0) (Y * Z) X]
  refine ns_ext (fun i _ => ?_)
  rw [ns_prod (fun b c => if vl p f i b c = 0 then 1 else 0) hY Z, ns_swap]
theorem xc_roots {A : AB} {K : XK} {T : XT} {x : Int32} {Z Y : Nat} {post : Int32 → XT → XK → Prop} (h : rx A K T) (hw : wf A) (hZ : kc K + 1 ≤ Z) (hY : ks K + 1 ≤ Y) (h0 : ¬ (aN A 0 = 1 ∧ inr x 7) → pst (aS A 1 (-1)) (-1) Z Y post)
    (h1 : aN A 0 = 1 → ∀ r, r < 8 → x = nI r → ∀ X W V, X = wd (aN A 1) (aR A r) 0 → W = wd (aN A 1) (aR A r) 1 → V = wd (aN A 1) (aR A r) 2 → (10000 < X * W * V → pst (aS A 5 (-1)) (-1) Z Y post) ∧ (X * W * V ≤ 10000 → pst (aS A 0 (-1)) (nI (rts (aN A 1) (aR A r) X W V)) Z Y post)) : wx1_roots x K T Z Y post := by
  unfold wx1_roots
  refine xv1 hZ hY (fun K1 T1 f1 k1 l1 a1 c1 s1 z1 => ?_)
  have g := rx_keep h f1 k1
  refine xh_is g hw l1 (by omega) a1 (fun q T2 r2 => b11 rfl (pst_u (h0 fun w => q ⟨w.1, all1.2 w.2⟩) r2)) (fun ht q T2 f2 r2 => b01 rfl ?_)
  obtain ⟨r, hr, er⟩ := all1.1 q
  obtain ⟨gg, q1, q2, q3⟩ := rx_reg r2
  obtain ⟨v, v1, v2⟩ := q3 r (by omega)
  have v2 : ply (aOk A) (aN A 1) K1 T2 v (aR A r) := v2
  refine ⟨gg, q1, r, by omega, er, v, v1, ?_⟩
  obtain ⟨f5, f1'⟩ := h1 ht r (by omega) er _ _ _ rfl rfl rfl
  have hp := (hw.2.2.2.2 ht).1
  have hp0 := rx_p r2 ht
  have hp0 : xi T2 0 0 = nI (aN A 1) := hp0
  have B : ∀ u, -2 ≤ mx (fun k => ex k u) (aR A r) 4096 ∧ mx (fun k => ex k u) (aR A r) 4096 ≤ 15 := fun u => mx_b (B := 15) (fun k => Nat.le_of_lt_succ (ex_lt k u)) 4096
  have bX := wd_b hp (aR A r) 0
  have bY := wd_b hp (aR A r) 1
  have bZ := wd_b hp (aR A r) 2
  have J83 : wx1_roots_j83 x Z Y post v (nI (wd (aN A 1) (aR A r) 0)) (nI (wd (aN A 1) (aR A r) 1)) (nI (wd (aN A 1) (aR A r) 2)) K1 T2 := by
    unfold wx1_roots_j83
    generalize wd (aN A 1) (aR A r) 0 = X at *
    generalize wd (aN A 1) (aR A r) 1 = W at *
    generalize wd (aN A 1) (aR A r) 2 = V at *
    have hm : X * W * V ≤ 97 * 97 * 97 := Nat.mul_le_mul (Nat.mul_le_mul bX.2.1 bY.2.1) bZ.2.1
    rw [pk_mul, pk_mul, li_10000, nI_leI (by omega) (by omega)]
    refine ⟨fun c => ?_, fun c => xs_no r2 (by decide) (fun T' r' => pst_u (f5 (by omega)) (by rw [aS_aS] at r'; exact r'))⟩
    have fin := f1' c
    rw [rts_flat (by omega) (by omega)] at fin
    unfold wx1_roots_l108
    refine wl_up (X * W * V) (fun i w => w = (nI (ns (fun k => if vl (aN A 1) (aR A r) (k % X) (k / X % W) (k / X / W) = 0 then 1 else 0) i), nI i)) 0 (by omega) rfl ?_
    rintro i w hi rfl R hR
    unfold wx1_roots_b108 wx1_roots_j156
    dsimp only
    rw [pk_mul, pk_mul, nI_leI (by omega) (by omega)]
    refine ⟨fun c2 => by rw [show i = X * W * V by omega]; exact pst_u fin r2, fun c2 => ?_⟩
    have nX : ¬ nI X = 0 := by rw [li_0, nI_eq (by omega) (by omega)]; omega
    have nW : ¬ nI W = 0 := by rw [li_0, nI_eq (by omega) (by omega)]; omega
    refine ⟨nX, nX, nW, nX, nW, ?_⟩
    have d1 : i / X < W * V := (Nat.div_lt_iff_lt_mul (by omega)).2 (by rw [Nat.mul_comm, ← Nat.mul_assoc]; omega)
    have d2 : i / X / W < V := (Nat.div_lt_iff_lt_mul (by omega)).2 (by rw [Nat.mul_comm]; exact d1)
    have m1 := Nat.mod_lt i (show 0 < X by omega)
    have m2 := Nat.mod_lt (i / X) (show 0 < W by omega)
    have d3 : i / X ≤ i := Nat.div_le_self _ _
    rw [n_rem (by omega) (by omega) (by omega), n_div (by omega) (by omega) (by omega), n_rem (by omega) (by omega) (by omega), n_div (by omega) (by omega) (by omega)]
    refine xs_valueOf v2 hp hp0 (by omega) (by omega) (by omega) ?_
    have hv := vl_lt (f := aR A r) (a := i % X) (b := i / X % W) (c := i / X / W) hp
    have hp97 := hp.2.1
    rw [li_0, nI_eq (by omega) (by omega)]
    refine ⟨fun d x5 e5 x8 e8 => ?_, fun d x5 e5 x8 e8 => ?_⟩
    · subst e5 e8
      exact hR (by omega) _ (by rw [li_1, nI_add, nI_add, ns_s, if_neg d])
    · subst e5 e8
      exact hR (by omega) _ (by rw [li_1, nI_add, nI_add, ns_s, if_pos d])
  have J65 : wx1_roots_j65 x Z Y post v (nI (wd (aN A 1) (aR A r) 0)) (nI (wd (aN A 1) (aR A r) 1)) K1 T2 := by
    unfold wx1_roots_j65
    rw [li_2]
    refine xs_most v2 (by omega) ?_
    have := B 2
    rw [z_le0 (by omega)]
    refine ⟨fun c => ?_, fun c => ?_⟩
    · have e : wd (aN A 1) (aR A r) 2 = 1 := if_pos c
      rw [e] at J83
      exact J83
    · have e : wd (aN A 1) (aR A r) 2 = aN A 1 := if_neg c
      rw [e] at J83
      rw [hp0]
      exact J83
  have J47 : wx1_roots_j47 x Z Y post v (nI (wd (aN A 1) (aR A r) 0)) K1 T2 := by
    unfold wx1_roots_j47
    rw [li_1]
    refine xs_most v2 (by omega) ?_
    have := B 1
    rw [z_le0 (by omega)]
    refine ⟨fun c => ?_, fun c => ?_⟩
    · have e : wd (aN A 1) (aR A r) 1 = 1 := if_pos c
      rw [e] at J65
      exact J65
    · have e : wd (aN A 1) (aR A r) 1 = aN A 1 := if_neg c
      rw [e] at J65
      rw [hp0]
      exact J65
  rw [li_0]
  refine xs_most v2 (by omega) ?_
  have := B 0
  rw [← li_0, z_le0 (by omega)]
  refine ⟨fun c => ?_, fun c => ?_⟩
  · have e : wd (aN A 1) (aR A r) 0 = 1 := if_pos c
    rw [e] at J47
    exact J47
  · have e : wd (aN A 1) (aR A r) 0 = aN A 1 := if_neg c
    rw [e] at J47
    rw [hp0]
    exact J47
theorem xs_isLike {o : Nat → Nat} {p : Nat} {K : XK} {T : XT} {v w : Nat} {f g : Nat → Nat} {post : Int32 → Prop} (h : ply o p K T v f) (h' : ply o p K T w g) (hp : p ≤ 97) (h1 : (∀ k, k < 4096 → f k = g k) → post 1) (h0 : ¬ (∀ k, k < 4096 → f k = g k) → post 0) : wx6_isLike v w K T post := by
  obtain ⟨va, vb, n, a, p1, p2, p3, p4, p5, p6, p7, p8, p9, p10, p11⟩ := h
  obtain ⟨wa, wb, m, b, q1, q2, q3, q4, q5, q6, q7, q8, q9, q10, q11⟩ := h'
  have hn : n ≤ 4096 := by rw [isr_cn p6]; exact cn_le _ _
  have hm : m ≤ 4096 := by rw [isr_cn q6]; exact cn_le _ _
  have key : (∀ k, k < 4096 → f k = g k) → n = m ∧ ∀ i, i < n → a i = b i := fun e => isr_uni (isr_ext p6 (fun k hk => by rw [e k hk])) q6
  unfold wx6_isLike
  rw [p3, q3, nI_eq (by omega) (by omega)]
  refine ⟨fun e => ?_, fun e => h0 fun z => e (key z).1⟩
  subst e
  unfold wx6_isLike_l15
  refine wl_up n (fun i x => x = nI i ∧ ∀ j, j < i → a j = b j ∧ f (a j) = g (b j)) 0 (by omega) ⟨rfl, fun j hj => absurd hj (by omega)⟩ ?_
  rintro i x hi ⟨rfl, hs⟩ R hR
  unfold wx6_isLike_b15
  rw [p3, nI_leI (by omega) (by omega)]
  refine ⟨fun c => h1 fun k hk => ?_, fun c => ⟨va, p1, i, by omega, rfl, wa, q1, i, by omega, rfl, ?_⟩⟩
  · by_cases z : f k = 0
    · by_cases z2 : g k = 0
      · rw [z, z2]
      · obtain ⟨j, hj, e⟩ := q6.2.2 k hk z2
        obtain ⟨s1, s2⟩ := hs j (by omega)
        rw [s1, e] at s2
        exact s2
    · obtain ⟨j, hj, e⟩ := p6.2.2 k hk z
      obtain ⟨s1, s2⟩ := hs j (by omega)
      rw [← s1, e] at s2
      exact s2
  · have ha := (p6.1 i (by omega)).1
    have hb := (q6.1 i (by omega)).1
    have hfa := p8 _ ha
    have hgb := q8 _ hb
    rw [(p7 i (by omega)).1, (q7 i (by omega)).1, nI_eq (by omega) (by omega)]
    refine ⟨fun d => h0 fun z => d ((key z).2 i (by omega)), fun d => ⟨vb, p2, i, by omega, rfl, wb, q2, i, by omega, rfl, ?_⟩⟩
    rw [(p7 i (by omega)).2, (q7 i (by omega)).2, nI_eq (by omega) (by omega)]
    refine ⟨fun d2 x ex => ?_, fun d2 => h0 fun z => d2 (by rw [← d]; exact z _ ha)⟩
    subst ex
    refine hR (by omega) _ ⟨by rw [li_1, nI_add], fun j hj => ?_⟩
    by_cases e : j = i
    · rw [e]; exact ⟨d, d2⟩
    · exact hs j (by omega)
theorem xc_same {A : AB} {K : XK} {T : XT} {x y : Int32} {Z Y : Nat} {post : Int32 → XT → XK → Prop} (h : rx A K T) (hw : wf A) (hZ : kc K + 1 ≤ Z) (hY : ks K + 2 ≤ Y) (h0 : ¬ (aN A 0 = 1 ∧ inr x 7 ∧ inr y 7) → pst (aS A 1 (-1)) (-1) Z Y post) (h1 : aN A 0 = 1 → ∀ r q, r < 8 → q < 8 → x = nI r → y = nI q → ((∀ k, k < 4096 → aR A r k = aR A q k) → pst (aS A 0 (-1)) 1 Z Y post) ∧ (¬ (∀ k, k < 4096 → aR A r k = aR A q k) → pst (aS A 0 (-1)) 0 Z Y post)) : wx1_same x y K T Z Y post := by
  unfold wx1_same
  refine xv2 hZ hY (fun K1 T1 f1 k1 l1 a1 c1 s1 z1 => ?_)
  have g := rx_keep h f1 k1
  refine xh_is g hw l1 (by omega) a1 (fun q T2 r2 => b11 rfl (pst_u (h0 fun w => q ⟨w.1, all2.2 w.2⟩) r2)) (fun ht q T2 f2 r2 => b01 rfl ?_)
  obtain ⟨⟨r, hr, er⟩, ⟨s, hs, es⟩⟩ := all2.1 q
  obtain ⟨gg, q1, q2, q3⟩ := rx_reg r2
  obtain ⟨v, v1, v2⟩ := q3 r (by omega)
  obtain ⟨w, w1, w2⟩ := q3 s (by omega)
  obtain ⟨e1, e0⟩ := h1 ht r s (by omega) (by omega) er es
  have hp := (hw.2.2.2.2 ht).1
  refine ⟨gg, q1, r, by omega, er, v, v1, gg, q1, s, by omega, es, w, w1, xs_isLike v2 w2 hp.2.1 (fun c => b11 rfl (pst_u (e1 c) r2)) (fun c => b01 rfl (pst_u (e0 c) r2))⟩
