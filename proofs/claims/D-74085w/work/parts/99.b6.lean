set_option maxRecDepth 100000
theorem qln (d : Nat) (hd : d < 8) : sln (17 + 3 * d + 1) = 61 ∧ sln (17 + 3 * d + 2) = 61 := by
  have : ∀ d, d < 8 → sln (17 + 3 * d + 1) = 61 ∧ sln (17 + 3 * d + 2) = 61 := by decide
  exact this d hd
theorem xc_quotient {A : AB} {K : XK} {T : XT} {x y u z : Int32} {Z Y : Nat} {post : Int32 → XT → XK → Prop} (h : rx A K T) (hw : wf A) (hZ : kc K + 10 ≤ Z) (hY : ks K + 1000 ≤ Y) (h0 : ¬ (aN A 0 = 1 ∧ inr x 7 ∧ inr u 7 ∧ inr z 7) → pst (aS A 1 (-1)) (-1) Z Y post) (h2 : aN A 0 = 1 → inr x 7 → inr z 7 → ∀ d, d < 8 → u = nI d → ¬ (∃ s, iset y s ∧ bit s d) → pst (aS A 2 (-1)) (-1) Z Y post) (h5 : aN A 0 = 1 → inr x 7 → inr z 7 → ∀ d s, d < 8 → u = nI d → iset y s → bit s d → hzr A s → pst (aS A 5 (-1)) (-1) Z Y post)
    (h1 : aN A 0 = 1 → ∀ r s d k, r < 8 → k < 8 → d < 8 → x = nI r → iset y s → u = nI d → bit s d → z = nI k → ¬ hzr A s → (dvr A r s = none → pst (aS A 3 (-1)) (-1) Z Y post) ∧ ∀ D, dvr A r s = some D → dinv (aN A 1) (aOk A) (aR A) s D → lydx A k (dQ D d) True Z Y post) : wx1_quotient x y u z K T Z Y post := by
  have J26 : ∀ b : Int32, (b = 0 → ∀ d, d < 8 → u = nI d → ¬ ∃ s, iset y s ∧ bit s d) → (b ≠ 0 → ∀ d s, d < 8 → u = nI d → iset y s → bit s d) → wx1_quotient_j26 x y u z Z Y post b K T := fun b hb0 hb1 => by
    unfold wx1_quotient_j26
    refine xv3 (by omega) (by omega) (fun K1 T1 f1 k1 l1 a1 c1 s1 z1 => ?_)
    have g1 := rx_keep h f1 k1
    refine xs_is' l1 (by omega) a1 (fun rr hrr => ?_)
    rw [all3] at hrr
    have hry : rr ≠ 0 → ∃ r, r < 8 ∧ x = nI r := fun q => by
      obtain ⟨⟨r, hr, er⟩, _⟩ := hrr.1 q
      exact ⟨r, by omega, er⟩
    refine xh_div g1 hw hry (fun q T' r' => b11 rfl (pst_u (h0 fun w => q ⟨w.1, hrr.2 ⟨w.2.1, w.2.2.2, w.2.2.1⟩⟩) r')) (fun ht q w T' r' => b11 rfl ?_) (fun ht q w s hs hz T' r' => b11 rfl ?_) (fun ht q w r s hr er hs hz hd T' r' => b11 rfl ?_) (fun ht q w r s D hr er hs hz hd di T' L N r' x' => b01 rfl ?_)
    · obtain ⟨ix, iz, d, hd, ed⟩ := hrr.1 q
      refine pst_u (h2 ht ix iz d (by omega) ed fun ⟨s, hs, hb⟩ => ?_) r'
      by_cases e : b = 0
      · exact hb0 e d (by omega) ed ⟨s, hs, hb⟩
      · exact w ⟨e, s, hs⟩
    · obtain ⟨ix, iz, d, hd, ed⟩ := hrr.1 q
      exact pst_u (h5 ht ix iz d s (by omega) ed hs (hb1 w d s (by omega) ed hs) hz) r'
    · obtain ⟨_, ⟨k, hk, ek⟩, d, hd', ed⟩ := hrr.1 q
      exact pst_u ((h1 ht r s d k hr (by omega) (by omega) er hs ed (hb1 w d s (by omega) ed hs) ek hz).1 hd) r'
    · obtain ⟨_, ⟨k, hk, ek⟩, d, hd', ed⟩ := hrr.1 q
      have fin := (h1 ht r s d k hr (by omega) (by omega) er hs ed (hb1 w d s (by omega) ed hs) ek hz).2 D hd di
      subst ek
      have ql := qln d (by omega)
      refine ⟨d, by omega, ed, 17 + 3 * d, r'.1.2.2.2.2.2.1 d (by omega), ?_⟩
      exact xs_rowlay r' hw ht (by omega) (by omega) ((r'.1.1 _ (by omega)).trans ql.1) ((r'.1.1 _ (by omega)).trans ql.2) (x'.2.2.2.2.2.1 d (by omega)) (fun m hm => di.2.2.1 d m (by omega) hm) (di.2.2.2.2.2.1 d (by omega)) (by omega) (by omega) fin
  unfold wx1_quotient wx1_quotient_j23
  refine xs_inr (n := 7) rfl (by omega) (fun q => b01 rfl (J26 0 (fun _ d hd ed => absurd ⟨d, by omega, ed⟩ q) (fun q => absurd rfl q))) (fun d hd ed => b11 rfl ⟨fun q => J26 0 (fun _ d' hd' ed' ⟨s, hs, hb⟩ => ?_) (fun q => absurd rfl q), fun q => J26 1 (fun q => absurd q (by decide)) (fun _ d' s hd' ed' hs => ?_)⟩)
  · obtain ⟨s1, s2, es⟩ := hs
    rw [es, ed', n_bit1 s2 hd'] at q
    exact q hb
  · obtain ⟨s1, s2, es⟩ := hs
    rw [es, ed', n_bit1 s2 hd'] at q
    exact q
theorem xc_pair {A : AB} {K : XK} {T : XT} {x y z : Int32} {Z Y : Nat} {post : Int32 → XT → XK → Prop} (h : rx A K T) (hw : wf A) (hZ : kc K + 30 ≤ Z) (hY : ks K + 2000 ≤ Y) (h0 : ¬ (aN A 0 = 1 ∧ inr x 7 ∧ inr y 7 ∧ inr z 7 ∧ x ≠ y) → pst (aS A 1 (-1)) (-1) Z Y post) (h5 : aN A 0 = 1 → inr z 7 → ∀ r q, r < 8 → q < 8 → r ≠ q → x = nI r → y = nI q → (cn (aR A r) 4096 = 0 ∨ cn (aR A q) 4096 = 0) → pst (aS A 5 (-1)) (-1) Z Y post)
    (h1 : aN A 0 = 1 → ∀ r q k l m, r < 8 → q < 8 → k < 8 → r ≠ q → x = nI r → y = nI q → z = nI k → led (aOk A) (aR A r) l → led (aOk A) (aR A q) m → lydx A k (prt (aN A 1) (aR A r) (aR A q) l m) (prr (aR A r) (aR A q) l m) Z Y post) : wx1_pair_2 x y z K T Z Y post := by
  unfold wx1_pair_2
  refine xv3 (by omega) (by omega) (fun K1 T1 f1 k1 l1 a1 c1 s1 z1 => ?_)
  have g := rx_keep h f1 k1
  have no : ¬ (aN A 0 = 1 ∧ inr x 7 ∧ inr y 7 ∧ inr z 7 ∧ x ≠ y) → wx1_why 0 K1 T1 (fun r_45 => wx1_isRefused r_45 K1 T1 (fun r_48 T_49 => ((r_48 = 0 → wx1_pair_2_j44 x y z Z Y post K1 T_49) ∧ (¬ (r_48 = 0) → post (-1) T_49 (kset K1 Z Y))))) := fun w => by
    refine xs_why g hw (fun _ => xs_isRefused g (by decide) (fun q => absurd q (by decide)) (fun _ T' _ r' => b11 rfl (pst_u (h0 w) r'))) (fun _ q => absurd rfl q)
  refine xs_is' l1 (by omega) a1 (fun rr hrr => ⟨fun e => no fun w => ?_, fun e => ⟨fun e2 => no fun w => w.2.2.2.2 e2, fun e2 => ?_⟩⟩)
  · exact hrr.2 (all3.2 ⟨w.2.1, w.2.2.1, w.2.2.2.1⟩) e
  · obtain ⟨⟨r, hr, er⟩, ⟨s, hs, es⟩, ⟨k, hk, ek⟩⟩ := all3.1 (hrr.1 e)
    refine xs_why g hw (fun w => xs_isRefused g (by decide) (fun q => absurd q (by decide)) (fun _ T' _ r' => b11 rfl (pst_u (h0 fun w2 => w ⟨w2.1, by decide⟩) r'))) (fun ht _ => xs_isRefused g (by decide) (fun _ T2 f2 r2 => b01 rfl ?_) (fun q => absurd rfl q))
    have hrs : r ≠ s := fun q => e2 (by rw [er, es, q])
    have g5 := h5 ht ⟨k, hk, ek⟩ r s (by omega) (by omega) hrs er es
    have fin := fun l m => h1 ht r s k l m (by omega) (by omega) (by omega) hrs er es ek
    obtain ⟨gg, q1, q2, q3⟩ := rx_reg2 r2
    obtain ⟨v, v1, v2⟩ := q3 r (by omega)
    obtain ⟨w, w1, w2⟩ := q3 s (by omega)
    have bad : (cn (aR A r) 4096 = 0 ∨ cn (aR A s) 4096 = 0) → wx1_pair_2_j68 x y z Z Y post K1 T2 := fun q => by
      unfold wx1_pair_2_j68
      exact xs_no r2 (by decide) (fun T' r' => pst_u (g5 q) (by rw [aS_aS] at r'; exact r'))
    unfold wx1_pair_2_j44
    refine ⟨gg, q1, r, by omega, er, v, v1, xs_isZero v2 (fun n1 => b02 rfl ⟨gg, q1, s, by omega, es, w, w1, xs_isZero w2 (fun n2 => b01 rfl ?_) (fun n2 => b11 rfl (bad (Or.inr n2)))⟩) (fun n1 => b12 rfl (bad (Or.inl n1)))⟩
    obtain ⟨_, _, _, _, _, _, _, _, l1', _⟩ := ply_ld v2 n1
    obtain ⟨_, _, _, _, _, _, _, _, l2', _⟩ := ply_ld w2 n2
    have fin := fin _ _ l1' l2'
    have c60 := reg60 hw ht (show r < 8 by omega)
    have d60 := reg60 hw ht (show s < 8 by omega)
    refine ⟨gg, q1, r, by omega, er, v, v1, gg, q1, s, by omega, es, w, w1, kc K1 + 21, ks K1 + 1621, by omega, by omega, by omega, by omega, ?_⟩
    subst ek
    refine xs_pair r2 hw ht v2 w2 n1 n2 c60 d60 (Nat.le_refl _) (Nat.le_refl _) (fun T3 K3 ov f3 x3 c3 s3 r3 o3 => ⟨kc K3 + 1, ks K3 + 8, by omega, by omega, by omega, by omega, ?_⟩)
    refine xs_lays r3 hw ht (by omega) ?_ (Nat.le_refl _) (Nat.le_refl _) (lydx_k fin)
    rcases o3 with o | ⟨w', o1, o2, o3⟩
    · exact Or.inl o
    · exact Or.inr ⟨w', o1, o2, o3⟩
/-- what a pair leaves -/
theorem xs_leaves {A : AB} {K : XK} {T : XT} {s i Z Y : Nat} {post : Int32 → XT → XK → Prop} (h : rx (aS A 0 (-1)) K T) (hw : wf A) (ht : aN A 0 = 1) (hs : s < 256) (hnz : ¬ hzr A s) (hi : i < 64) (ha : act s i) (hZ : kc K + 21 ≤ Z) (hY : ks K + 1621 ≤ Y) (h3 : pbad A s i → ∀ T' K', rx (aS A 0 (-1)) K' T' → kc K' = Z → ks K' = Y → post (-3) T' K')
    (h1 : ∀ D, pgot A s i D → dinv (aN A 1) (aOk A) (aR A) s D → ∀ T' K' L N, rx (aS A 0 (-1)) K' T' → xdv (aOk A) s D T' L N → kc K' = Z → ks K' = Y → post (if cn (dR D) 4096 = 0 then 0 else 1) T' K') : wx1_leaves (nI (i / 8)) (nI (i % 8)) (nI s) K T Z Y post := by
  obtain ⟨gg, q1, q2, q3⟩ := rx_reg2 h
  obtain ⟨v, v1, v2⟩ := q3 (i / 8) (by omega)
  obtain ⟨w, w1, w2⟩ := q3 (i % 8) (by omega)
  have n1 : cn (aR A (i / 8)) 4096 ≠ 0 := fun z => hnz ⟨i / 8, by omega, ha.2.1, z⟩
  have n2 : cn (aR A (i % 8)) 4096 ≠ 0 := fun z => hnz ⟨i % 8, by omega, ha.2.2, z⟩
  have bad : pbad A s i → ∀ T' K', rx (aS A 0 (-1)) K' T' → wx1_leaves_j46 (nI (i / 8)) (nI (i % 8)) (nI s) Z Y post 3 K' T' := fun q T' K' r' => ⟨fun z => absurd z (by decide), fun _ => h3 q T' (kset K' Z Y) (rx_keep r' (xf_rfl _ _) (kx_set _ _ _)) rfl rfl⟩
  unfold wx1_leaves wx1_leaves_j33
  refine ⟨gg, q1, i / 8, by omega, rfl, v, v1, gg, q1, i % 8, by omega, rfl, w, w1, kc K + 21, ks K + 1621, by omega, by omega, by omega, by omega, ?_⟩
  refine xs_pair h hw ht v2 w2 n1 n2 (reg60 hw ht (by omega)) (reg60 hw ht (by omega)) (Nat.le_refl _) (Nat.le_refl _) (fun T3 K3 ov f3 x3 c3 s3 r3 o3 => ?_)
  rcases o3 with ⟨o1, o2⟩ | ⟨w', o1, o2, o3⟩
  · exact ⟨fun _ => bad ⟨ha, Or.inl fun z => o2 z.1⟩ T3 K3 r3, fun v' e => by rw [o1] at e; cases e⟩
  · refine ⟨fun e => (by rw [o1] at e; cases e), fun v' e => ?_⟩
    have ev : w' = v' := by
      rw [o1] at e
      injection e
    subst ev
    have hcn := cn_le (prt (aN A 1) (aR A (i / 8)) (aR A (i % 8)) (ldk (aOk A) (aR A (i / 8))) (ldk (aOk A) (aR A (i % 8)))) 4096
    rw [ply_n o3, li_60, nI_leI (by omega) (by omega)]
    refine ⟨fun c => ?_, fun c => bad ⟨ha, Or.inl fun z => c z.2⟩ T3 K3 r3⟩
    refine xs_divides (A := aS A 0 (-1)) (wf_S hw) ht hs r3 o3 c (fun z => absurd z hnz) (fun _ q T4 f4 r4 => bad ⟨ha, Or.inr q⟩ T4 K3 r4) (fun _ D q di T4 L N f4 r4 x4 => ?_)
    have fin := h1 D ⟨ha, ⟨o2, c⟩, q⟩ di T4 (kset K3 Z Y) L N (rx_keep r4 (xf_rfl _ _) (kx_set _ _ _)) x4 rfl rfl
    have h5 := di.2.2.2.2.1
    have e0 : (xi T4 8 2 = 0) ↔ cn (dR D) 4096 = 0 := by rw [rwl_n x4.2.2.2.2.1, li_0, nI_eq (by omega) (by omega)]
    unfold wx1_leaves_j46
    rw [e0]
    refine ⟨fun _ => ⟨fun c => ?_, fun c => ?_⟩, fun z => absurd rfl z⟩
    · rw [if_neg c] at fin; exact fin
    · rw [if_pos c] at fin; exact fin
/-- pairs ahead of a number -/
def npr (i : Nat) : Nat := ns (fun j => if j / 8 < j % 8 then 1 else 0) i
theorem npr_64 : npr 64 = 28 := by decide
theorem npr_s (i : Nat) : npr (i + 1) = npr i + (if i / 8 < i % 8 then 1 else 0) := rfl
theorem npr_le {i : Nat} (h : i ≤ 64) : npr i ≤ 28 := by
  have : ∀ i, i ≤ 64 → npr i ≤ 28 := by decide
  exact this i h
