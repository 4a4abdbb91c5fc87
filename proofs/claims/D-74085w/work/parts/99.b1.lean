set_option maxRecDepth 100000
/-- a Row is made a polynomial and laid -/
theorem xs_rowlay {A : AB} {K : XK} {T : XT} {to k Z Y : Nat} {f : Nat → Nat} {post : Int32 → XT → XK → Prop} (h : rx (aS A 0 (-1)) K T) (hw : wf A) (ht : aN A 0 = 1) (hk : k < 8) (hto : to + 2 < 90) (hl1 : kl K (to + 1) = 61) (hl2 : kl K (to + 2) = 61) (hr : rwl (aOk A) T to f) (hfp : ∀ m, m < 4096 → f m < aN A 1) (h60 : cn f 4096 ≤ 60) (hZ : kc K + 4 ≤ Z) (hY : ks K + 200 ≤ Y) (fin : lydx A k f True Z Y post) : ∃ Z_19 Y_20 : Nat, kc K ≤ Z_19 ∧ Z_19 ≤ Z ∧ ks K ≤ Y_20 ∧ Y_20 ≤ Y ∧ wx2_poly to K T Z_19 Y_20 (fun r_16 T_17 K_18 => ∃ Z_24 Y_25 : Nat, kc K_18 ≤ Z_24 ∧ Z_24 ≤ Z ∧ ks K_18 ≤ Y_25 ∧ Y_25 ≤ Y ∧ wx1_lays (some r_16) (nI k) K_18 T_17 Z_24 Y_25 (fun r_21 T_22 K_23 => post r_21 T_22 (kset K_23 Z Y))) := by
  have hzz := h.1.2.1
  obtain ⟨n, e, i1, d1⟩ := hr
  have en := isr_cn i1
  refine ⟨kc K + 3, ks K + 123, by omega, by omega, by omega, by omega, xs_poly hzz (by omega) i1 d1 hfp (by omega) (by omega) (by omega) (by omega) (Nat.le_refl _) (by omega) (fun T1 K1 f1 x1 z1 c1 s1 p1 => ⟨kc K1 + 1, ks K1 + 8, by omega, by omega, by omega, by omega, ?_⟩)⟩
  exact xs_lays (rx_keep h (xf_mono f1 (fun k hk => by unfold xsc; omega)) x1) hw ht hk (P := True) (Or.inr ⟨_, rfl, trivial, p1⟩) (Nat.le_refl _) (Nat.le_refl _) (lydx_k fin)
theorem iset_u {a s : Nat} (ha : a < 256) (h : iset (nI a) s) : s = a := by
  obtain ⟨q1, q2, q3⟩ := h
  rw [nI_eq (by omega) (by omega)] at q3
  exact q3.symm
theorem xc_divides {A : AB} {K : XK} {T : XT} {x y : Int32} {Z Y : Nat} {post : Int32 → XT → XK → Prop} (h : rx A K T) (hw : wf A) (hZ : kc K + 2 ≤ Z) (hY : ks K + 3 ≤ Y) (h0 : ¬ (aN A 0 = 1 ∧ inr x 7 ∧ inr y 7) → pst (aS A 1 (-1)) (-1) Z Y post)
    (h1 : aN A 0 = 1 → ∀ r q, r < 8 → q < 8 → x = nI r → y = nI q → (hzr A (2 ^ r) → pst (aS A 5 (-1)) (-1) Z Y post) ∧ (¬ hzr A (2 ^ r) → (dvr A q (2 ^ r) = none → pst (aS A 3 (-1)) (-1) Z Y post) ∧ ∀ D, dvr A q (2 ^ r) = some D → dinv (aN A 1) (aOk A) (aR A) (2 ^ r) D → pst (aS A 0 (-1)) (if cn (dR D) 4096 = 0 then 1 else 0) Z Y post)) : wx1_divides_2 x y K T Z Y post := by
  unfold wx1_divides_2
  refine xv2 (by omega) (by omega) (fun K1 T1 f1 k1 l1 a1 c1 s1 z1 => ?_)
  have g1 := rx_keep h f1 k1
  refine xs_is' l1 (by omega) a1 (fun rr hrr => ?_)
  rw [all2] at hrr
  refine xv1 (by omega) (by omega) (fun K2 T2 f2 k2 l2 a2 c2 s2 z2 => ?_)
  have g2 := rx_keep g1 f2 k2
  refine xs_is' l2 (by omega) a2 (fun rx' hrx => ?_)
  rw [all1] at hrx
  have hry : rr ≠ 0 → ∃ r, r < 8 ∧ y = nI r := fun q => by
    obtain ⟨_, r, hr, er⟩ := hrr.1 q
    exact ⟨r, by omega, er⟩
  refine ⟨fun e => ?_, fun e => ?_⟩
  · exact xh_div g2 hw hry (fun _ T' r' => b11 rfl (pst_u (h0 fun w => hrx.2 w.2.1 e) r')) (fun _ q => absurd e (hrx.2 (hrr.1 q).1)) (fun _ q => absurd e (hrx.2 (hrr.1 q).1)) (fun _ q => absurd e (hrx.2 (hrr.1 q).1)) (fun _ q => absurd e (hrx.2 (hrr.1 q).1))
  · obtain ⟨r, hr, er⟩ := hrx.1 e
    have hp2 := pow_256 (show r < 8 by omega)
    have hpos : 1 ≤ 2 ^ r := Nat.one_le_two_pow
    have ej : jshl 1 x = nI (2 ^ r) := by rw [er, li_1, n_shl (by omega) (by rw [Nat.one_mul]; omega), Nat.one_mul]
    rw [ej]
    refine xh_div g2 hw hry (fun q T' r' => b11 rfl (pst_u (h0 fun w => q ⟨w.1, hrr.2 w.2⟩) r')) (fun _ _ q => absurd ⟨by decide, 2 ^ r, hpos, hp2, rfl⟩ q) (fun ht q _ s hs hz T' r' => b11 rfl ?_) (fun ht q _ r2 s hr2 er2 hs hz hd T' r' => b11 rfl ?_) (fun ht q _ r2 s D hr2 er2 hs hz hd di T' L N r' x' => b01 rfl ?_)
    · obtain ⟨r2, hr2, er2⟩ := hry q
      rw [iset_u hp2 hs] at hz
      exact pst_u ((h1 ht r r2 (by omega) hr2 er er2).1 hz) r'
    · rw [iset_u hp2 hs] at hz hd
      exact pst_u (((h1 ht r r2 (by omega) hr2 er er2).2 hz).1 hd) r'
    · rw [iset_u hp2 hs] at hz hd di
      have fin := ((h1 ht r r2 (by omega) hr2 er er2).2 hz).2 D hd di
      have h5 := di.2.2.2.2.1
      unfold wx1_divides_2_j49
      rw [rwl_n x'.2.2.2.2.1, li_0, nI_eq (by omega) (by omega), ← li_0]
      refine ⟨fun c => ?_, fun c => ?_⟩
      · rw [if_neg c] at fin; exact pst_u fin r'
      · rw [if_pos c] at fin; exact pst_u fin r'
theorem xc_rest {A : AB} {K : XK} {T : XT} {x y z : Int32} {Z Y : Nat} {post : Int32 → XT → XK → Prop} (h : rx A K T) (hw : wf A) (hZ : kc K + 10 ≤ Z) (hY : ks K + 1000 ≤ Y) (h0 : ¬ (aN A 0 = 1 ∧ inr x 7 ∧ inr z 7) → pst (aS A 1 (-1)) (-1) Z Y post) (h2 : aN A 0 = 1 → inr x 7 → inr z 7 → ¬ (∃ s, iset y s) → pst (aS A 2 (-1)) (-1) Z Y post) (h5 : aN A 0 = 1 → inr x 7 → inr z 7 → ∀ s, iset y s → hzr A s → pst (aS A 5 (-1)) (-1) Z Y post)
    (h1 : aN A 0 = 1 → ∀ r s k, r < 8 → k < 8 → x = nI r → iset y s → z = nI k → ¬ hzr A s → (dvr A r s = none → pst (aS A 3 (-1)) (-1) Z Y post) ∧ ∀ D, dvr A r s = some D → dinv (aN A 1) (aOk A) (aR A) s D → lydx A k (dR D) True Z Y post) : wx1_rest x y z K T Z Y post := by
  unfold wx1_rest
  refine xv2 (by omega) (by omega) (fun K1 T1 f1 k1 l1 a1 c1 s1 z1 => ?_)
  have g1 := rx_keep h f1 k1
  refine xs_is' l1 (by omega) a1 (fun rr hrr => ?_)
  rw [all2] at hrr
  have hry : rr ≠ 0 → ∃ r, r < 8 ∧ x = nI r := fun q => by
    obtain ⟨⟨r, hr, er⟩, _⟩ := hrr.1 q
    exact ⟨r, by omega, er⟩
  refine xh_div g1 hw hry (fun q T' r' => b11 rfl (pst_u (h0 fun w => q ⟨w.1, hrr.2 w.2⟩) r')) (fun ht q w T' r' => b11 rfl (pst_u (h2 ht (hrr.1 q).1 (hrr.1 q).2 fun v => w ⟨by decide, v⟩) r')) (fun ht q _ s hs hz T' r' => b11 rfl (pst_u (h5 ht (hrr.1 q).1 (hrr.1 q).2 s hs hz) r')) (fun ht q _ r2 s hr2 er2 hs hz hd T' r' => b11 rfl ?_) (fun ht q _ r2 s D hr2 er2 hs hz hd di T' L N r' x' => b01 rfl ?_)
  · obtain ⟨_, k, hk, ek⟩ := hrr.1 q
    exact pst_u ((h1 ht r2 s k hr2 (by omega) er2 hs ek hz).1 hd) r'
  · obtain ⟨_, k, hk, ek⟩ := hrr.1 q
    have fin := (h1 ht r2 s k hr2 (by omega) er2 hs ek hz).2 D hd di
    subst ek
    exact xs_rowlay r' hw ht (by omega) (by omega) (r'.1.1 9 (by omega)) (r'.1.1 10 (by omega)) x'.2.2.2.2.1 di.2.1 di.2.2.2.2.1 (by omega) (by omega) fin
