set_option maxRecDepth 100000
theorem sp_laysOrder_deg {h a b : Nat} {S0 : St} {post : St → Prop} (v : vo h a b) (h0 : h ≠ 0) (h6 : S0 0 6 = nI h) (h7 : S0 0 7 = nI a) (h8 : S0 0 8 = nI b) (hp : ∀ S' al, fr4 S0 S' → alg (ok h a b) S' al → post S') (S1 : St) (h1 : fr4 S0 S1) (hn : S1 0 25 = nI 0) : wp_laysOrder_l62 post 45 S1 := by
  have hf : ∀ {S : St}, fr4 S0 S → S 0 6 = nI h ∧ S 0 7 = nI a ∧ S 0 8 = nI b := fun h => ⟨by rw [h 0 6 (by omega) (by omega)]; exact h6, by rw [h 0 7 (by omega) (by omega)]; exact h7, by rw [h 0 8 (by omega) (by omega)]; exact h8⟩
  have hh : h = 1 ∨ h = 2 := by have := v.1; omega
  have ho : ∀ k, ok h a b k < 4096 * 46 := fun k => by
    rw [ok_o3 v]
    have e1 := ex_lt k a
    have e2 := ex_lt k b
    have e3 := ex_lt k (3 - a - b)
    generalize ex k a = x at *
    generalize ex k b = y at *
    generalize ex k (3 - a - b) = z at *
    rcases hh with e | e <;> subst e
    · show 4096 * (x + y + z) + (256 * x + 16 * y + z) < _; omega
    · show 4096 * (x + y + z) + 4095 - (256 * z + 16 * y + x) < _; omega
  unfold wp_laysOrder_l62
  refine wl_n (fun i w => i ≤ 46 ∧ w.1 = zI ((i : Int) - 1) ∧ fr4 S0 w.2 ∧ ∃ n, w.2 0 25 = nI n ∧ cov (ok h a b) w.2 n (4096 * i)) 46 ⟨Nat.le_refl _, rfl, h1, 0, hn, fun i => i, fun i hi => absurd hi (by omega), fun i j _ hj => absurd hj (by omega), fun k hk hT => absurd (ho k) (by omega)⟩ ?_
  rintro i ⟨x1, S⟩ ⟨hi, hx, hfr, n, hn, hc⟩ R hR
  dsimp only at hx hfr hn hc
  subst hx
  unfold wp_laysOrder_b62
  rw [dn_lt (by omega)]
  refine ⟨fun c => ?_, fun c => ?_⟩
  · subst c
    obtain ⟨al, hal⟩ := cov_end hc
    exact hp S al hfr hal
  · dsimp only
    rw [(hf hfr).1, li_1, nI_eq (by omega) (by omega)]
    refine ⟨fun c1 => ?_, fun c1 => ?_⟩
    · have e2 : h = 2 := by omega
      subst e2
      unfold wp_laysOrder_l130
      refine wl_up 16 (fun c w => w.1 = nI c ∧ fr4 S0 w.2 ∧ ∃ n, w.2 0 25 = nI n ∧ cov (ok 2 a b) w.2 n (4096 * (i - 1) + 4096 - 256 * c)) 0 (by omega) ⟨rfl, hfr, n, hn, by rw [show 4096 * (i - 1) + 4096 - 256 * 0 = 4096 * i by omega]; exact hc⟩ ?_
      rintro c ⟨x2, S⟩ hcl ⟨hx, hfr, n, hn, hc⟩ R2 hR2
      dsimp only at hx hfr hn hc
      subst hx
      unfold wp_laysOrder_b130
      dsimp only
      rw [li_15, nI_ltI (by omega) (by omega)]
      refine ⟨fun c2 => ?_, fun c2 => ?_⟩
      · unfold wp_laysOrder_j181
        intro x1 e1
        subst e1
        exact hR (i - 1) _ (by omega) ⟨by omega, dn_s (by omega), hfr, n, hn, by rw [show 4096 * (i - 1) = 4096 * (i - 1) + 4096 - 256 * c by omega]; exact hc⟩
      · unfold wp_laysOrder_l138
        refine wl_up 16 (fun l w => w.1 = nI l ∧ fr4 S0 w.2 ∧ ∃ n, w.2 0 25 = nI n ∧ cov (ok 2 a b) w.2 n (4096 * (i - 1) + 4096 - 256 * c - 16 * l)) 0 (by omega) ⟨rfl, hfr, n, hn, hc⟩ ?_
        rintro l ⟨x3, S⟩ hl ⟨hx, hfr, n, hn, hc⟩ R3 hR3
        dsimp only at hx hfr hn hc
        subst hx
        unfold wp_laysOrder_b138
        dsimp only
        rw [li_15, nI_ltI (by omega) (by omega)]
        refine ⟨fun c3 => ?_, fun c3 => ?_⟩
        · intro x2 e2
          subst e2
          exact hR2 (by omega) _ ⟨by rw [li_1, nI_add], hfr, n, hn, by rw [show 4096 * (i - 1) + 4096 - 256 * (c + 1) = 4096 * (i - 1) + 4096 - 256 * c - 16 * l by omega]; exact hc⟩
        · have hw : zI ((i : Int) - 1) - nI l - nI c = zI ((i : Int) - 1 - l - c) := by rw [z_nI, z_nI, z_sub, z_sub]
          rw [hw]
          have hdig : ∀ x y z, x < 16 → y < 16 → z < 16 → 4096 * (i - 1) + 4096 - 256 * c - 16 * (l + 1) ≤ o3 2 x y z → o3 2 x y z < 4096 * (i - 1) + 4096 - 256 * c - 16 * l → z = c ∧ y = l ∧ x + y + z = i - 1 := fun x y z hx hy hz q1 q2 => by
            have e9 : o3 2 x y z = 4096 * (x + y + z) + 4095 - (256 * z + 16 * y + x) := rfl
            obtain ⟨s, hs⟩ : ∃ s, s = x + y + z := ⟨_, rfl⟩
            obtain ⟨r, hr⟩ : ∃ r, r = 256 * z + 16 * y + x := ⟨_, rfl⟩
            rw [← hs, ← hr] at e9
            have hr4 : r < 4096 := by omega
            have hsi : s = i - 1 := by omega
            have hr5 : 256 * c + 16 * l ≤ r ∧ r < 256 * c + 16 * l + 16 := by omega
            have hz2 : z = c := by omega
            have hy2 : y = l := by omega
            exact ⟨hz2, hy2, by omega⟩
          refine sp_in (fun d => ⟨fun _ => ?_, fun q => absurd rfl q⟩) (fun d1 d2 => ⟨fun q => absurd q (by decide), fun _ => ?_⟩)
          · unfold wp_laysOrder_j169
            intro x3 e3
            subst e3
            refine hR3 (by omega) _ ⟨by rw [li_1, nI_add], hfr, n, hn, cov_skip hc (by omega) (fun k hk q => ?_)⟩
            rw [ok_o3 v] at q ⊢
            refine Nat.le_of_not_lt fun q2 => ?_
            obtain ⟨g1, g2, g3⟩ := hdig _ _ _ (ex_lt _ _) (ex_lt _ _) (ex_lt _ _) q q2
            have e1 := ex_lt k a
            rw [z_0, z_lt (by omega) (by omega), show nI 15 = zI 15 from rfl, z_lt (by omega) (by omega)] at d
            omega
          · rw [z_0, z_lt (by omega) (by omega)] at d1
            rw [show nI 15 = zI 15 from rfl, z_lt (by omega) (by omega)] at d2
            have hX : zI ((i : Int) - 1 - l - c) = nI (i - 1 - l - c) := by rw [z_nI]; congr 1; omega
            rw [hX]
            have e9 : o3 2 (i - 1 - l - c) l c = 4096 * ((i - 1 - l - c) + l + c) + 4095 - (256 * c + 16 * l + (i - 1 - l - c)) := rfl
            refine sp_laysKey (T' := 4096 * (i - 1) + 4096 - 256 * c - 16 * (l + 1)) v (hf hfr).2.1 (hf hfr).2.2 (by omega) (by omega) (by omega) hc hn (by omega) (by omega) (fun x y z hx hy hz q1 q2 => by
              obtain ⟨g1, g2, g3⟩ := hdig x y z hx hy hz q1 q2
              rw [g1, g2, show x = i - 1 - l - c by omega]) ?_
            intro S' hfr' hn' hc'
            unfold wp_laysOrder_j169
            intro x3 e3
            subst e3
            exact hR3 (by omega) _ ⟨by rw [li_1, nI_add], fr4_tr hfr hfr', n + 1, hn', hc'⟩
    · subst c1
      unfold wp_laysOrder_l77
      refine wl_n (fun j w => j ≤ 16 ∧ w.1 = zI ((j : Int) - 1) ∧ fr4 S0 w.2 ∧ ∃ n, w.2 0 25 = nI n ∧ cov (ok 1 a b) w.2 n (4096 * (i - 1) + 256 * j)) 16 ⟨Nat.le_refl _, rfl, hfr, n, hn, by rw [show 4096 * (i - 1) + 256 * 16 = 4096 * i by omega]; exact hc⟩ ?_
      rintro j ⟨x2, S⟩ ⟨hj, hx, hfr, n, hn, hc⟩ R2 hR2
      dsimp only at hx hfr hn hc
      subst hx
      unfold wp_laysOrder_b77
      rw [dn_lt (by omega)]
      refine ⟨fun c2 => ?_, fun c2 => ?_⟩
      · unfold wp_laysOrder_j181
        intro x1 e1
        subst e1
        exact hR (i - 1) _ (by omega) ⟨by omega, dn_s (by omega), hfr, n, hn, by subst c2; exact hc⟩
      · unfold wp_laysOrder_l84
        refine wl_n (fun l w => l ≤ 16 ∧ w.1 = zI ((l : Int) - 1) ∧ fr4 S0 w.2 ∧ ∃ n, w.2 0 25 = nI n ∧ cov (ok 1 a b) w.2 n (4096 * (i - 1) + 256 * (j - 1) + 16 * l)) 16 ⟨Nat.le_refl _, rfl, hfr, n, hn, by rw [show 4096 * (i - 1) + 256 * (j - 1) + 16 * 16 = 4096 * (i - 1) + 256 * j by omega]; exact hc⟩ ?_
        rintro l ⟨x3, S⟩ ⟨hl, hx, hfr, n, hn, hc⟩ R3 hR3
        dsimp only at hx hfr hn hc
        subst hx
        unfold wp_laysOrder_b84
        rw [dn_lt (by omega)]
        refine ⟨fun c3 => ?_, fun c3 => ?_⟩
        · intro x2 e2
          subst e2
          exact hR2 (j - 1) _ (by omega) ⟨by omega, dn_s (by omega), hfr, n, hn, by subst c3; exact hc⟩
        · dsimp only
          have hs3 := dn_s (i := l) (by omega)
          have hw : zI ((i : Int) - 1) - zI ((j : Int) - 1) - zI ((l : Int) - 1) = zI ((i : Int) - 1 - (j - 1) - (l - 1)) := by rw [z_sub, z_sub]
          rw [hw]
          have hdig : ∀ x y z, x < 16 → y < 16 → z < 16 → 4096 * (i - 1) + 256 * (j - 1) + 16 * (l - 1) ≤ o3 1 x y z → o3 1 x y z < 4096 * (i - 1) + 256 * (j - 1) + 16 * l → x = j - 1 ∧ y = l - 1 ∧ x + y + z = i - 1 := fun x y z hx hy hz q1 q2 => by
            have e9 : o3 1 x y z = 4096 * (x + y + z) + (256 * x + 16 * y + z) := rfl
            obtain ⟨s, hs⟩ : ∃ s, s = x + y + z := ⟨_, rfl⟩
            obtain ⟨r, hr⟩ : ∃ r, r = 256 * x + 16 * y + z := ⟨_, rfl⟩
            rw [← hs, ← hr] at e9
            have hr4 : r < 4096 := by omega
            have hsi : s = i - 1 := by omega
            have hr5 : 256 * (j - 1) + 16 * (l - 1) ≤ r ∧ r < 256 * (j - 1) + 16 * l := by omega
            have hx2 : x = j - 1 := by omega
            have hy2 : y = l - 1 := by omega
            exact ⟨hx2, hy2, by omega⟩
          refine sp_in (fun d => ⟨fun _ => ?_, fun q => absurd rfl q⟩) (fun d1 d2 => ⟨fun q => absurd q (by decide), fun _ => ?_⟩)
          · unfold wp_laysOrder_j113
            intro x3 e3
            rw [hs3] at e3
            subst e3
            refine hR3 (l - 1) _ (by omega) ⟨by omega, rfl, hfr, n, hn, cov_skip hc (by omega) (fun k hk q => ?_)⟩
            rw [ok_o3 v] at q ⊢
            refine Nat.le_of_not_lt fun q2 => ?_
            obtain ⟨g1, g2, g3⟩ := hdig _ _ _ (ex_lt _ _) (ex_lt _ _) (ex_lt _ _) q q2
            have e1 := ex_lt k (3 - a - b)
            rw [z_0, z_lt (by omega) (by omega), show (15 : Int32) = zI 15 from rfl, z_lt (by omega) (by omega)] at d
            omega
          · rw [z_0, z_lt (by omega) (by omega)] at d1
            rw [show (15 : Int32) = zI 15 from rfl, z_lt (by omega) (by omega)] at d2
            have hX : zI ((i : Int) - 1 - (j - 1) - (l - 1)) = nI (i - 1 - (j - 1) - (l - 1)) := by rw [z_nI]; congr 1; omega
            have e9 : o3 1 (j - 1) (l - 1) (i - 1 - (j - 1) - (l - 1)) = 4096 * ((j - 1) + (l - 1) + (i - 1 - (j - 1) - (l - 1))) + (256 * (j - 1) + 16 * (l - 1) + (i - 1 - (j - 1) - (l - 1))) := rfl
            unfold wp_laysOrder_j113
            rw [hs3, hX, dn_n (i := j) (by omega), dn_n (i := l) (by omega)]
            refine sp_laysKey (T' := 4096 * (i - 1) + 256 * (j - 1) + 16 * (l - 1)) v (hf hfr).2.1 (hf hfr).2.2 (by omega) (by omega) (by omega) hc hn (by omega) (by omega) (fun x y z hx hy hz q1 q2 => by
              obtain ⟨g1, g2, g3⟩ := hdig x y z hx hy hz q1 q2
              rw [g1, g2, show z = i - 1 - (j - 1) - (l - 1) by omega]) ?_
            intro S' hfr' hn' hc' x3 e3
            subst e3
            exact hR3 (l - 1) _ (by omega) ⟨by omega, rfl, fr4_tr hfr hfr', n + 1, hn', hc'⟩
theorem sp_laysOrder {h a b : Nat} {S : St} {post : St → Prop} (v : vo h a b) (h6 : S 0 6 = nI h) (h7 : S 0 7 = nI a) (h8 : S 0 8 = nI b) (hp : ∀ S' al, fr4 S S' → alg (ok h a b) S' al → post S') : wp_laysOrder S post := by
  unfold wp_laysOrder
  intro S1 e1
  have hfr : fr4 S S1 := fun k i q1 q2 => by rw [e1, bw_at, if_neg q2]
  have hn : S1 0 25 = nI 0 := by rw [e1, bw_at, if_pos ⟨rfl, rfl⟩]; rfl
  have hv := v.1
  rw [hfr 0 6 (by omega) (by omega), h6, li_0, nI_eq (by omega) (by omega)]
  refine ⟨fun c => sp_laysOrder_deg v c h6 h7 h8 hp S1 hfr hn, fun c => ?_⟩
  subst c
  exact sp_laysOrder_lex v h7 h8 hp S1 hfr hn
