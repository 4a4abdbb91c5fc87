set_option maxRecDepth 100000
/-! the Model: a row by another one that divides it; primitive parts -/
theorem sp_goesBy {p : Nat} [NeZero p] {S : St} {k1 k2 k3 : Nat} {a b : PR (Fin p)} {post : St → Prop} (hp : pr p) (h5 : S 0 5 = nI p) (hk1 : k1 ≠ 0) (hk3 : k3 ≠ 0) (h12 : k1 ≠ k2) (h13 : k1 ≠ k3) (h23 : k2 ≠ k3) (hm1 : 2304 ≤ mlen k1) (hm2 : 2304 ≤ mlen k2) (hm3 : 2304 ≤ mlen k3) (ha : rwm S k1 0 a.1) (hb : rwm S k2 0 b.1) (hxa : xl a 2304) (hxb : xl b 2304) (hb0 : b ≠ pz) (hdv : dv b a) (hpost : ∀ S' q, frb (fun k => k = k1 ∨ k = k3) S S' → rwm S' k3 0 q.1 → a = pr_mul q b → post S') : wp_goesBy k1 k2 k3 S post := by
  have h97 := hp.2.1
  unfold wp_goesBy
  rw [show (0 : Int32) = nI 0 from li_0]
  refine sp_heightOf h97 hb hxb (by omega) (by omega) (fun n hn hh => ?_)
  cases n with
  | zero => exact absurd (hgt_0 hh) hb0
  | succ d =>
    have hd := hgt_xd hh
    rw [hI_s]
    refine ⟨d, by omega, rfl, ?_⟩
    rw [rwm_at hb (by omega)]
    refine sp_inverse hp h5 (fpos hd.1) (b.1 d).isLt ?_
    rw [← fiv_v hp hd.1]
    unfold wp_goesBy_l20
    refine wl_up 2304 (fun i v => v.1 = nI i ∧ frb (fun k => k = k1 ∨ k = k3) S v.2 ∧ rwm v.2 k1 0 a.1 ∧ ∀ y, y < i → v.2 k3 y = 0) 0 (by omega) ⟨rfl, frb_rfl _ _, ha, fun y hy => absurd hy (by omega)⟩ ?_
    rintro i ⟨x6, S1⟩ hi ⟨hx6, f1, wa1, w1⟩ R hR
    dsimp only at hx6 f1 wa1 w1
    subst hx6
    unfold wp_goesBy_b20
    dsimp only
    rw [li_2304, nI_leI (by omega) (by omega)]
    refine ⟨fun c => ?_, fun c => ⟨i, by omega, rfl, fun S2 e2 x6 e6 => ?_⟩⟩
    · have w0 : rwm S1 k3 0 (pz : PR (Fin p)).1 := fun y hy => by rw [Nat.zero_add, w1 y (by omega), pz_i]; exact li_0
      rw [show (0 : Int32) = nI 0 from li_0]
      refine sp_heightOf h97 wa1 hxa (by omega) (by omega) (fun n0 hn0 hh0 => ?_)
      unfold wp_goesBy_l46
      refine wl_n (fun n v => v.1 = hI n ∧ n ≤ 2304 ∧ frb (fun k => k = k1 ∨ k = k3) S v.2 ∧ ∃ a' q, rwm v.2 k1 0 a'.1 ∧ rwm v.2 k3 0 q.1 ∧ a = pr_add (pr_mul q b) a' ∧ xl a' n ∧ ∀ i, i < n - d → q.1 i = 0) n0 ⟨rfl, hn0, f1, a, pz, wa1, w0, ?_, hh0.1, fun i _ => pz_i i⟩ ?_
      · have : pr_mul (pz : PR (Fin p)) b = pz := pr_zero b
        rw [this]
        letI := PRr (Fin p)
        show a = 0 + a
        grind
      · rintro n ⟨x6, S2⟩ ⟨hx6, hn', f2, a', q, ha', hq', hq, hxn, hlow⟩ R2 hR2
        dsimp only at hx6 f2 ha' hq'
        subst hx6
        have g5 : S2 0 5 = nI p := by rw [f2 0 (by omega)]; exact h5
        have hb2 : rwm S2 k2 0 b.1 := rwm_keep hb f2 (by omega)
        unfold wp_goesBy_b46 wp_goesBy_j138
        dsimp only
        rw [hI_ltn (by omega) (by omega)]
        refine ⟨fun c2 => ?_, fun c2 => ?_⟩
        · have hdv' : dv b a' := by
            obtain ⟨q0, e0⟩ := hdv
            refine ⟨pr_add q0 (pr_neg q), ?_⟩
            letI := PRr (Fin p)
            have e0 : a = q0 * b := e0
            have hq : a = q * b + a' := hq
            show a' = (q0 + - q) * b
            grind
          have hz := dv_low (dm_fd (fdp hp)) hdv' hd (xl_mono hxn c2)
          refine hpost S2 q f2 hq' ?_
          rw [hq, hz]
          letI := PRr (Fin p)
          show q * b + 0 = q * b
          grind
        · obtain ⟨m, rfl⟩ : ∃ m, n = m + 1 := ⟨n - 1, by omega⟩
          rw [hI_s]
          refine ⟨m, by omega, rfl, by rw [g5]; exact n_ne0 hp, fun x7 e7 => ?_⟩
          rw [g5, rwm_at ha' (by omega), nF_mm h97] at e7
          subst e7
          rw [nF_0 _ h97]
          have ht : (a'.1 m * fiv (b.1 d)) * b.1 d = a'.1 m := by
            have := fiv_ok hp hd.1
            have e : a'.1 m * fiv (b.1 d) * b.1 d = a'.1 m * (b.1 d * fiv (b.1 d)) := by grind
            rw [e, this]; grind
          refine ⟨fun hz => ?_, fun hz x e => ?_⟩
          · generalize a'.1 m * fiv (b.1 d) = t at ht hz ⊢
            rw [pk_sub (by omega)]
            refine ⟨m - d, by omega, rfl, fun S3 e3 => ?_⟩
            have f3 : frb (fun k => k = k3) S2 S3 := by rw [e3]; exact frb_bw rfl
            have f23 : frb (fun k => k = k1 ∨ k = k3) S S3 := frb_tr f2 (frb_mono f3 fun k hk => Or.inr hk)
            have wq : rwm S3 k3 0 (pr_add q (pr_mul (pr_c t) (px (m - d)))).1 := fun y hy => by
              have e : (pr_add q (pr_mul (pr_c t) (px (m - d)))).1 y = q.1 y + t * (if y = m - d then 1 else 0) := by
                show q.1 y + (pr_mul (pr_c t) (px (m - d))).1 y = _
                rw [pr_mul_c]
                rfl
              rw [e, e3, bw_at, Nat.zero_add]
              by_cases w : y = m - d
              · rw [if_pos ⟨rfl, w⟩, if_pos w, w, hlow (m - d) (by omega)]
                congr 2
                grind
              · rw [if_neg (fun z => w z.2), if_neg w, rwm_at hq' hy]
                congr 2
                grind
            unfold wp_goesBy_l87
            refine wl_up (d + 1) (fun k v => v.1 = nI k ∧ frb (fun k => k = k1 ∨ k = k3) S v.2 ∧ rwm v.2 k3 0 (pr_add q (pr_mul (pr_c t) (px (m - d)))).1 ∧ rwm v.2 k1 0 (fun i => if m - d ≤ i ∧ i < m - d + k then a'.1 i - t * b.1 (i - (m - d)) else a'.1 i)) 0 (by omega) ⟨li_0, f23, wq, rwm_cg (rwm_keep ha' f3 h13) fun y _ => (if_neg (by omega)).symm⟩ ?_
            rintro k ⟨x8, S4⟩ hk ⟨hx8, f4, q4, w4⟩ R3 hR3
            dsimp only at hx8 f4 q4 w4
            subst hx8
            have g54 : S4 0 5 = nI p := by rw [f4 0 (by omega)]; exact h5
            unfold wp_goesBy_b87 wp_goesBy_j138
            dsimp only
            rw [nI_ltI (by omega) (by omega)]
            refine ⟨fun c3 x e => ?_, fun c3 => ?_⟩
            · have ek : k = d + 1 := by omega
              subst ek
              refine hR2 m _ (by omega) ⟨e, by omega, f4, tof a' b t (m - d), _, rwm_cg w4 (fun y _ => tof_part hd.2 y), q4, tof_eq hq, tof_xl hxn hd.2 (by omega) ht, fun i hi => ?_⟩
              show q.1 i + (pr_mul (pr_c t) (px (m - d))).1 i = 0
              rw [pr_mul_c, hlow i (by omega)]
              have : (px (m - d) : PR (Fin p)).1 i = 0 := if_neg (by omega)
              rw [this]; grind
            · rw [pk_sub (by omega), nI_add]
              refine ⟨m - d + k, by omega, rfl, k, by omega, rfl, by rw [g54]; exact n_ne0 hp, m - d + k, by omega, rfl, fun S5 e5 x8 e8 => ?_⟩
              rw [g54, rwm_at w4 (show m - d + k < 2304 by omega), rwm_at (rwm_keep hb f4 (by omega)) (show k < 2304 by omega)] at e5
              rw [if_neg (by omega), nF_ms h97] at e5
              subst e8
              refine hR3 (by omega) _ ⟨by rw [li_1, nI_add], ?_, ?_, fun y hy => ?_⟩
              · dsimp only
                rw [e5]
                exact frb_tr f4 (frb_bw (Or.inl rfl))
              · dsimp only
                rw [e5]
                exact rwm_keep q4 (frb_bw (P := fun k => k = k1) rfl) (fun w => h13 w.symm)
              · dsimp only
                rw [e5, bw_at, Nat.zero_add]
                by_cases w : y = m - d + k
                · rw [if_pos ⟨rfl, w⟩, if_pos (by omega), w, show m - d + k - (m - d) = k by omega]
                · rw [if_neg (fun z => w z.2), rwm_at w4 hy]
                  by_cases w3 : m - d ≤ y ∧ y < m - d + k
                  · rw [if_pos w3, if_pos (by omega)]
                  · rw [if_neg w3, if_neg (by omega)]
          · refine hR2 m _ (by omega) ⟨e, by omega, f2, a', q, ha', hq', hq, fun i hi => ?_, fun i hi => hlow i (by omega)⟩
            by_cases w : i = m
            · rw [w, ← ht, hz]; grind
            · exact hxn i (by omega)
    · subst e6
      refine hR (by omega) _ ⟨by rw [li_1, nI_add], ?_, ?_, fun y hy => ?_⟩
      · dsimp only
        rw [e2]
        exact frb_tr f1 (frb_bw (Or.inr rfl))
      · dsimp only
        rw [e2]
        exact rwm_keep wa1 (frb_bw (P := fun k => k = k3) rfl) h13
      · dsimp only
        rw [e2, bw_at]
        by_cases w : y = i
        · rw [if_pos ⟨rfl, w⟩]
        · rw [if_neg (fun z => w z.2)]; exact w1 y (by omega)
/-- rows made of so many -/
def mkr {F : Type} [Lean.Grind.CommRing F] (Q : Nat → PR F) : R2 F := ⟨fun j => if j < 16 then Q j else pz, 16, fun i hi => if_neg (by omega)⟩
theorem mkr_at {F : Type} [Lean.Grind.CommRing F] (Q : Nat → PR F) {j : Nat} (h : j < 16) : (mkr Q).1 j = Q j := if_pos h
theorem mkr_xl {F : Type} [Lean.Grind.CommRing F] (Q : Nat → PR F) : xl2 (mkr Q) 16 := fun i hi => if_neg (by omega)
theorem sp_primitives {p : Nat} [NeZero p] {S : St} {k1 : Nat} {G : R2 (Fin p)} {post : St → Prop} (hp : pr p) (h5 : S 0 5 = nI p) (hk : k1 = 18 ∨ k1 = 19) (hG : rgm S k1 G) (hpost : ∀ S' G', frb (fun k => k = k1 ∨ (20 ≤ k ∧ k ≤ 23)) S S' → rgm S' k1 G' → prm G G' → post S') : wp_primitives k1 S post := by
  have h97 := hp.2.1
  have hm1 : 36864 ≤ mlen k1 := by
    rcases hk with e | e
    · rw [e]; exact Nat.le_refl _
    · rw [e]; exact Nat.le_refl _
  unfold wp_primitives
  refine sp_contentOf hp h5 (show mok 20 from ⟨by omega, by omega, by omega⟩) (by omega) (by omega) (by omega) hm1 (show 2304 ≤ mlen 20 from Nat.le_refl _) hG (fun S1 c f1 w1 hxc hg => ?_)
  have F1 : frb (fun k => k = k1 ∨ (20 ≤ k ∧ k ≤ 23)) S S1 := frb_mono f1 fun k hk => by omega
  have hG1 := rgm_keep hG f1 (by omega)
  rw [show (0 : Int32) = nI 0 from li_0]
  refine sp_heightOf h97 w1 hxc (show 0 + 2304 ≤ mlen 20 from Nat.le_refl _) (by omega) (fun n hn hh => ?_)
  rw [show (1 : Int32) = nI 1 from li_1, hI_nle (by omega) (by omega)]
  refine ⟨fun c2 => ?_, fun c2 => ?_⟩
  · obtain ⟨d, rfl⟩ : ∃ d, n = d + 1 := ⟨n - 1, by omega⟩
    have hd := hgt_xd hh
    have hc0 := xd_ne hd
    unfold wp_primitives_l24
    refine wl_up 16 (fun x v => v.1 = nI x ∧ frb (fun k => k = k1 ∨ (20 ≤ k ∧ k ≤ 23)) S v.2 ∧ rwm v.2 20 0 c.1 ∧ ∃ Q : Nat → PR (Fin p), (∀ j, j < x → rwm v.2 k1 (2304 * j) (Q j).1 ∧ G.1 j = pr_mul (Q j) c) ∧ ∀ j, x ≤ j → j < 16 → rwm v.2 k1 (2304 * j) (G.1 j).1) 0 (by omega) ⟨rfl, F1, w1, fun _ => pz, fun j hj => absurd hj (by omega), fun j _ hj => hG1.1 j hj⟩ ?_
    rintro x ⟨x2, S2⟩ hx ⟨hx2, f2, w2, Q, hQ, hrest⟩ R hR
    dsimp only at hx2 f2 w2 hQ hrest
    subst hx2
    have g5 : S2 0 5 = nI p := by rw [f2 0 (by omega)]; exact h5
    unfold wp_primitives_b24
    dsimp only
    rw [li_16, nI_leI (by omega) (by omega)]
    refine ⟨fun c3 => ?_, fun c3 => ?_⟩
    · have hxQ : ∀ j, j < 16 → xl (Q j) 2304 := fun j hj => by
        have h1 := hG.2.1 j
        rw [(hQ j (by omega)).2] at h1
        exact xl_mono (xl_div (dm_fd (fdp hp)) hd h1) (by omega)
      refine hpost S2 (mkr Q) f2 ⟨fun j hj => by rw [mkr_at Q hj]; exact (hQ j (by omega)).1, fun j => ?_, mkr_xl Q⟩ ⟨c, hg, Or.inr ⟨hc0, ?_⟩⟩
      · by_cases w : j < 16
        · rw [mkr_at Q w]; exact hxQ j w
        · have : (mkr Q).1 j = pz := if_neg w
          rw [this]; exact xl_pz _
      · refine @pr_ext _ (PRr (Fin p)) _ _ fun j => ?_
        rw [c2_at]
        by_cases w : j < 16
        · rw [mkr_at Q w, pr_mul_comm]; exact (hQ j (by omega)).2.symm
        · have e1 : (mkr Q).1 j = pz := if_neg w
          have e2 : G.1 j = pz := hG.2.2 j (by omega)
          rw [e1, e2, pz_mul]
    · rw [li_2304, pk_mul]
      refine sp_copies (hrest x (Nat.le_refl _) (by omega)) (by omega) (by omega) (show 2304 ≤ mlen 21 from Nat.le_refl _) (by omega) (fun S3 f3 w3 => ?_)
      have f23 : frb (fun k => k = k1 ∨ (20 ≤ k ∧ k ≤ 23)) S S3 := frb_tr f2 (frb_mono f3 fun k hk => by omega)
      have g53 : S3 0 5 = nI p := by rw [f23 0 (by omega)]; exact h5
      refine sp_goesBy hp g53 (by omega) (by omega) (by omega) (by omega) (by omega) (show 2304 ≤ mlen 21 from Nat.le_refl _) (show 2304 ≤ mlen 20 from Nat.le_refl _) (show 2304 ≤ mlen 23 from Nat.le_refl _) w3 (rwm_keep w2 f3 (by omega)) (hG.2.1 x) hxc hc0 (hg.1 x) (fun S4 q f4 w4 e4 => ?_)
      have f34 : frb (fun k => k = k1 ∨ (20 ≤ k ∧ k ≤ 23)) S S4 := frb_tr f23 (frb_mono f4 fun k hk => by omega)
      have f24 : frb (fun k => 21 ≤ k ∧ k ≤ 23) S2 S4 := frb_tr (frb_mono f3 fun k hk => by omega) (frb_mono f4 fun k hk => by omega)
      unfold wp_primitives_l61
      refine wl_up 2304 (fun i v => v.1 = nI i ∧ frb (fun k => k = k1) S4 v.2 ∧ (∀ y, y < i → v.2 k1 (2304 * x + y) = nI (q.1 y).val) ∧ ∀ y, (y < 2304 * x ∨ 2304 * x + 2304 ≤ y) → v.2 k1 y = S4 k1 y) 0 (by omega) ⟨li_0, frb_rfl _ _, fun y hy => absurd hy (by omega), fun y _ => rfl⟩ ?_
      rintro i ⟨x3, S5⟩ hi ⟨hx3, f5, c5, o5⟩ R2 hR2
      dsimp only at hx3 f5 c5 o5
      subst hx3
      unfold wp_primitives_b61
      dsimp only
      rw [li_2304, nI_leI (by omega) (by omega)]
      refine ⟨fun c4 x2 e2 => ?_, fun c4 => ?_⟩
      · subst e2
        have k5 : ∀ j, j < 16 → j ≠ x → ∀ h : Nat → Fin p, rwm S2 k1 (2304 * j) h → rwm S5 k1 (2304 * j) h := fun j hj hne h hr y hy => by
          rw [o5 _ (by omega), f24 k1 (by omega)]
          exact hr y hy
        refine hR (by omega) _ ⟨by rw [li_1, nI_add], frb_tr f34 (frb_mono f5 fun k hk => Or.inl hk), ?_, fun j => if j = x then q else Q j, fun j hj => ?_, fun j hj hj' => ?_⟩
        · exact rwm_keep (rwm_keep w2 f24 (by omega)) f5 (by omega)
        · dsimp only
          by_cases w : j = x
          · rw [if_pos w, w]
            exact ⟨fun y hy => c5 y (by omega), e4⟩
          · rw [if_neg w]
            exact ⟨k5 j (by omega) w _ (hQ j (by omega)).1, (hQ j (by omega)).2⟩
        · exact k5 j hj' (by omega) _ (hrest j (by omega) hj')
      · rw [pk_mul, nI_add]
        refine ⟨i, by omega, rfl, 2304 * x + i, by omega, rfl, fun S6 e6 x3 e3 => ?_⟩
        rw [rwm_at (rwm_keep w4 f5 (by omega)) (by omega)] at e6
        subst e3
        refine hR2 (by omega) _ ⟨by rw [li_1, nI_add], ?_, fun y hy => ?_, fun y hy => ?_⟩
        · dsimp only
          rw [e6]
          exact frb_tr f5 (frb_bw rfl)
        · dsimp only
          rw [e6, bw_at]
          by_cases w : y = i
          · rw [if_pos ⟨rfl, by omega⟩, w]
          · rw [if_neg (fun z => by have := z.2; omega)]; exact c5 y (by omega)
        · dsimp only
          rw [e6, bw_at, if_neg (fun z => by have := z.2; omega)]
          exact o5 y hy
  · refine hpost S1 G F1 hG1 ⟨c, hg, ?_⟩
    by_cases w : n = 0
    · subst w
      exact Or.inl ⟨hgt_0 hh, rfl⟩
    · have : n = 1 := by omega
      subst this
      have e1 := mon_1 hg.2.2 hh
      refine Or.inr ⟨fun z => (hgt_xd hh).1 (by rw [z]; exact pz_i 0), ?_⟩
      rw [e1]
      exact @pr_one _ (PRr (Fin p)) G
