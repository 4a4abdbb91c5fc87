set_option maxRecDepth 100000
theorem n_subz (a b : Nat) : nI a - nI b = zI ((a : Int) - b) := by rw [z_nI, z_nI, z_sub]
theorem z_eq0 {a : Int} (h : -2147483648 ≤ a ∧ a < 2147483648) : zI a = 0 ↔ a = 0 := by rw [z_0, z_eq h (by omega)]
theorem z_le0 {a : Int} (h : -2147483648 ≤ a ∧ a < 2147483648) : zI a ≤ 0 ↔ a ≤ 0 := by rw [z_0, z_le h (by omega)]
theorem z_ge0 {a : Int} (h : -2147483648 ≤ a ∧ a < 2147483648) : 0 ≤ zI a ↔ 0 ≤ a := by rw [z_0, z_le (by omega) h]
theorem dg_perm {h a b : Nat} (v : vo h a b) (k : Nat) : dg k = ex k a + ex k b + ex k (3 - a - b) := by
  unfold dg
  rcases vo_cases v with ⟨e1, e2, e3⟩ | ⟨e1, e2, e3⟩ | ⟨e1, e2, e3⟩ | ⟨e1, e2, e3⟩ | ⟨e1, e2, e3⟩ | ⟨e1, e2, e3⟩ <;> rw [e3] <;> subst e1 <;> subst e2 <;> omega
theorem sp_compares {h a b k l : Nat} {S : St} {post : Int32 → Prop} (v : vo h a b) (hk : k < 4096) (hl : l < 4096) (hp : ∀ d : Int, -100 ≤ d → d ≤ 100 → (0 < d ↔ ok h a b l < ok h a b k) → (d < 0 ↔ ok h a b k < ok h a b l) → post (zI d)) : wp_compares (nI k) (nI l) (nI h) (nI a) (nI b) S post := by
  rw [ok_o3 v, ok_o3 v] at hp
  have d1 := dg_perm v k
  have d2 := dg_perm v l
  have hv := v
  obtain ⟨v1, v2, v3, v4⟩ := hv
  unfold wp_compares wp_compares_j31
  intro x5 e5
  rw [li_3, pk_sub (by omega), pk_sub (by omega)] at e5
  subst e5
  have l1 := ex_lt k a
  have l2 := ex_lt k b
  have l3 := ex_lt k (3 - a - b)
  have l4 := ex_lt l a
  have l5 := ex_lt l b
  have l6 := ex_lt l (3 - a - b)
  refine sp_degreeOf (by omega) (sp_degreeOf (by omega) ?_)
  intro x6 e6
  rw [n_subz] at e6
  subst e6
  rw [li_0, nI_eq (by omega) (by omega), li_2, nI_eq (by omega) (by omega), ← li_0, z_eq0 (by omega)]
  have J : (h ≠ 0 → (dg k : Int) - dg l = 0) → (¬ h = 2 → wp_exponent (nI k) (nI a) S fun r_1 => wp_exponent (nI l) (nI a) S fun r_3 => ∀ x7_5 : Int32, x7_5 = r_1 - r_3 → wp_exponent (nI k) (nI b) S fun r_6 => wp_exponent (nI l) (nI b) S fun r_8 => ∀ x8_10 : Int32, x8_10 = r_6 - r_8 → (x7_5 = 0 → (x8_10 = 0 → wp_exponent (nI k) (nI (3 - a - b)) S fun r_11 => wp_exponent (nI l) (nI (3 - a - b)) S fun r_13 => post (r_11 - r_13)) ∧ (¬ x8_10 = 0 → post x8_10)) ∧ (¬ x7_5 = 0 → post x7_5)) ∧ (h = 2 → wp_exponent (nI l) (nI (3 - a - b)) S fun r_17 => wp_exponent (nI k) (nI (3 - a - b)) S fun r_19 => ∀ x7_21 : Int32, x7_21 = r_17 - r_19 → (x7_21 = 0 → wp_exponent (nI l) (nI b) S fun r_22 => wp_exponent (nI k) (nI b) S fun r_24 => post (r_22 - r_24)) ∧ (¬ x7_21 = 0 → post x7_21)) := by
    intro hdg
    have s1 : h = 0 → o3 h (ex k a) (ex k b) (ex k (3 - a - b)) = 256 * ex k a + 16 * ex k b + ex k (3 - a - b) ∧ o3 h (ex l a) (ex l b) (ex l (3 - a - b)) = 256 * ex l a + 16 * ex l b + ex l (3 - a - b) := fun e => by subst e; exact ⟨rfl, rfl⟩
    have s2 : h = 1 → o3 h (ex k a) (ex k b) (ex k (3 - a - b)) = 4096 * (ex k a + ex k b + ex k (3 - a - b)) + (256 * ex k a + 16 * ex k b + ex k (3 - a - b)) ∧ o3 h (ex l a) (ex l b) (ex l (3 - a - b)) = 4096 * (ex l a + ex l b + ex l (3 - a - b)) + (256 * ex l a + 16 * ex l b + ex l (3 - a - b)) := fun e => by subst e; exact ⟨rfl, rfl⟩
    have s3 : h = 2 → o3 h (ex k a) (ex k b) (ex k (3 - a - b)) = 4096 * (ex k a + ex k b + ex k (3 - a - b)) + 4095 - (256 * ex k (3 - a - b) + 16 * ex k b + ex k a) ∧ o3 h (ex l a) (ex l b) (ex l (3 - a - b)) = 4096 * (ex l a + ex l b + ex l (3 - a - b)) + 4095 - (256 * ex l (3 - a - b) + 16 * ex l b + ex l a) := fun e => by subst e; exact ⟨rfl, rfl⟩
    refine ⟨fun hne => ?_, fun he => ?_⟩
    · refine sp_exponent (by omega) (by omega) (sp_exponent (by omega) (by omega) ?_)
      intro x7 e7
      rw [n_subz] at e7
      subst e7
      refine sp_exponent (by omega) (by omega) (sp_exponent (by omega) (by omega) ?_)
      intro x8 e8
      rw [n_subz] at e8
      subst e8
      rw [z_eq0 (by omega), z_eq0 (by omega)]
      refine ⟨fun q1 => ⟨fun q2 => sp_exponent (by omega) (by omega) (sp_exponent (by omega) (by omega) ?_), fun q2 => ?_⟩, fun q1 => ?_⟩
      · rw [n_subz]
        exact hp _ (by omega) (by omega) (by omega) (by omega)
      · exact hp _ (by omega) (by omega) (by omega) (by omega)
      · exact hp _ (by omega) (by omega) (by omega) (by omega)
    · refine sp_exponent (by omega) (by omega) (sp_exponent (by omega) (by omega) ?_)
      intro x7 e7
      rw [n_subz] at e7
      subst e7
      rw [z_eq0 (by omega)]
      refine ⟨fun q1 => sp_exponent (by omega) (by omega) (sp_exponent (by omega) (by omega) ?_), fun q1 => ?_⟩
      · rw [n_subz]
        exact hp _ (by omega) (by omega) (by omega) (by omega)
      · exact hp _ (by omega) (by omega) (by omega) (by omega)
  refine ⟨fun c => J (fun q => absurd c q), fun c => ⟨fun d => J (fun _ => d), fun d => ?_⟩⟩
  refine hp _ (by omega) (by omega) ?_ ?_
  · have : h = 1 ∨ h = 2 := by omega
    rcases this with e | e <;> subst e
    · show _ ↔ 4096 * (ex l a + ex l b + ex l (3 - a - b)) + (256 * ex l a + 16 * ex l b + ex l (3 - a - b)) < 4096 * (ex k a + ex k b + ex k (3 - a - b)) + (256 * ex k a + 16 * ex k b + ex k (3 - a - b)); omega
    · show _ ↔ 4096 * (ex l a + ex l b + ex l (3 - a - b)) + 4095 - (256 * ex l (3 - a - b) + 16 * ex l b + ex l a) < 4096 * (ex k a + ex k b + ex k (3 - a - b)) + 4095 - (256 * ex k (3 - a - b) + 16 * ex k b + ex k a); omega
  · have : h = 1 ∨ h = 2 := by omega
    rcases this with e | e <;> subst e
    · show _ ↔ 4096 * (ex k a + ex k b + ex k (3 - a - b)) + (256 * ex k a + 16 * ex k b + ex k (3 - a - b)) < 4096 * (ex l a + ex l b + ex l (3 - a - b)) + (256 * ex l a + 16 * ex l b + ex l (3 - a - b)); omega
    · show _ ↔ 4096 * (ex k a + ex k b + ex k (3 - a - b)) + 4095 - (256 * ex k (3 - a - b) + 16 * ex k b + ex k a) < 4096 * (ex l a + ex l b + ex l (3 - a - b)) + 4095 - (256 * ex l (3 - a - b) + 16 * ex l b + ex l a); omega
theorem sp_isOrder {x y z : Int32} {S : St} {post : Int32 → Prop} (h0 : ¬ (∃ h a b, vo h a b ∧ x = nI h ∧ y = nI a ∧ z = nI b) → post 0) (h1 : ∀ h a b, vo h a b → x = nI h → y = nI a → z = nI b → post 1) : wp_isOrder x y z S post := by
  unfold wp_isOrder
  refine sp_inr (n := 2) rfl (by omega) (fun d => b01 rfl (h0 fun ⟨h, a, b, v, e, _⟩ => d ⟨h, by have := v.1; omega, e⟩)) (fun h hh eh => b11 rfl ?_)
  refine sp_isUnknown (fun d => b01 rfl (h0 fun ⟨h, a, b, v, _, e, _⟩ => d ⟨a, by have := v.2.1; omega, e⟩)) (fun a ha ea => b11 rfl ?_)
  refine sp_isUnknown (fun d => b01 rfl (h0 fun ⟨h, a, b, v, _, _, e⟩ => d ⟨b, by have := v.2.2.1; omega, e⟩)) (fun b hb eb => b11 rfl ?_)
  subst eh ea eb
  rw [nI_eq (by omega) (by omega)]
  refine ⟨fun q => h0 fun ⟨h', a', b', v, _, e2, e3⟩ => ?_, fun q => h1 h a b ⟨by omega, by omega, by omega, q⟩ rfl rfl rfl⟩
  obtain ⟨v1, v2, v3, v4⟩ := v
  rw [nI_eq (by omega) (by omega)] at e2 e3
  omega
theorem mc_leadBy {A : AB} {S : St} {x y z w : Int32} {post : Int32 → St → Prop} (h : rm A S) (hw : wf A) (h0 : ¬ (aN A 0 = 1 ∧ inr x 7) → ∀ S', rm (aS A 1 (-1)) S' → post (-1) S') (h2 : aN A 0 = 1 → inr x 7 → ¬ (∃ h a b, vo h a b ∧ y = nI h ∧ z = nI a ∧ w = nI b) → ∀ S', rm (aS A 2 (-1)) S' → post (-1) S')
    (h1 : aN A 0 = 1 → ∀ r h a b, r < 8 → vo h a b → x = nI r → y = nI h → z = nI a → w = nI b → ((∀ k, k < 4096 → aR A r k = 0) → ∀ S', rm (aS A 0 (-1)) S' → post (-2) S') ∧ ∀ k, led (ok h a b) (aR A r) k → ∀ S', rm (aS A 0 (-1)) S' → post (nI k) S') : wp_leadBy x y z w S post := by
  unfold wp_leadBy
  intro S1 e1
  have g : rm A S1 := by rw [e1]; exact rm_0 h
  refine sp_isReg g hw (fun c => b02 rfl (sp_refused g (sc_rfl _) (h0 c))) (fun ht r hr e => b12 rfl ?_)
  have hir : inr x 7 := ⟨r, by omega, e⟩
  refine sp_isOrder (fun d => b02 rfl (sp_refused g (sc_rfl _) (h2 ht hir d))) (fun hh a b v eh ea eb => b12 rfl ?_)
  obtain ⟨f0, f1⟩ := h1 ht r hh a b hr v e eh ea eb
  subst e eh ea eb
  have htb := rm_tb g hw ht hr
  unfold wp_leadBy_l41
  refine wl_up 4096 (fun i v => v.2 = nI i ∧ ((v.1 = -1 ∧ ∀ k, k < i → aR A r k = 0) ∨ ∃ k, k < i ∧ v.1 = nI k ∧ aR A r k ≠ 0 ∧ ∀ l, l < i → aR A r l ≠ 0 → l ≠ k → ok hh a b l < ok hh a b k)) 0 (by omega) ⟨rfl, Or.inl ⟨rfl, fun k hk => absurd hk (by omega)⟩⟩ ?_
  rintro i ⟨x5, x6⟩ hi ⟨hx6, hx5⟩ R hR
  dsimp only at hx6 hx5
  subst hx6
  unfold wp_leadBy_b41 wp_leadBy_j79 wp_leadBy_j83
  dsimp only
  rw [li_4096, nI_leI (by omega) (by omega)]
  refine ⟨fun c => ?_, fun c => ?_⟩
  · have hi2 : i = 4096 := by omega
    subst hi2
    rcases hx5 with ⟨e5, hz⟩ | ⟨k, hk, e5, hnz, hmax⟩
    · subst e5
      exact ⟨fun q => absurd rfl q, fun _ => sp_good g (sc_rfl _) (f0 hz)⟩
    · subst e5
      exact ⟨fun _ => sp_good g (sc_rfl _) (f1 k ⟨hk, hnz, hmax⟩), fun q => absurd q (n_m1 (by omega))⟩
  · refine sp_coef hr (by omega) ?_
    obtain ⟨e, hb⟩ := htb i (by omega)
    rw [e, li_0, nI_eq (by omega) (by omega), ← li_0]
    refine ⟨fun d x6 e6 => ?_, fun d => ?_⟩
    · subst e6
      refine hR (by omega) _ ⟨by rw [li_1, nI_add], ?_⟩
      rcases hx5 with ⟨e5, hz⟩ | ⟨k, hk, e5, hnz, hmax⟩
      · refine Or.inl ⟨e5, fun k hk => ?_⟩
        by_cases q : k = i
        · rw [q]; exact d
        · exact hz k (by omega)
      · refine Or.inr ⟨k, by omega, e5, hnz, fun l hl hlz hlk => ?_⟩
        by_cases q : l = i
        · rw [q] at hlz; exact absurd d hlz
        · exact hmax l (by omega) hlz hlk
    · rcases hx5 with ⟨e5, hz⟩ | ⟨k, hk, e5, hnz, hmax⟩
      · subst e5
        refine ⟨fun _ x6 e6 => ?_, fun q => absurd rfl q⟩
        subst e6
        refine hR (by omega) _ ⟨by rw [li_1, nI_add], Or.inr ⟨i, by omega, rfl, d, fun l hl hlz hlk => absurd (hz l (by omega)) hlz⟩⟩
      · subst e5
        refine ⟨fun q => absurd q (n_m1 (by omega)), fun _ => sp_compares v (by omega) (by omega) (fun dd b1 b2 p1 p2 => ?_)⟩
        rw [z_le0 (by omega)]
        refine ⟨fun q x6 e6 => ?_, fun q x6 e6 => ?_⟩
        · subst e6
          refine hR (by omega) _ ⟨by rw [li_1, nI_add], Or.inr ⟨k, by omega, rfl, hnz, fun l hl hlz hlk => ?_⟩⟩
          by_cases ql : l = i
          · subst ql
            have hne : ok hh a b l ≠ ok hh a b k := fun z => hlk (ok_inj v (by omega) (by omega) z)
            omega
          · exact hmax l (by omega) hlz hlk
        · subst e6
          refine hR (by omega) _ ⟨by rw [li_1, nI_add], Or.inr ⟨i, by omega, rfl, d, fun l hl hlz hlk => ?_⟩⟩
          by_cases ql : l = k
          · subst ql; omega
          · have := hmax l (by omega) hlz ql
            omega
