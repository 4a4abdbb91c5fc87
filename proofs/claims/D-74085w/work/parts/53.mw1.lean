set_option maxRecDepth 100000
/-! the Model's work -/
def wk (S : St) (p : Nat) (w : Nat → Nat) : Prop := ∀ k, k < 4096 → S 6 k = nI (w k) ∧ w k < p
def fr6 (S S' : St) : Prop := ∀ k i, k ≠ 6 → ¬ (k = 0 ∧ i = 29) → S' k i = S k i
theorem fr6_tr {S S' S'' : St} (h1 : fr6 S S') (h2 : fr6 S' S'') : fr6 S S'' := fun k i a b => (h2 k i a b).trans (h1 k i a b)
theorem fr6_sc {S S' : St} (h : fr6 S S') : sc S S' := fun k i hp => h k i (by unfold pers at hp; omega) (by unfold pers at hp; omega)
theorem sp_clears {S : St} {post : St → Prop} (hp : ∀ S', fr6 S S' → (∀ k, k < 4096 → S' 6 k = nI 0) → S' 0 29 = 1 → post S') : wp_clears S post := by
  unfold wp_clears wp_clears_l2
  refine wl_up 4096 (fun i v => v.1 = nI i ∧ fr6 S v.2 ∧ ∀ k, k < i → v.2 6 k = nI 0) 0 (by omega) ⟨rfl, fun _ _ _ _ => rfl, fun k hk => absurd hk (by omega)⟩ ?_
  rintro i ⟨x1, S1⟩ hi ⟨hx, hfr, hz⟩ R hR
  dsimp only at hx hfr hz
  subst hx
  unfold wp_clears_b2
  dsimp only
  rw [li_4096, nI_leI (by omega) (by omega)]
  refine ⟨fun c S2 e2 => ?_, fun c => ⟨i, by omega, rfl, fun S2 e2 x1 e1 => ?_⟩⟩
  · refine hp S2 (fun k j q1 q2 => ?_) (fun k hk => ?_) ?_
    · rw [e2, bw_at, if_neg q2]; exact hfr k j q1 q2
    · rw [e2, bw_at, if_neg (by omega)]; exact hz k (by omega)
    · rw [e2, bw_at, if_pos ⟨rfl, rfl⟩]
  · subst e1
    refine hR (by omega) _ ⟨by rw [li_1, nI_add], fun k j q1 q2 => ?_, fun k hk => ?_⟩
    · show S2 k j = _
      rw [e2, bw_at, if_neg (fun z => q1 z.1)]; exact hfr k j q1 q2
    · show S2 6 k = _
      rw [e2, bw_at]
      by_cases q : k = i
      · rw [if_pos ⟨rfl, q⟩]; rfl
      · rw [if_neg (fun z => q z.2)]; exact hz k (by omega)
/-- exponents go into others -/
def gi (t m : Nat) : Prop := ∀ u, u < 3 → ex t u ≤ ex m u
noncomputable def gi_dec (t m : Nat) : Decidable (gi t m) := Classical.propDecidable _
theorem gi_sub {t m : Nat} (ht : t < 4096) (hm : m < 4096) (h : gi t m) : t ≤ m ∧ gs (m - t) t ∧ ∀ u, u < 3 → ex (m - t) u = ex m u - ex t u := by
  have h0 := h 0 (by omega)
  have h1 := h 1 (by omega)
  have h2 := h 2 (by omega)
  have e1 := ex_sum ht
  have e2 := ex_sum hm
  have l0 := ex_lt m 0
  have l1 := ex_lt m 1
  have l2 := ex_lt m 2
  have hle : t ≤ m := by omega
  have hs : m - t = (ex m 0 - ex t 0) + 16 * (ex m 1 - ex t 1) + 256 * (ex m 2 - ex t 2) := by omega
  obtain ⟨q0, q1, q2⟩ := ex_mk (x := ex m 0 - ex t 0) (y := ex m 1 - ex t 1) (z := ex m 2 - ex t 2) (by omega) (by omega) (by omega)
  rw [← hs] at q0 q1 q2
  have hall : ∀ u, u < 3 → ex (m - t) u = ex m u - ex t u := fun u hu => by
    have : u = 0 ∨ u = 1 ∨ u = 2 := by omega
    rcases this with e | e | e
    · rw [e]; exact q0
    · rw [e]; exact q1
    · rw [e]; exact q2
  refine ⟨hle, fun u hu => ?_, hall⟩
  rw [hall u hu]
  have := h u hu
  have := ex_lt m u
  omega
theorem gs_gi {k t : Nat} (hk : k < 4096) (ht : t < 4096) (h : gs k t) : gi t (k + t) := fun u hu => by
  rw [(gs_ex hk ht h).2 u hu]; omega
/-- a table moved by exponents -/
noncomputable def sh (f : Nat → Nat) (t m : Nat) : Nat := @ite _ (gi t m) (gi_dec t m) (f (m - t)) 0
theorem sh_at {f : Nat → Nat} {k t : Nat} (hk : k < 4096) (ht : t < 4096) (h : gs k t) : sh f t (k + t) = f k := by
  unfold sh
  rw [if_pos (gs_gi hk ht h), Nat.add_sub_cancel]
theorem sh_no {f : Nat → Nat} {t m : Nat} (h : ¬ gi t m) : sh f t m = 0 := by unfold sh; rw [if_neg h]
theorem sh_yes {f : Nat → Nat} {t m : Nat} (h : gi t m) : sh f t m = f (m - t) := by unfold sh; rw [if_pos h]
theorem sh_0 (f : Nat → Nat) (m : Nat) : sh f 0 m = f m := sh_yes (fun u _ => by unfold ex; rw [Nat.zero_div, Nat.zero_mod]; omega)
theorem gs_0 (k : Nat) : gs k 0 := fun u _ => by
  have h1 := ex_lt k u
  have h2 : ex 0 u = 0 := by unfold ex; rw [Nat.zero_div, Nat.zero_mod]
  omega
/-- some term has no room -/
def ovf (f : Nat → Nat) (c t : Nat) : Prop := c ≠ 0 ∧ ∃ k, k < 4096 ∧ f k ≠ 0 ∧ ¬ gs k t
theorem sp_puts {r c t p : Nat} {f w : Nat → Nat} {S : St} {post : St → Prop} (hp : pr p) (h5 : S 0 5 = nI p) (hr : r < 8) (ht : tb S r f) (hc : c < p) (htt : t < 4096) (hw : wk S p w) (hpost : ∀ S', fr6 S S' → wk S' p (fun m => (w m + c * sh f t m) % p) → (ovf f c t → S' 0 29 = 0) → (¬ ovf f c t → S' 0 29 = S 0 29) → post S') : wp_puts (nI r) (nI c) (nI t) S post := by
  have h2 := hp.1
  have h97 := hp.2.1
  unfold wp_puts wp_puts_l3
  refine wl_up 4096 (fun i v => v.1 = nI i ∧ fr6 S v.2 ∧ (∀ m, m < 4096 → v.2 6 m = nI ((w m + c * (if m - t < i then sh f t m else 0)) % p)) ∧ ((c ≠ 0 ∧ ∃ k, k < i ∧ f k ≠ 0 ∧ ¬ gs k t) → v.2 0 29 = 0) ∧ (¬ (c ≠ 0 ∧ ∃ k, k < i ∧ f k ≠ 0 ∧ ¬ gs k t) → v.2 0 29 = S 0 29)) 0 (by omega) ⟨rfl, fun _ _ _ _ => rfl, fun m hm => by
    show S 6 m = _
    rw [if_neg (by omega), Nat.mul_zero, Nat.add_zero, Nat.mod_eq_of_lt (hw m hm).2, (hw m hm).1], fun ⟨_, k, hk, _⟩ => absurd hk (by omega), fun _ => rfl⟩ ?_
  rintro i ⟨x4, S1⟩ hi ⟨hx, hfr, hm, hr1, hr2⟩ R hR
  dsimp only at hx hfr hm hr1 hr2
  subst hx
  unfold wp_puts_b3 wp_puts_j79
  dsimp only
  rw [li_4096, nI_leI (by omega) (by omega)]
  refine ⟨fun q => ?_, fun q => ?_⟩
  · have : i = 4096 := by omega
    subst this
    refine hpost S1 hfr (fun m hm4 => ⟨?_, Nat.mod_lt _ (by omega)⟩) hr1 hr2
    rw [hm m hm4, if_pos (by omega)]
  · obtain ⟨e, hb⟩ := ht i (by omega)
    have e1 : S1 1 (4096 * r + i) = nI (f i) := by rw [hfr 1 _ (by omega) (by omega)]; exact e
    have skip : (f i = 0 ∨ c = 0) → ∀ x4, x4 = nI i + 1 → R (x4, S1) := fun hz x4 e4 => by
      subst e4
      refine hR (by omega) _ ⟨by rw [li_1, nI_add], hfr, fun m hm4 => ?_, fun ⟨hc0, k, hk, hf, hg⟩ => ?_, fun hn => ?_⟩
      · show S1 6 m = _
        rw [hm m hm4]
        congr 1
        by_cases qm : m - t < i
        · rw [if_pos qm, if_pos (by omega)]
        · by_cases qm2 : m - t < i + 1
          · rw [if_neg qm, if_pos qm2]
            rcases hz with hz | hz
            · have : sh f t m = 0 := by
                by_cases gg : gi t m
                · rw [sh_yes gg, show m - t = i by omega]; exact hz
                · exact sh_no gg
              rw [this]
            · rw [hz, Nat.zero_mul, Nat.zero_mul]
          · rw [if_neg qm, if_neg qm2]
      · refine hr1 ⟨hc0, k, ?_, hf, hg⟩
        rcases hz with hz | hz
        · by_cases qk : k = i
          · rw [qk] at hf; exact absurd hz hf
          · omega
        · exact absurd hz hc0
      · exact hr2 fun ⟨hc0, k, hk, hf, hg⟩ => hn ⟨hc0, k, by omega, hf, hg⟩
    refine sp_coef hr (by omega) ?_
    rw [e1, li_0, nI_eq (by omega) (by omega), nI_eq (by omega) (by omega), ← li_0]
    refine ⟨fun d => skip (Or.inl d), fun d => ⟨fun d2 => ?_, fun d2 => skip (Or.inr d2)⟩⟩
    refine sp_sum (by omega) htt (fun hg => ?_) (fun hg => ?_)
    · have hlt := (gs_ex (by omega) htt hg).1
      have gg := gs_gi (by omega) htt hg
      refine ⟨fun _ => ⟨i + t, hlt, rfl, sp_coef hr (by omega) ?_⟩, fun z => absurd z (n_m1 (by omega))⟩
      have h51 : S1 0 5 = nI p := by rw [hfr 0 5 (by omega) (by omega)]; exact h5
      have hold : S1 6 (i + t) = nI (w (i + t)) := by
        rw [hm _ hlt, if_neg (by omega), Nat.mul_zero, Nat.add_zero, Nat.mod_eq_of_lt (hw _ hlt).2]
      have hwl := (hw _ hlt).2
      have hml := mul97 (a := f i) (b := c) (by omega) (by omega)
      rw [e1, h51, hold, pk_mul, nI_add, n_rem (by omega) (by omega) (by omega)]
      refine ⟨n_ne0 hp, i + t, hlt, rfl, fun S2 e2 x4 e4 => ?_⟩
      subst e4
      refine hR (by omega) _ ⟨by rw [li_1, nI_add], fun k j q1 q2 => ?_, fun m hm4 => ?_, fun ⟨hc0, k, hk, hf, hgk⟩ => ?_, fun hn => ?_⟩
      · show S2 k j = _
        rw [e2, bw_at, if_neg (fun z => q1 z.1)]; exact hfr k j q1 q2
      · show S2 6 m = _
        rw [e2, bw_at]
        by_cases qm : m = i + t
        · rw [if_pos ⟨rfl, qm⟩, qm, if_pos (by omega), sh_at (by omega) htt hg, Nat.mul_comm c]
        · rw [if_neg (fun z => qm z.2), hm m hm4]
          congr 1
          by_cases qi : m - t < i
          · rw [if_pos qi, if_pos (by omega)]
          · by_cases qi2 : m - t < i + 1
            · rw [if_neg qi, if_pos qi2]
              have : sh f t m = 0 := by
                by_cases g2 : gi t m
                · have := (gi_sub htt hm4 g2).1
                  omega
                · exact sh_no g2
              rw [this]
            · rw [if_neg qi, if_neg qi2]
      · show S2 0 29 = _
        rw [e2, bw_at, if_neg (by omega)]
        refine hr1 ⟨hc0, k, ?_, hf, hgk⟩
        by_cases qk : k = i
        · rw [qk] at hgk; exact absurd hg hgk
        · omega
      · show S2 0 29 = _
        rw [e2, bw_at, if_neg (by omega)]
        exact hr2 fun ⟨hc0, k, hk, hf, hgk⟩ => hn ⟨hc0, k, by omega, hf, hgk⟩
    · refine ⟨fun z => absurd rfl z, fun _ S2 e2 x4 e4 => ?_⟩
      subst e4
      refine hR (by omega) _ ⟨by rw [li_1, nI_add], fun k j q1 q2 => ?_, fun m hm4 => ?_, fun _ => ?_, fun hn => ?_⟩
      · show S2 k j = _
        rw [e2, bw_at, if_neg q2]; exact hfr k j q1 q2
      · show S2 6 m = _
        rw [e2, bw_at, if_neg (by omega), hm m hm4]
        congr 1
        by_cases qi : m - t < i
        · rw [if_pos qi, if_pos (by omega)]
        · by_cases qi2 : m - t < i + 1
          · rw [if_neg qi, if_pos qi2]
            have : sh f t m = 0 := by
              by_cases g2 : gi t m
              · obtain ⟨z1, z2, _⟩ := gi_sub htt hm4 g2
                rw [show m - t = i by omega] at z2
                exact absurd z2 hg
              · exact sh_no g2
            rw [this]
          · rw [if_neg qi, if_neg qi2]
      · show S2 0 29 = _
        rw [e2, bw_at, if_pos ⟨rfl, rfl⟩]
      · exact absurd ⟨d2, i, by omega, d, hg⟩ hn
theorem sp_workTerms {p : Nat} {w : Nat → Nat} {S : St} {post : Int32 → Prop} (hp : pr p) (hw : wk S p w) (h : post (nI (cn w 4096))) : wp_workTerms S post := by
  have h97 := hp.2.1
  unfold wp_workTerms wp_workTerms_l4
  refine wl_up 4096 (fun i v => v = (nI (cn w i), nI i)) 0 (by omega) rfl ?_
  rintro i v hi rfl R hR
  unfold wp_workTerms_b4 wp_workTerms_j28
  dsimp only
  rw [li_4096, nI_leI (by omega) (by omega)]
  refine ⟨fun c => ?_, fun c => ⟨i, by omega, rfl, ?_⟩⟩
  · rw [show i = 4096 by omega]; exact h
  · obtain ⟨e, hb⟩ := hw i (by omega)
    rw [e, li_0, nI_eq (by omega) (by omega)]
    refine ⟨fun d => ?_, fun d => ?_⟩
    · intro x2 e2 x3 e3
      subst e2 e3
      refine hR (by omega) _ ?_
      rw [cn_s, if_pos d, nI_add, li_1, nI_add]
    · intro x2 e2 x3 e3
      subst e2 e3
      refine hR (by omega) _ ?_
      rw [cn_s, if_neg d, li_1, nI_add, nI_add]
