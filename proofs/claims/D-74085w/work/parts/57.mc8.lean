set_option maxRecDepth 100000
theorem p16 (u : Nat) (hu : u < 3) : 16 ^ u = 1 ∨ 16 ^ u = 16 ∨ 16 ^ u = 256 := by
  have : u = 0 ∨ u = 1 ∨ u = 2 := by omega
  rcases this with e | e | e <;> subst e <;> decide
/-- a number by its exponents -/
def mkx (x y z : Nat) : Nat := x + 16 * y + 256 * z
theorem ex_up {k u : Nat} (hk : k < 4096) (hu : u < 3) (h : ex k u < 15) : k + 16 ^ u < 4096 ∧ ex (k + 16 ^ u) u = ex k u + 1 ∧ ∀ v, v < 3 → v ≠ u → ex (k + 16 ^ u) v = ex k v := by
  have e : u = 0 ∨ u = 1 ∨ u = 2 := by omega
  rcases e with e | e | e <;> subst e
  · rw [show (16 : Nat) ^ 0 = 1 from rfl]
    rw [ex_0] at h
    refine ⟨by omega, by rw [ex_0, ex_0]; omega, fun v hv hn => ?_⟩
    have : v = 1 ∨ v = 2 := by omega
    rcases this with e | e <;> subst e
    · rw [ex_1, ex_1]; omega
    · rw [ex_2, ex_2]; omega
  · rw [show (16 : Nat) ^ 1 = 16 from rfl]
    rw [ex_1] at h
    refine ⟨by omega, by rw [ex_1, ex_1]; omega, fun v hv hn => ?_⟩
    have : v = 0 ∨ v = 2 := by omega
    rcases this with e | e <;> subst e
    · rw [ex_0, ex_0]; omega
    · rw [ex_2, ex_2]; omega
  · rw [show (16 : Nat) ^ 2 = 256 from rfl]
    rw [ex_2] at h
    refine ⟨by omega, by rw [ex_2, ex_2]; omega, fun v hv hn => ?_⟩
    have : v = 0 ∨ v = 1 := by omega
    rcases this with e | e <;> subst e
    · rw [ex_0, ex_0]; omega
    · rw [ex_1, ex_1]; omega
theorem ex_dn {k u : Nat} (hk : k < 4096) (hu : u < 3) (h : 0 < ex k u) : 16 ^ u ≤ k ∧ ex (k - 16 ^ u) u = ex k u - 1 := by
  have e : u = 0 ∨ u = 1 ∨ u = 2 := by omega
  rcases e with e | e | e <;> subst e
  · rw [show (16 : Nat) ^ 0 = 1 from rfl]
    rw [ex_0] at h ⊢
    rw [ex_0]; omega
  · rw [show (16 : Nat) ^ 1 = 16 from rfl]
    rw [ex_1] at h ⊢
    rw [ex_1]; omega
  · rw [show (16 : Nat) ^ 2 = 256 from rfl]
    rw [ex_2] at h ⊢
    rw [ex_2]; omega
theorem ex_zero {k u : Nat} (hk : k < 4096) (hu : u < 3) : ex k u * 16 ^ u ≤ k := by
  have e : u = 0 ∨ u = 1 ∨ u = 2 := by omega
  rcases e with e | e | e <;> subst e
  · rw [show (16 : Nat) ^ 0 = 1 from rfl, ex_0]; omega
  · rw [show (16 : Nat) ^ 1 = 16 from rfl, ex_1]; omega
  · rw [show (16 : Nat) ^ 2 = 256 from rfl, ex_2]; omega
/-- a derivative -/
def dr (p : Nat) (f : Nat → Nat) (u m : Nat) : Nat := if ex m u < 15 then f (m + 16 ^ u) * (ex m u + 1) % p else 0
theorem n_shl16 {e u : Nat} (he : e < 16) (hu : u < 3) : jshl (nI e) (4 * nI u) = nI (e * 16 ^ u) := by
  have := p16 u hu
  rw [li_4, pk_mul, n_shl (by omega) (by rw [pow16]; rcases this with z | z | z <;> rw [z] <;> omega), pow16]
theorem mc_derive {A : AB} {S : St} {x y z : Int32} {post : Int32 → St → Prop} (h : rm A S) (hw : wf A) (h0 : ¬ (aN A 0 = 1 ∧ inr x 7 ∧ inr y 2 ∧ inr z 7) → ∀ S', rm (aS A 1 (-1)) S' → post (-1) S')
    (h1 : aN A 0 = 1 → ∀ r u k, r < 8 → u < 3 → k < 8 → x = nI r → y = nI u → z = nI k → lyd A k (dr (aN A 1) (aR A r) u) True post) : wp_derive x y z S post := by
  unfold wp_derive wp_derive_j28
  intro S1 e1
  have g : rm A S1 := by rw [e1]; exact rm_0 h
  refine sp_isReg g hw (fun c => b01 rfl (sp_refused g (sc_rfl _) (h0 fun q => c ⟨q.1, q.2.1⟩))) (fun ht r hr er => b11 rfl ?_)
  refine sp_isUnknown (fun c => b01 rfl (sp_refused g (sc_rfl _) (h0 fun q => c q.2.2.1))) (fun u hu eu => b11 rfl ?_)
  refine sp_isReg g hw (fun c => b02 rfl (sp_refused g (sc_rfl _) (h0 fun q => c ⟨q.1, q.2.2.2⟩))) (fun _ k hk ek => b12 rfl ?_)
  have hl := h1 ht r u k hr hu hk er eu ek
  subst er eu ek
  have hp := (hw.2.2.2.2 ht).1
  have h2 := hp.1
  have h97 := hp.2.1
  refine sp_clears (fun S2 f2 z2 r2 => ?_)
  unfold wp_derive_l41
  refine wl_up 4096 (fun i v => v.1 = nI i ∧ fr6 S2 v.2 ∧ v.2 0 29 = 1 ∧ ∀ m, m < 4096 → v.2 6 m = nI (if m + 16 ^ u < i then dr (aN A 1) (aR A r) u m else 0)) 0 (by omega) ⟨rfl, fun _ _ _ _ => rfl, r2, fun m hm => by rw [if_neg (Nat.not_lt_zero _)]; exact z2 m hm⟩ ?_
  rintro i ⟨x4, S3⟩ hi ⟨hx4, f3, r3, w3⟩ R hR
  dsimp only at hx4 f3 r3 w3
  subst hx4
  have s3 : sc S1 S3 := sc_tr (fr6_sc f2) (fr6_sc f3)
  unfold wp_derive_b41 wp_derive_j90
  dsimp only
  rw [li_4096, nI_leI (by omega) (by omega)]
  refine ⟨fun c => ?_, fun c => ?_⟩
  · refine sp_lyd (v := dr (aN A 1) (aR A r) u) g hw ht s3 hk (fun m hm => ⟨?_, ?_⟩) (fun _ m _ => rfl) (fun q => absurd trivial q) (fun _ => r3) hl
    · rw [w3 m hm]
      by_cases q : m + 16 ^ u < i
      · rw [if_pos q]
      · rw [if_neg q]
        congr 1
        unfold dr
        rw [if_neg]
        intro q2
        have := (ex_up hm hu q2).1
        omega
    · unfold dr
      split
      · exact Nat.mod_lt _ (by omega)
      · omega
  · have hlt := ex_lt i u
    refine sp_exponent (by omega) (by omega) ?_
    rw [li_0, nI_leI (by omega) (by omega)]
    refine ⟨fun d x4 ex4 => ?_, fun d => ?_⟩
    · subst ex4
      refine hR (by omega) _ ⟨by rw [li_1, nI_add], f3, r3, fun m hm => ?_⟩
      show S3 6 m = _
      rw [w3 m hm]
      by_cases q : m + 16 ^ u < i
      · rw [if_pos q, if_pos (by omega)]
      · by_cases q2 : m + 16 ^ u < i + 1
        · rw [if_neg q, if_pos q2]
          congr 1
          unfold dr
          rw [if_neg]
          intro q3
          have := (ex_up hm hu q3).2.1
          rw [show m + 16 ^ u = i by omega] at this
          omega
        · rw [if_neg q, if_neg q2]
    · obtain ⟨d1, d2⟩ := ex_dn (k := i) (by omega) hu (by omega)
      have tbi := tb_any g s3 hw ht hr
      obtain ⟨e, hb⟩ := tbi i (by omega)
      refine sp_coef hr (by omega) ?_
      have hm := mul97 (a := aR A r i) (b := ex i u) (by omega) (by omega)
      rw [e, f5_any g s3 ht, pk_mul, n_rem (by omega) (by omega) (by omega), li_1, n_shl16 (by omega) hu, Nat.one_mul]
      refine ⟨n_ne0 hp, i - 16 ^ u, Nat.lt_of_le_of_lt (Nat.sub_le _ _) (by omega), pk_sub d1, fun S4 e4 x4 ex4 => ?_⟩
      subst ex4
      refine hR (by omega) _ ⟨by rw [nI_add], fun k j q1 q2 => ?_, ?_, fun m hm => ?_⟩
      · show S4 k j = _
        rw [e4, bw_at, if_neg (fun z => q1 z.1)]; exact f3 k j q1 q2
      · show S4 0 29 = _
        rw [e4, bw_at, if_neg (by omega)]; exact r3
      · show S4 6 m = _
        rw [e4, bw_at]
        by_cases q : m = i - 16 ^ u
        · rw [if_pos ⟨rfl, q⟩, if_pos (by omega)]
          unfold dr
          rw [q, d2, if_pos (by omega), show i - 16 ^ u + 16 ^ u = i by omega, show ex i u - 1 + 1 = ex i u by omega]
        · rw [if_neg (fun z => q z.2), w3 m hm]
          by_cases q3 : m + 16 ^ u < i
          · rw [if_pos q3, if_pos (by omega)]
          · rw [if_neg q3, if_neg (by omega)]
/-- without an unknown -/
def wo (u i : Nat) : Nat := i - ex i u * 16 ^ u
/-- a value put in: what is gathered of the first n -/
def ptn (p : Nat) (f : Nat → Nat) (u c n m : Nat) : Nat := ns (fun i => if wo u i = m then f i * pw p c (ex i u) else 0) n % p
theorem mc_put {A : AB} {S : St} {x y v z : Int32} {post : Int32 → St → Prop} (h : rm A S) (hw : wf A) (h0 : ¬ (aN A 0 = 1 ∧ inr x 7 ∧ inr y 2 ∧ inr z 7) → ∀ S', rm (aS A 1 (-1)) S' → post (-1) S') (h2 : aN A 0 = 1 → inr x 7 → inr y 2 → inr z 7 → ¬ inr v (aN A 1 - 1) → ∀ S', rm (aS A 2 (-1)) S' → post (-1) S')
    (h1 : aN A 0 = 1 → ∀ r u c k, r < 8 → u < 3 → c < aN A 1 → k < 8 → x = nI r → y = nI u → v = nI c → z = nI k → lyd A k (ptn (aN A 1) (aR A r) u c 4096) True post) : wp_put x y v z S post := by
  unfold wp_put wp_put_j29
  intro S1 e1
  have g : rm A S1 := by rw [e1]; exact rm_0 h
  refine sp_isReg g hw (fun c => b01 rfl (sp_refused g (sc_rfl _) (h0 fun q => c ⟨q.1, q.2.1⟩))) (fun ht r hr er => b11 rfl ?_)
  refine sp_isUnknown (fun c => b01 rfl (sp_refused g (sc_rfl _) (h0 fun q => c q.2.2.1))) (fun u hu eu => b11 rfl ?_)
  refine sp_isReg g hw (fun c => b02 rfl (sp_refused g (sc_rfl _) (h0 fun q => c ⟨q.1, q.2.2.2⟩))) (fun _ k hk ek => b12 rfl ?_)
  have hp := (hw.2.2.2.2 ht).1
  refine sp_isValue hp (f5_any g (sc_rfl _) ht) (fun d => b02 rfl (sp_refused g (sc_rfl _) (h2 ht ⟨r, by omega, er⟩ ⟨u, by omega, eu⟩ ⟨k, by omega, ek⟩ d))) (fun c hc ec => b12 rfl ?_)
  have hl := h1 ht r u c k hr hu hc hk er eu ec ek
  subst er eu ec ek
  have h2 := hp.1
  have h97 := hp.2.1
  refine sp_clears (fun S2 f2 z2 r2 => ?_)
  unfold wp_put_l56
  refine wl_up 4096 (fun i v => v.1 = nI i ∧ fr6 S2 v.2 ∧ v.2 0 29 = 1 ∧ wk v.2 (aN A 1) (ptn (aN A 1) (aR A r) u c i)) 0 (by omega) ⟨rfl, fun _ _ _ _ => rfl, r2, fun m hm => ⟨by rw [show ptn (aN A 1) (aR A r) u c 0 m = 0 from Nat.zero_mod _]; exact z2 m hm, Nat.mod_lt _ (by omega)⟩⟩ ?_
  rintro i ⟨x5, S3⟩ hi ⟨hx5, f3, r3, w3⟩ R hR
  dsimp only at hx5 f3 r3 w3
  subst hx5
  have s3 : sc S1 S3 := sc_tr (fr6_sc f2) (fr6_sc f3)
  unfold wp_put_b56
  dsimp only
  rw [li_4096, nI_leI (by omega) (by omega)]
  refine ⟨fun cc => ?_, fun cc => ?_⟩
  · rw [show i = 4096 by omega] at w3
    exact sp_lyd g hw ht s3 hk w3 (fun _ m _ => rfl) (fun q => absurd trivial q) (fun _ => r3) hl
  · have hlt := ex_lt i u
    have hz := ex_zero (k := i) (by omega) hu
    have hwo : wo u i < 4096 := by unfold wo; omega
    refine sp_exponent (by omega) (by omega) ?_
    intro x7 ex7
    rw [n_shl16 hlt hu, pk_sub hz] at ex7
    have ex7 : x7 = nI (wo u i) := ex7
    subst ex7
    refine ⟨wo u i, hwo, rfl, sp_coef hr (by omega) ?_⟩
    have tbi := tb_any g s3 hw ht hr
    obtain ⟨e, hb⟩ := tbi i (by omega)
    have hpw := pw_lt (v := c) hp (ex i u)
    refine sp_power hp (f5_any g s3 ht) hc hlt ?_
    obtain ⟨w31, w32⟩ := w3 _ hwo
    have hm := mul97 (a := aR A r i) (b := pw (aN A 1) c (ex i u)) (by omega) (by omega)
    rw [e, f5_any g s3 ht, w31, pk_mul, nI_add, n_rem (by omega) (by omega) (by omega)]
    refine ⟨n_ne0 hp, wo u i, hwo, rfl, fun S4 e4 x5 ex5 => ?_⟩
    subst ex5
    refine hR (by omega) _ ⟨by rw [li_1, nI_add], fun k j q1 q2 => ?_, ?_, fun m hm => ⟨?_, Nat.mod_lt _ (by omega)⟩⟩
    · show S4 k j = _
      rw [e4, bw_at, if_neg (fun z => q1 z.1)]; exact f3 k j q1 q2
    · show S4 0 29 = _
      rw [e4, bw_at, if_neg (by omega)]; exact r3
    · show S4 6 m = nI ((ns _ i + (if wo u i = m then _ else 0)) % aN A 1)
      rw [e4, bw_at]
      by_cases q : m = wo u i
      · rw [if_pos ⟨rfl, q⟩, if_pos q.symm, q]
        congr 1
        show (ns _ i % aN A 1 + _) % aN A 1 = _
        rw [Nat.mod_add_mod]
      · rw [if_neg (fun z => q z.2), if_neg (fun z => q z.symm), Nat.add_zero]
        exact (w3 m hm).1
/-- exponents changed one for another -/
def sq (u v w : Nat) : Nat := if w = u then v else if w = v then u else w
def sw (u v i : Nat) : Nat := ex i (sq u v 0) + 16 * ex i (sq u v 1) + 256 * ex i (sq u v 2)
theorem sq_lt {u v w : Nat} (hu : u < 3) (hv : v < 3) (hw : w < 3) : sq u v w < 3 := by
  unfold sq
  split
  · exact hv
  · split
    · exact hu
    · exact hw
theorem sq_sq {u v w : Nat} (hu : u < 3) (hv : v < 3) (hw : w < 3) : sq u v (sq u v w) = w := by
  unfold sq
  by_cases h1 : w = u
  · rw [if_pos h1]
    by_cases h2 : v = u
    · rw [if_pos h2]; omega
    · rw [if_neg h2, if_pos rfl, h1]
  · rw [if_neg h1]
    by_cases h2 : w = v
    · rw [if_pos h2, if_pos rfl, h2]
    · rw [if_neg h2, if_neg h1, if_neg h2]
theorem sw_ex {u v i : Nat} (w : Nat) (hw : w < 3) : sw u v i < 4096 ∧ ex (sw u v i) w = ex i (sq u v w) := by
  have l0 := ex_lt i (sq u v 0)
  have l1 := ex_lt i (sq u v 1)
  have l2 := ex_lt i (sq u v 2)
  obtain ⟨q0, q1, q2⟩ := ex_mk l0 l1 l2
  refine ⟨by unfold sw; omega, ?_⟩
  have : w = 0 ∨ w = 1 ∨ w = 2 := by omega
  rcases this with e | e | e <;> subst e
  · exact q0
  · exact q1
  · exact q2
theorem sw_sw {u v i : Nat} (hu : u < 3) (hv : v < 3) (hi : i < 4096) : sw u v (sw u v i) = i := by
  refine ex_ext (sw_ex 0 (by omega)).1 hi (fun w hw => ?_)
  rw [(sw_ex w hw).2, (sw_ex _ (sq_lt hu hv hw)).2, sq_sq hu hv hw]
theorem mc_swap {A : AB} {S : St} {x y v z : Int32} {post : Int32 → St → Prop} (h : rm A S) (hw : wf A) (h0 : ¬ (aN A 0 = 1 ∧ inr x 7 ∧ inr y 2 ∧ inr v 2 ∧ inr z 7) → ∀ S', rm (aS A 1 (-1)) S' → post (-1) S')
    (h1 : aN A 0 = 1 → ∀ r u c k, r < 8 → u < 3 → c < 3 → k < 8 → x = nI r → y = nI u → v = nI c → z = nI k → lyd A k (fun m => aR A r (sw u c m)) True post) : wp_swap x y v z S post := by
  unfold wp_swap wp_swap_j36
  intro S1 e1
  have g : rm A S1 := by rw [e1]; exact rm_0 h
  refine sp_isReg g hw (fun c => b01 rfl (sp_refused g (sc_rfl _) (h0 fun q => c ⟨q.1, q.2.1⟩))) (fun ht r hr er => b11 rfl ?_)
  refine sp_isUnknown (fun c => b01 rfl (sp_refused g (sc_rfl _) (h0 fun q => c q.2.2.1))) (fun u hu eu => b11 rfl ?_)
  refine sp_isUnknown (fun c => b01 rfl (sp_refused g (sc_rfl _) (h0 fun q => c q.2.2.2.1))) (fun c hc ec => b11 rfl ?_)
  refine sp_isReg g hw (fun c => b02 rfl (sp_refused g (sc_rfl _) (h0 fun q => c ⟨q.1, q.2.2.2.2⟩))) (fun _ k hk ek => b12 rfl ?_)
  have hl := h1 ht r u c k hr hu hc hk er eu ec ek
  subst er eu ec ek
  have hp := (hw.2.2.2.2 ht).1
  have h2 := hp.1
  have h97 := hp.2.1
  refine sp_clears (fun S2 f2 z2 r2 => ?_)
  unfold wp_swap_l49
  refine wl_up 4096 (fun i v => v.1 = nI i ∧ fr6 S2 v.2 ∧ v.2 0 29 = 1 ∧ ∀ m, m < 4096 → v.2 6 m = nI (if sw u c m < i then aR A r (sw u c m) else 0)) 0 (by omega) ⟨rfl, fun _ _ _ _ => rfl, r2, fun m hm => by rw [if_neg (by omega)]; exact z2 m hm⟩ ?_
  rintro i ⟨x5, S3⟩ hi ⟨hx5, f3, r3, w3⟩ R hR
  dsimp only at hx5 f3 r3 w3
  subst hx5
  have s3 : sc S1 S3 := sc_tr (fr6_sc f2) (fr6_sc f3)
  unfold wp_swap_b49
  dsimp only
  rw [li_4096, nI_leI (by omega) (by omega)]
  refine ⟨fun cc => ?_, fun cc => ?_⟩
  · refine sp_lyd (v := fun m => aR A r (sw u c m)) g hw ht s3 hk (fun m hm => ⟨?_, rm_tab hw ht hr (sw_ex 0 (by omega)).1⟩) (fun _ m _ => rfl) (fun q => absurd trivial q) (fun _ => r3) hl
    have := (sw_ex (u := u) (v := c) (i := m) 0 (by omega)).1
    rw [w3 m hm, if_pos (by omega)]
  · unfold wp_swap_l63
    refine wl_up 3 (fun w x => x = (nI (sw u c i % 16 ^ w), nI w)) 0 (by omega) (by rw [Nat.pow_zero, Nat.mod_one]; rfl) ?_
    rintro w x hw3 rfl R2 hR2
    unfold wp_swap_b63 wp_swap_j106
    dsimp only
    rw [li_3, nI_leI (by omega) (by omega)]
    have hsw := (sw_ex (u := u) (v := c) (i := i) 0 (by omega)).1
    refine ⟨fun c2 => ?_, fun c2 => ?_⟩
    · have tbi := tb_any g s3 hw ht hr
      obtain ⟨e, hb⟩ := tbi i (by omega)
      refine sp_coef hr (by omega) ⟨sw u c i, hsw, by rw [show w = 3 by omega, show (16 : Nat) ^ 3 = 4096 from rfl, Nat.mod_eq_of_lt hsw], fun S4 e4 x5 ex5 => ?_⟩
      subst ex5
      rw [e] at e4
      refine hR (by omega) _ ⟨by rw [li_1, nI_add], fun k j q1 q2 => ?_, ?_, fun m hm => ?_⟩
      · show S4 k j = _
        rw [e4, bw_at, if_neg (fun z => q1 z.1)]; exact f3 k j q1 q2
      · show S4 0 29 = _
        rw [e4, bw_at, if_neg (by omega)]; exact r3
      · show S4 6 m = _
        rw [e4, bw_at]
        by_cases q : m = sw u c i
        · rw [if_pos ⟨rfl, q⟩, q, sw_sw hu hc (by omega), if_pos (by omega)]
        · rw [if_neg (fun z => q z.2), w3 m hm]
          by_cases q3 : sw u c m < i
          · rw [if_pos q3, if_pos (by omega)]
          · rw [if_neg q3, if_neg]
            intro q4
            refine q ?_
            rw [← show sw u c m = i by omega, sw_sw hu hc hm]
    · have step : ∀ v, v = ex i (sq u c w) → ∀ x6, x6 = (nI (sw u c i % 16 ^ w) ||| (jshl (nI v) (4 * nI w))) → ∀ x7, x7 = nI w + 1 → R2 (x6, x7) := fun v ev x6 e6 x7 e7 => by
        subst ev e6 e7
        have hp16 : 0 < 16 ^ w := Nat.pow_pos (by omega)
        have m1 := Nat.mod_lt (sw u c i) hp16
        refine hR2 (by omega) _ ?_
        rw [n_shl16 (ex_lt _ _) (by omega), n_or, ← pow16 w, n_or_add (by rw [pow16]; exact m1), pow16, ← (sw_ex w (by omega)).2, ← mod_s, li_1, nI_add]
      rw [nI_eq (by omega) (by omega), nI_eq (by omega) (by omega)]
      refine ⟨fun d1 => ⟨fun d2 => sp_exponent (by omega) (by omega) (fun x6 e6 => step _ ?_ x6 e6), fun d2 => sp_exponent (by omega) (by omega) (fun x6 e6 => step _ ?_ x6 e6)⟩, fun d1 => sp_exponent (by omega) (by omega) (fun x6 e6 => step _ ?_ x6 e6)⟩
      · unfold sq; rw [if_neg d1, if_neg d2]
      · unfold sq; rw [if_neg d1, if_pos d2]
      · unfold sq; rw [if_pos d1]
