set_option maxRecDepth 100000
/-! the Model's calls that divide -/
theorem sp_laysRegister {A : AB} {S0 S : St} {r : Nat} {post : St → Prop} (h : rm A S0) (hs : sc S0 S) (hw : wf A) (ht : aN A 0 = 1) (hr : r < 8) (hp : ∀ S', fr6 S S' → wk S' (aN A 1) (aR A r) → S' 0 29 = 1 → post S') : wp_laysRegister (nI r) S post := by
  unfold wp_laysRegister wp_laysRegister_l2
  refine wl_up 4096 (fun i v => v.1 = nI i ∧ fr6 S v.2 ∧ ∀ k, k < i → v.2 6 k = nI (aR A r k)) 0 (by omega) ⟨rfl, fun _ _ _ _ => rfl, fun k hk => absurd hk (by omega)⟩ ?_
  rintro i ⟨x1, S1⟩ hi ⟨hx, hfr, hz⟩ R hR
  dsimp only at hx hfr hz
  subst hx
  unfold wp_laysRegister_b2
  dsimp only
  rw [li_4096, nI_leI (by omega) (by omega)]
  refine ⟨fun c S2 e2 => ?_, fun c => ?_⟩
  · refine hp S2 (fun k j q1 q2 => ?_) (fun k hk => ⟨?_, rm_tab hw ht hr hk⟩) ?_
    · rw [e2, bw_at, if_neg q2]; exact hfr k j q1 q2
    · rw [e2, bw_at, if_neg (by omega)]; exact hz k (by omega)
    · rw [e2, bw_at, if_pos ⟨rfl, rfl⟩]
  · have tbi := tb_any h (sc_tr hs (fr6_sc hfr)) hw ht hr
    refine sp_coef hr (by omega) ⟨i, by omega, rfl, fun S2 e2 x1 e1 => ?_⟩
    rw [(tbi i (by omega)).1] at e2
    subst e1
    refine hR (by omega) _ ⟨by rw [li_1, nI_add], fun k j q1 q2 => ?_, fun k hk => ?_⟩
    · show S2 k j = _
      rw [e2, bw_at, if_neg (fun z => q1 z.1)]; exact hfr k j q1 q2
    · show S2 6 k = _
      rw [e2, bw_at]
      by_cases q : k = i
      · rw [if_pos ⟨rfl, q⟩, q]
      · rw [if_neg (fun z => q z.2)]; exact hz k (by omega)
/-- a set of registers -/
def iset (x : Int32) (s : Nat) : Prop := 1 ≤ s ∧ s < 256 ∧ x = nI s
/-- some register of it is nothing -/
def hzr (A : AB) (s : Nat) : Prop := ∃ d, d < 8 ∧ bit s d ∧ cn (aR A d) 4096 = 0
theorem sp_inset {x : Int32} {S : St} {post : Int32 → Prop} (h0 : ¬ (∃ s, iset x s) → post 0) (h1 : ∀ s, iset x s → post 1) : wp_in x 1 255 S post := by
  refine sp_in (fun c => h0 fun ⟨s, s1, s2, e⟩ => ?_) (fun c d => ?_)
  · subst e
    rw [li_1, li_255, nI_ltI (by omega) (by omega), nI_ltI (by omega) (by omega)] at c
    omega
  · have c0 : ¬ x < 0 := fun q => c (by
      rw [Int32.lt_iff_toInt_lt] at q ⊢
      have : (0 : Int32).toInt = 0 := rfl
      have : (1 : Int32).toInt = 1 := rfl
      omega)
    obtain ⟨j, hj, rfl⟩ := nI_of c0
    rw [li_1, nI_ltI hj (by omega)] at c
    rw [li_255, nI_ltI (by omega) hj] at d
    exact h1 j ⟨by omega, by omega, rfl⟩
theorem sp_refusesSet {A : AB} {S0 S : St} {x : Int32} {post : Int32 → Prop} (h : rm A S0) (hs : sc S0 S) (hw : wf A) (ht : aN A 0 = 1) (h2 : ¬ (∃ s, iset x s) → post 2) (h5 : ∀ s, iset x s → hzr A s → post 5) (h0 : ∀ s, iset x s → ¬ hzr A s → post 0) : wp_refusesSet x S post := by
  unfold wp_refusesSet
  refine sp_inset (fun c => b02 rfl (h2 c)) (fun s hse => b12 rfl ?_)
  have q5 := h5 s hse
  have q0 := h0 s hse
  obtain ⟨s1, s2, rfl⟩ := hse
  unfold wp_refusesSet_l15
  refine wl_up 8 (fun i v => v = nI i ∧ ∀ d, d < i → ¬ (bit s d ∧ cn (aR A d) 4096 = 0)) 0 (by omega) ⟨rfl, fun d hd => absurd hd (by omega)⟩ ?_
  rintro i v hi ⟨rfl, hno⟩ R hR
  unfold wp_refusesSet_b15 wp_refusesSet_j40
  rw [li_8, nI_leI (by omega) (by omega)]
  refine ⟨fun c => q0 fun ⟨d, d1, d2, d3⟩ => hno d (by omega) ⟨d2, d3⟩, fun c => ?_⟩
  rw [n_bit1 s2 (by omega)]
  have next : ¬ (bit s i ∧ cn (aR A i) 4096 = 0) → ∀ x, x = nI i + 1 → R x := fun q x e => by
    subst e
    refine hR (by omega) _ ⟨by rw [li_1, nI_add], fun d hd => ?_⟩
    by_cases z : d = i
    · rw [z]; exact q
    · exact hno d (by omega)
  refine ⟨fun q => next fun z => q z.1, fun q => sp_isZero (by omega) (tb_any h hs hw ht (show i < 8 by omega)) (fun z => b01 rfl (next fun w => z w.2)) (fun z => b11 rfl (q5 ⟨i, by omega, q, z⟩))⟩
abbrev aOk (A : AB) : Nat → Nat := ok (aN A 2) (aN A 3) (aN A 4)
theorem dvs_of {A : AB} {S : St} {s : Nat} (h : rm A S) (hw : wf A) (ht : aN A 0 = 1) (hn : ¬ hzr A s) : dvs (aN A 1) (aOk A) (aR A) s := fun d hd => ⟨fun k hk => rm_tab hw ht hd hk, fun hb => by
  obtain ⟨al, hal⟩ := al_any h (sc_rfl _) ht
  obtain ⟨k, hk⟩ := led_of (f := aR A d) hal (cn_ne fun q => hn ⟨d, hd, hb, q⟩)
  have := ldk_of hk
  rw [this]
  exact hk⟩
/-- a register divided by a set -/
noncomputable def dvr (A : AB) (r s : Nat) : Option DS := drun (aN A 1) (aOk A) (aR A) s 502 (ds0 (aR A r))
theorem sp_divReg {A : AB} {S0 S : St} {r s : Nat} {post : Int32 → St → Prop} (h : rm A S0) (hs : sc S0 S) (hw : wf A) (ht : aN A 0 = 1) (hr : r < 8) (hs2 : s < 256) (hn : ¬ hzr A s) (h0 : dvr A r s = none → ∀ S', sc S0 S' → post 0 S') (h1 : ∀ D, dvr A r s = some D → dinv (aN A 1) (aOk A) (aR A) s D → ∀ S', sc S0 S' → mdv D S' → S' 0 29 = 1 → post 1 S') : wp_laysRegister (nI r) S (fun S_17 => wp_dividesBy (nI s) S_17 post) := by
  have hW := hw.2.2.2.2 ht
  refine sp_laysRegister h hs hw ht hr (fun S2 f2 w2 r2 => ?_)
  have s2 := sc_tr hs (fr6_sc f2)
  obtain ⟨al, hal⟩ := al_any h s2 ht
  refine sp_dividesBy hW.1 hW.2.1 hs2 (f5_any h s2 ht) (fun d hd => tb_any h s2 hw ht hd) hal (dvs_of h hw ht hn) w2 (hW.2.2.1 r hr).2 (fun q S3 f3 => h0 q S3 (sc_tr s2 (frd_sc f3))) (fun D q hi S3 f3 m3 => h1 D q hi S3 (sc_tr s2 (frd_sc f3)) m3 ?_)
  rw [f3 0 29 (by omega) (by omega)]
  exact r2
/-- what is told of a division -/
def dvt (D : DS) (w : Nat) : Nat := if w = 0 then dS D else if w = 1 then cn (dR D) 4096 else if w = 2 then ns (fun d => cn (dQ D d) 4096) 8 else dM D
theorem mc_divided {A : AB} {S : St} {x y z : Int32} {post : Int32 → St → Prop} (h : rm A S) (hw : wf A) (h0 : ¬ (aN A 0 = 1 ∧ inr x 7 ∧ inr z 3) → ∀ S', rm (aS A 1 (-1)) S' → post (-1) S') (h2 : aN A 0 = 1 → inr x 7 → inr z 3 → ¬ (∃ s, iset y s) → ∀ S', rm (aS A 2 (-1)) S' → post (-1) S') (h5 : aN A 0 = 1 → inr x 7 → inr z 3 → ∀ s, iset y s → hzr A s → ∀ S', rm (aS A 5 (-1)) S' → post (-1) S')
    (h1 : aN A 0 = 1 → ∀ r s w, r < 8 → w < 4 → x = nI r → iset y s → z = nI w → ¬ hzr A s → (dvr A r s = none → ∀ S', rm (aS A 3 (-1)) S' → post (-1) S') ∧ ∀ D, dvr A r s = some D → dinv (aN A 1) (aOk A) (aR A) s D → ∀ S', rm (aS A 0 (-1)) S' → post (nI (dvt D w)) S') : wp_divided x y z S post := by
  unfold wp_divided
  intro S1 e1
  have g : rm A S1 := by rw [e1]; exact rm_0 h
  have bad : ∀ t : Int32, ¬ t ≤ 0 → (∀ S', rm (aS A t (-1)) S' → post (-1) S') → wp_divided_j26 x y z post t S1 := fun t ht hb => ⟨fun q => absurd q ht, fun _ => sp_refused g (sc_rfl _) hb⟩
  refine sp_inr (n := 3) rfl (by omega) (fun c => b02 rfl (bad 1 (by decide) (h0 fun q => c q.2.2))) (fun w hw3 ew => b12 rfl ?_)
  unfold wp_refusesDivision
  refine sp_isReg g hw (fun c => b02 rfl (bad 1 (by decide) (h0 fun q => c ⟨q.1, q.2.1⟩))) (fun ht r hr er => b12 rfl ?_)
  have ir : inr x 7 := ⟨r, by omega, er⟩
  have iz : inr z 3 := ⟨w, hw3, ew⟩
  refine sp_refusesSet g (sc_rfl _) hw ht (fun c => bad 2 (by decide) (h2 ht ir iz c)) (fun s hse hz => bad 5 (by decide) (h5 ht ir iz s hse hz)) (fun s hse hz => ?_)
  obtain ⟨f0, f1⟩ := h1 ht r s w hr (by omega) er hse ew hz
  obtain ⟨s1, s2, rfl⟩ := hse
  subst er ew
  refine ⟨fun _ => ?_, fun q => absurd (by decide) q⟩
  refine sp_divReg g (sc_rfl _) hw ht hr s2 hz (fun q S2 k2 => b02 rfl (sp_refused g k2 (f0 q))) (fun D q hi S2 k2 m2 r2 => b12 rfl ?_)
  have fin := f1 D q hi
  obtain ⟨m1, m2', m3, m4, m5, m6, m7, m8⟩ := m2
  have hi6 := hi.2.2.2.2.2.1
  unfold wp_divided_l63
  refine wl_up 8 (fun i v => v = (nI (ns (fun d => cn (dQ D d) 4096) i), nI i)) 0 (by omega) rfl ?_
  rintro i v hi8 rfl R hR
  unfold wp_divided_b63
  dsimp only
  rw [li_8, nI_leI (by omega) (by omega)]
  refine ⟨fun c => ?_, fun c => ⟨i, by omega, rfl, fun x5 e5 x6 e6 => ?_⟩⟩
  · have hi9 : i = 8 := by omega
    subst hi9
    unfold dvt at fin
    rw [li_0, nI_eq (by omega) (by omega), li_1, nI_eq (by omega) (by omega), li_2, nI_eq (by omega) (by omega), m8, m4, m7]
    refine ⟨fun w0 => ⟨fun w1 => ⟨fun w2 => ?_, fun w2 => ?_⟩, fun w1 => ?_⟩, fun w0 => ?_⟩
    · rw [if_neg w0, if_neg w1, if_neg w2] at fin
      exact sp_good g k2 fin
    · rw [if_neg w0, if_neg w1, if_pos w2] at fin
      exact sp_good g k2 fin
    · rw [if_neg w0, if_pos w1] at fin
      exact sp_good g k2 fin
    · rw [if_pos w0] at fin
      exact sp_good g k2 fin
  · rw [m6 i (by omega), nI_add] at e5
    subst e5 e6
    exact hR (by omega) _ (by rw [li_1, nI_add]; rfl)
theorem bit_pow {r d : Nat} (hr : r < 8) (hd : d < 8) : bit (2 ^ r) d ↔ d = r := by
  have : ∀ r, r < 8 → ∀ d, d < 8 → (2 ^ r / 2 ^ d % 2 = 1 ↔ d = r) := by decide
  exact this r hr d hd
theorem pow_256 {r : Nat} (hr : r < 8) : 2 ^ r < 256 := by
  have : ∀ r, r < 8 → 2 ^ r < 256 := by decide
  exact this r hr
theorem mc_divides {A : AB} {S : St} {x y : Int32} {post : Int32 → St → Prop} (h : rm A S) (hw : wf A) (h0 : ¬ (aN A 0 = 1 ∧ inr x 7 ∧ inr y 7) → ∀ S', rm (aS A 1 (-1)) S' → post (-1) S')
    (h1 : aN A 0 = 1 → ∀ r q, r < 8 → q < 8 → x = nI r → y = nI q → (hzr A (2 ^ r) → ∀ S', rm (aS A 5 (-1)) S' → post (-1) S') ∧ (¬ hzr A (2 ^ r) → (dvr A q (2 ^ r) = none → ∀ S', rm (aS A 3 (-1)) S' → post (-1) S') ∧ ∀ D, dvr A q (2 ^ r) = some D → dinv (aN A 1) (aOk A) (aR A) (2 ^ r) D → ∀ S', rm (aS A 0 (-1)) S' → post (if cn (dR D) 4096 = 0 then 1 else 0) S')) : wp_divides x y S post := by
  unfold wp_divides wp_divides_j21
  intro S1 e1
  have g : rm A S1 := by rw [e1]; exact rm_0 h
  refine sp_isReg g hw (fun c => b01 rfl (sp_refused g (sc_rfl _) (h0 fun q => c ⟨q.1, q.2.1⟩))) (fun ht r hr er => b11 rfl ?_)
  refine sp_isReg g hw (fun c => b02 rfl (sp_refused g (sc_rfl _) (h0 fun q => c ⟨q.1, q.2.2⟩))) (fun _ q hq eq => b12 rfl ?_)
  obtain ⟨f5, f1⟩ := h1 ht r q hr hq er eq
  subst er eq
  have hzi : hzr A (2 ^ r) ↔ cn (aR A r) 4096 = 0 := ⟨fun ⟨d, d1, d2, d3⟩ => by rw [bit_pow hr d1] at d2; rw [← d2]; exact d3, fun z => ⟨r, hr, (bit_pow hr hr).2 rfl, z⟩⟩
  refine sp_isZero hr (rm_tb g hw ht hr) (fun z => b01 rfl ?_) (fun z => b11 rfl (sp_refused g (sc_rfl _) (f5 (hzi.2 z))))
  obtain ⟨g0, g1⟩ := f1 (fun w => z (hzi.1 w))
  have hp2 := pow_256 hr
  rw [show jshl 1 (nI r) = nI (2 ^ r) by rw [li_1, n_shl (by omega) (by rw [Nat.one_mul]; omega), Nat.one_mul]]
  refine sp_divReg g (sc_rfl _) hw ht hq hp2 (fun w => z (hzi.1 w)) (fun w S2 k2 => b01 rfl (sp_refused g k2 (g0 w))) (fun D w hi S2 k2 m2 r2 => b11 rfl ?_)
  have fin := g1 D w hi
  have hi5 := hi.2.2.2.2.1
  rw [m2.2.2.2.1, li_0, nI_eq (by omega) (by omega)]
  refine ⟨fun w0 => ?_, fun w0 => ?_⟩
  · rw [if_neg w0] at fin; exact sp_good g k2 fin
  · rw [if_pos w0] at fin; exact sp_good g k2 fin
theorem mc_rest {A : AB} {S : St} {x y z : Int32} {post : Int32 → St → Prop} (h : rm A S) (hw : wf A) (h0 : ¬ (aN A 0 = 1 ∧ inr x 7 ∧ inr z 7) → ∀ S', rm (aS A 1 (-1)) S' → post (-1) S') (h2 : aN A 0 = 1 → inr x 7 → inr z 7 → ¬ (∃ s, iset y s) → ∀ S', rm (aS A 2 (-1)) S' → post (-1) S') (h5 : aN A 0 = 1 → inr x 7 → inr z 7 → ∀ s, iset y s → hzr A s → ∀ S', rm (aS A 5 (-1)) S' → post (-1) S')
    (h1 : aN A 0 = 1 → ∀ r s k, r < 8 → k < 8 → x = nI r → iset y s → z = nI k → ¬ hzr A s → (dvr A r s = none → ∀ S', rm (aS A 3 (-1)) S' → post (-1) S') ∧ ∀ D, dvr A r s = some D → dinv (aN A 1) (aOk A) (aR A) s D → lyd A k (dR D) True post) : wp_rest x y z S post := by
  unfold wp_rest
  intro S1 e1
  have g : rm A S1 := by rw [e1]; exact rm_0 h
  have bad : ∀ t : Int32, ¬ t ≤ 0 → (∀ S', rm (aS A t (-1)) S' → post (-1) S') → wp_rest_j25 x y z post t S1 := fun t ht hb => ⟨fun q => absurd q ht, fun _ => sp_refused g (sc_rfl _) hb⟩
  refine sp_isReg g hw (fun c => b02 rfl (bad 1 (by decide) (h0 fun q => c ⟨q.1, q.2.2⟩))) (fun ht k hk ek => b12 rfl ?_)
  unfold wp_refusesDivision
  refine sp_isReg g hw (fun c => b02 rfl (bad 1 (by decide) (h0 fun q => c ⟨q.1, q.2.1⟩))) (fun ht r hr er => b12 rfl ?_)
  have ir : inr x 7 := ⟨r, by omega, er⟩
  have iz : inr z 7 := ⟨k, by omega, ek⟩
  refine sp_refusesSet g (sc_rfl _) hw ht (fun c => bad 2 (by decide) (h2 ht ir iz c)) (fun s hse hz => bad 5 (by decide) (h5 ht ir iz s hse hz)) (fun s hse hz => ?_)
  obtain ⟨f0, f1⟩ := h1 ht r s k hr hk er hse ek hz
  obtain ⟨s1, s2, rfl⟩ := hse
  subst er ek
  refine ⟨fun _ => ?_, fun q => absurd (by decide) q⟩
  refine sp_divReg g (sc_rfl _) hw ht hr s2 hz (fun q S2 k2 => b02 rfl (sp_refused g k2 (f0 q))) (fun D q hi S2 k2 m2 r2 => b12 rfl ?_)
  have fin := f1 D q hi
  unfold wp_rest_l59
  refine wl_up 4096 (fun i v => v.1 = nI i ∧ fr6 S2 v.2 ∧ v.2 0 29 = 1 ∧ ∀ m, m < i → v.2 6 m = nI (dR D m)) 0 (by omega) ⟨rfl, fun _ _ _ _ => rfl, r2, fun m hm => absurd hm (by omega)⟩ ?_
  rintro i ⟨x5, S3⟩ hi4 ⟨hx5, f3, r3, w3⟩ R hR
  dsimp only at hx5 f3 r3 w3
  subst hx5
  unfold wp_rest_b59
  dsimp only
  rw [li_4096, nI_leI (by omega) (by omega)]
  refine ⟨fun c => ?_, fun c => ⟨i, by omega, rfl, i, by omega, rfl, fun S4 e4 x5 ex5 => ?_⟩⟩
  · exact sp_lyd g hw ht (sc_tr k2 (fr6_sc f3)) hk (fun m hm => ⟨w3 m (by omega), hi.2.1 m hm⟩) (fun _ m _ => rfl) (fun q => absurd trivial q) (fun _ => r3) fin
  · rw [f3 8 i (by omega) (by omega), m2.2.2.1 i (by omega)] at e4
    subst ex5
    refine hR (by omega) _ ⟨by rw [li_1, nI_add], fun x y q1 q2 => ?_, ?_, fun m hm => ?_⟩
    · show S4 x y = _
      rw [e4, bw_at, if_neg (fun z => q1 z.1)]; exact f3 x y q1 q2
    · show S4 0 29 = _
      rw [e4, bw_at, if_neg (by omega)]; exact r3
    · show S4 6 m = _
      rw [e4, bw_at]
      by_cases q : m = i
      · rw [if_pos ⟨rfl, q⟩, q]
      · rw [if_neg (fun z => q z.2)]; exact w3 m (by omega)
theorem mc_quotient {A : AB} {S : St} {x y u z : Int32} {post : Int32 → St → Prop} (h : rm A S) (hw : wf A) (h0 : ¬ (aN A 0 = 1 ∧ inr x 7 ∧ inr u 7 ∧ inr z 7) → ∀ S', rm (aS A 1 (-1)) S' → post (-1) S') (h2 : aN A 0 = 1 → inr x 7 → inr z 7 → ∀ d, d < 8 → u = nI d → ¬ (∃ s, iset y s ∧ bit s d) → ∀ S', rm (aS A 2 (-1)) S' → post (-1) S') (h5 : aN A 0 = 1 → inr x 7 → inr z 7 → ∀ d s, d < 8 → u = nI d → iset y s → bit s d → hzr A s → ∀ S', rm (aS A 5 (-1)) S' → post (-1) S')
    (h1 : aN A 0 = 1 → ∀ r s d k, r < 8 → k < 8 → d < 8 → x = nI r → iset y s → u = nI d → bit s d → z = nI k → ¬ hzr A s → (dvr A r s = none → ∀ S', rm (aS A 3 (-1)) S' → post (-1) S') ∧ ∀ D, dvr A r s = some D → dinv (aN A 1) (aOk A) (aR A) s D → lyd A k (dQ D d) True post) : wp_quotient x y u z S post := by
  unfold wp_quotient wp_quotient_j30 wp_quotient_j55
  intro S1 e1
  have g : rm A S1 := by rw [e1]; exact rm_0 h
  refine sp_isReg g hw (fun c => b01 rfl (sp_refused g (sc_rfl _) (h0 fun q => c ⟨q.1, q.2.1⟩))) (fun ht r hr er => b11 rfl ?_)
  refine sp_isReg g hw (fun c => b01 rfl (sp_refused g (sc_rfl _) (h0 fun q => c ⟨q.1, q.2.2.1⟩))) (fun _ d hd ed => b11 rfl ?_)
  refine sp_isReg g hw (fun c => b02 rfl (sp_refused g (sc_rfl _) (h0 fun q => c ⟨q.1, q.2.2.2⟩))) (fun _ k hk ek => b12 rfl ?_)
  have ir : inr x 7 := ⟨r, by omega, er⟩
  have iz : inr z 7 := ⟨k, by omega, ek⟩
  refine sp_inset (fun c => b01 rfl (sp_refused g (sc_rfl _) (h2 ht ir iz d hd ed fun ⟨s, q, _⟩ => c ⟨s, q⟩))) (fun s hse => b11 rfl ?_)
  have hse' := hse
  obtain ⟨s1, s2, ey⟩ := hse'
  rw [ed, ey, n_bit0 s2 hd]
  refine ⟨fun hb => ?_, fun hb => sp_refused g (sc_rfl _) (h2 ht ir iz d hd ed fun ⟨s', ⟨q1, q2, q3⟩, q4⟩ => ?_)⟩
  · have hb : bit s d := Classical.byContradiction hb
    refine sp_refusesSet g (sc_rfl _) hw ht (fun c => absurd ⟨s, s1, s2, rfl⟩ c) (fun s' hse2 hz => ?_) (fun s' hse2 hz => ?_)
    · have es : s' = s := by
        obtain ⟨q1, q2, q3⟩ := hse2
        rw [nI_eq (by omega) (by omega)] at q3
        exact q3.symm
      rw [es] at hz
      exact ⟨fun q => absurd q (by decide), fun _ => sp_refused g (sc_rfl _) (h5 ht ir iz d s hd ed hse hb hz)⟩
    · have es : s' = s := by
        obtain ⟨q1, q2, q3⟩ := hse2
        rw [nI_eq (by omega) (by omega)] at q3
        exact q3.symm
      rw [es] at hz
      refine ⟨fun _ => ?_, fun q => absurd (by decide) q⟩
      obtain ⟨f0, f1⟩ := h1 ht r s d k hr hk hd er hse ed hb ek hz
      subst er ek
      refine sp_divReg g (sc_rfl _) hw ht hr s2 hz (fun q S2 k2 => b02 rfl (sp_refused g k2 (f0 q))) (fun D q hi S2 k2 m2 r2 => b12 rfl ?_)
      have fin := f1 D q hi
      unfold wp_quotient_l102
      refine wl_up 4096 (fun i v => v.1 = nI i ∧ fr6 S2 v.2 ∧ v.2 0 29 = 1 ∧ ∀ m, m < i → v.2 6 m = nI (dQ D d m)) 0 (by omega) ⟨rfl, fun _ _ _ _ => rfl, r2, fun m hm => absurd hm (by omega)⟩ ?_
      rintro i ⟨x5, S3⟩ hi4 ⟨hx5, f3, r3, w3⟩ R hR
      dsimp only at hx5 f3 r3 w3
      subst hx5
      unfold wp_quotient_b102
      dsimp only
      rw [li_4096, nI_leI (by omega) (by omega)]
      refine ⟨fun c => ?_, fun c => ⟨4096 * d + i, by omega, by rw [pk_mul, nI_add], i, by omega, rfl, fun S4 e4 x5 ex5 => ?_⟩⟩
      · exact sp_lyd g hw ht (sc_tr k2 (fr6_sc f3)) hk (fun m hm => ⟨w3 m (by omega), hi.2.2.1 d m hd hm⟩) (fun _ m _ => rfl) (fun q => absurd trivial q) (fun _ => r3) fin
      · rw [f3 9 _ (by omega) (by omega), m2.2.2.2.2.1 d i hd (by omega)] at e4
        subst ex5
        refine hR (by omega) _ ⟨by rw [li_1, nI_add], fun x y q1 q2 => ?_, ?_, fun m hm => ?_⟩
        · show S4 x y = _
          rw [e4, bw_at, if_neg (fun z => q1 z.1)]; exact f3 x y q1 q2
        · show S4 0 29 = _
          rw [e4, bw_at, if_neg (by omega)]; exact r3
        · show S4 6 m = _
          rw [e4, bw_at]
          by_cases q : m = i
          · rw [if_pos ⟨rfl, q⟩, q]
          · rw [if_neg (fun z => q z.2)]; exact w3 m (by omega)
  · rw [ey, nI_eq (by omega) (by omega)] at q3
    rw [← q3] at q4
    exact hb q4
