set_option maxRecDepth 100000
theorem mc_degree {A : AB} {S : St} {x : Int32} {post : Int32 → St → Prop} (h : rm A S) (hw : wf A) (h0 : ¬ (aN A 0 = 1 ∧ inr x 7) → ∀ S', rm (aS A 1 (-1)) S' → post (-1) S') (h1 : aN A 0 = 1 → ∀ r, r < 8 → x = nI r → ∀ S', rm (aS A 0 (-1)) S' → post (zI (mx dg (aR A r) 4096)) S') : wp_degree x S post := by
  have hB : ∀ k, dg k ≤ 45 := fun k => by
    unfold dg
    have h1 := ex_lt k 0
    have h2 := ex_lt k 1
    have h3 := ex_lt k 2
    omega
  unfold wp_degree
  intro S1 e1
  have g : rm A S1 := by rw [e1]; exact rm_0 h
  refine sp_isReg g hw (fun c => b02 rfl (sp_refused g (sc_rfl _) (h0 c))) (fun ht r hr e => b12 rfl ?_)
  subst e
  have fin := h1 ht r hr rfl
  have htb := rm_tb g hw ht hr
  unfold wp_degree_l24
  refine wl_up 4096 (fun i v => v = (zI (mx dg (aR A r) i), nI i)) 0 (by omega) rfl ?_
  rintro i v hi rfl R hR
  unfold wp_degree_b24
  dsimp only
  rw [li_4096, nI_leI (by omega) (by omega)]
  refine ⟨fun c => ?_, fun c => ?_⟩
  · rw [show i = 4096 by omega]
    exact sp_good g (sc_rfl _) fin
  · refine sp_coef hr (by omega) ?_
    obtain ⟨e, hb⟩ := htb i (by omega)
    unfold wp_degree_j53
    have b1 := mx_b (f := aR A r) hB i
    have b2 := hB i
    rw [e, li_0, nI_eq (by omega) (by omega)]
    refine ⟨fun d => ?_, fun d => sp_degreeOf (by omega) ?_⟩
    · intro x3 e3
      subst e3
      refine hR (by omega) _ ?_
      rw [mx_s, if_pos d, li_1, nI_add]
    · rw [z_nI (dg i), z_le (by omega) (by omega)]
      refine ⟨fun q => ?_, fun q => sp_degreeOf (by omega) ?_⟩
      · intro x3 e3
        subst e3
        refine hR (by omega) _ ?_
        rw [mx_s, if_neg d, li_1, nI_add, show max (mx dg (aR A r) i) (dg i : Int) = mx dg (aR A r) i by omega]
      · intro x3 e3
        subst e3
        refine hR (by omega) _ ?_
        rw [mx_s, if_neg d, li_1, nI_add, show max (mx dg (aR A r) i) (dg i : Int) = dg i by omega, z_nI (dg i)]
theorem mc_same {A : AB} {S : St} {x y : Int32} {post : Int32 → St → Prop} (h : rm A S) (hw : wf A) (h0 : ¬ (aN A 0 = 1 ∧ inr x 7 ∧ inr y 7) → ∀ S', rm (aS A 1 (-1)) S' → post (-1) S') (h1 : aN A 0 = 1 → ∀ r q, r < 8 → q < 8 → x = nI r → y = nI q → ((∀ k, k < 4096 → aR A r k = aR A q k) → ∀ S', rm (aS A 0 (-1)) S' → post 1 S') ∧ (¬ (∀ k, k < 4096 → aR A r k = aR A q k) → ∀ S', rm (aS A 0 (-1)) S' → post 0 S')) : wp_same x y S post := by
  unfold wp_same wp_same_j21
  intro S1 e1
  have g : rm A S1 := by rw [e1]; exact rm_0 h
  refine sp_isReg g hw (fun c => b01 rfl (sp_refused g (sc_rfl _) (h0 fun q => c ⟨q.1, q.2.1⟩))) (fun ht r hr e => b11 rfl ?_)
  refine sp_isReg g hw (fun c => b02 rfl (sp_refused g (sc_rfl _) (h0 fun q => c ⟨q.1, q.2.2⟩))) (fun ht q hq e2 => b12 rfl ?_)
  obtain ⟨f1, f0⟩ := h1 ht r q hr hq e e2
  subst e e2
  have t1 := rm_tb g hw ht hr
  have t2 := rm_tb g hw ht hq
  unfold wp_same_l32
  refine wl_up 4096 (fun i v => v.2 = nI i ∧ ((v.1 = 1 ∧ ∀ k, k < i → aR A r k = aR A q k) ∨ (v.1 = 0 ∧ ∃ k, k < 4096 ∧ aR A r k ≠ aR A q k))) 0 (by omega) ⟨rfl, Or.inl ⟨rfl, fun k hk => absurd hk (by omega)⟩⟩ ?_
  rintro i ⟨x3, x4⟩ hi ⟨hx4, hx3⟩ R hR
  dsimp only at hx4 hx3
  subst hx4
  unfold wp_same_b32 wp_same_j65 wp_same_j67
  dsimp only
  rw [li_4096, nI_leI (by omega) (by omega)]
  refine ⟨fun c => ?_, fun c => ?_⟩
  · rcases hx3 with ⟨e3, hz⟩ | ⟨e3, k, hk, hne⟩
    · exact b11 e3 (sp_good g (sc_rfl _) (f1 fun k hk => hz k (by omega)))
    · exact b01 e3 (sp_good g (sc_rfl _) (f0 fun z => hne (z k hk)))
  · rcases hx3 with ⟨e3, hz⟩ | ⟨e3, k, hk, hne⟩
    · refine b11 e3 ?_
      refine sp_coef hr (by omega) (sp_coef hq (by omega) ?_)
      obtain ⟨a1, a2⟩ := t1 i (by omega)
      obtain ⟨b1, b2⟩ := t2 i (by omega)
      rw [a1, b1, nI_eq (by omega) (by omega)]
      refine ⟨fun d x4 e4 => ?_, fun d x4 e4 => ?_⟩
      · subst e4
        exact hR (by omega) _ ⟨by rw [li_1, nI_add], Or.inr ⟨rfl, i, by omega, d⟩⟩
      · subst e4
        refine hR (by omega) _ ⟨by rw [li_1, nI_add], Or.inl ⟨rfl, fun k hk => ?_⟩⟩
        by_cases z : k = i
        · rw [z]; exact d
        · exact hz k (by omega)
    · refine b01 e3 ?_
      intro x4 e4
      subst e4
      exact hR (by omega) _ ⟨by rw [li_1, nI_add], Or.inr ⟨rfl, k, hk, hne⟩⟩
/-- six exponents -/
def six (x y z u v w : Int32) : Prop := inr x 15 ∧ inr y 15 ∧ inr z 15 ∧ inr u 15 ∧ inr v 15 ∧ inr w 15
theorem mc_ahead {A : AB} {S : St} {x y z u v w : Int32} {post : Int32 → St → Prop} (h : rm A S) (hw : wf A) (h0 : aN A 0 = 0 → ∀ S', rm (aS A 1 (-1)) S' → post (-2) S') (h2 : aN A 0 = 1 → ¬ six x y z u v w → ∀ S', rm (aS A 2 (-1)) S' → post (-2) S')
    (h1 : aN A 0 = 1 → ∀ a b c d e f, a < 16 → b < 16 → c < 16 → d < 16 → e < 16 → f < 16 → x = nI a → y = nI b → z = nI c → u = nI d → v = nI e → w = nI f → ∀ S', rm (aS A 0 (-1)) S' → post (if ok (aN A 2) (aN A 3) (aN A 4) (d + 16 * e + 256 * f) < ok (aN A 2) (aN A 3) (aN A 4) (a + 16 * b + 256 * c) then 1 else if ok (aN A 2) (aN A 3) (aN A 4) (a + 16 * b + 256 * c) < ok (aN A 2) (aN A 3) (aN A 4) (d + 16 * e + 256 * f) then -1 else 0) S') : wp_ahead x y z u v w S post := by
  unfold wp_ahead
  intro S1 e1
  have g : rm A S1 := by rw [e1]; exact rm_0 h
  have hl := hw.1
  rw [g.2.2.2.1, li_0, nI_eq (by omega) (by omega)]
  refine ⟨fun c => ?_, fun c => ?_⟩
  · have ht : aN A 0 = 1 := by omega
    have bad : ¬ six x y z u v w → wp_ahead_j65 x y z u v w post S1 := fun q => by
      unfold wp_ahead_j65 wp_ahead_j68
      refine ⟨fun z => absurd z (by decide), fun _ => sp_refused g (sc_rfl _) (h2 ht q)⟩
    refine sp_isExponent (fun d => b01 rfl (bad fun q => d q.1)) (fun a ha ea => b11 rfl ?_)
    refine sp_isExponent (fun d => b01 rfl (bad fun q => d q.2.1)) (fun b hb eb => b11 rfl ?_)
    refine sp_isExponent (fun d => b01 rfl (bad fun q => d q.2.2.1)) (fun c hc ec => b11 rfl ?_)
    refine sp_isExponent (fun d => b01 rfl (bad fun q => d q.2.2.2.1)) (fun d hd ed => b11 rfl ?_)
    refine sp_isExponent (fun d => b01 rfl (bad fun q => d q.2.2.2.2.1)) (fun e he ee => b11 rfl ?_)
    refine sp_isExponent (fun d => b01 rfl (bad fun q => d q.2.2.2.2.2)) (fun f hf ef => b11 rfl ?_)
    have fin := h1 ht a b c d e f ha hb hc hd he hf ea eb ec ed ee ef
    subst ea eb ec ed ee ef
    obtain ⟨k1, k2, k3, k4, _⟩ := g.2.2.2.2.2.2 ht
    have hv := (hw.2.2.2.2 ht).2.1
    unfold wp_ahead_j68
    refine ⟨fun _ => ?_, fun z => absurd (by decide) z⟩
    refine sp_keyOf ha hb hc (sp_keyOf hd he hf ?_)
    rw [k2, k3, k4]
    refine sp_compares hv (by omega) (by omega) (fun dd b1 b2 p1 p2 => ?_)
    rw [z_le0 (by omega), z_ge0 (by omega)]
    refine ⟨fun q => ⟨fun q2 => ?_, fun q2 => ?_⟩, fun q => ?_⟩
    · rw [if_neg (by omega), if_neg (by omega)] at fin
      exact sp_good g (sc_rfl _) fin
    · rw [if_neg (by omega), if_pos (by omega)] at fin
      exact sp_good g (sc_rfl _) fin
    · rw [if_pos (by omega)] at fin
      exact sp_good g (sc_rfl _) fin
  · unfold wp_ahead_j68
    refine ⟨fun z => absurd z (by decide), fun _ => sp_refused g (sc_rfl _) (h0 c)⟩
