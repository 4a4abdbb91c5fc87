set_option maxRecDepth 100000
/-! feed -/
def fb (v : Int32) (j : Nat) : Int32 := ((jshr v (nI (24 - 8 * j))).toInt8.toInt32).toInt8.toInt32
def fv (a b c d e : Int32) (k : Nat) : Int32 := if k < 4 then a else if k < 8 then b else if k < 12 then c else if k < 16 then d else e
/-- n bytes of five numbers on the tape -/
def aFn (A : AB) (a b c d e : Int32) (n : Nat) : AB := (fun i => if i = 6 then aN A 6 + n else aN A i, aR A, aP A, aO A, fun j => if aN A 6 ≤ j ∧ j < aN A 6 + n then fb (fv a b c d e (j - aN A 6)) ((j - aN A 6) % 4) else aT A j, aZ A)
theorem wf_Fn {A : AB} {a b c d e : Int32} {n : Nat} (h : wf A) (hn : aN A 6 + n ≤ 700) : wf (aFn A a b c d e n) := ⟨h.1, hn, h.2.2.1, h.2.2.2⟩
theorem mc_feed {A : AB} {S : St} {a b c d e : Int32} {post : Int32 → St → Prop} (h : rm A S) (hw : wf A) (h0 : 700 < aN A 6 + 20 → ∀ S', rm A S' → post (-1) S') (h1 : aN A 6 + 20 ≤ 700 → ∀ S', rm (aFn A a b c d e 20) S' → post (nI (aN A 6 + 20)) S') : wp_feed a b c d e S post := by
  unfold wp_feed
  intro S1 e1
  have g : rm A S1 := by rw [e1]; exact rm_0 h
  have hg := g
  obtain ⟨g1, g2, g3, g4, g5, g6, g7⟩ := hg
  have h6 := hw.2.1
  rw [g5, li_20, nI_add, li_700, nI_leI (by omega) (by omega)]
  refine ⟨fun c1 => ?_, fun c1 => h0 (by omega) S1 g⟩
  have fin := h1 c1
  unfold wp_feed_l23
  refine wl_up 20 (fun i v => v.1 = nI i ∧ (∀ k j, k ≠ 3 → ¬ (k = 0 ∧ j = 16) → v.2 k j = S1 k j) ∧ v.2 0 16 = nI (aN A 6 + i) ∧ ∀ j, j < 700 → v.2 3 j = aT (aFn A a b c d e i) j) 0 (by omega) ⟨rfl, fun _ _ _ _ => rfl, g5, fun j hj => by
    show S1 3 j = (if aN A 6 ≤ j ∧ j < aN A 6 + 0 then _ else aT A j)
    rw [if_neg (by omega)]
    exact g6 j hj⟩ ?_
  rintro i ⟨x6, S2⟩ hi ⟨hx6, f2, t2, w2⟩ R hR
  dsimp only at hx6 f2 t2 w2
  subst hx6
  unfold wp_feed_b23
  dsimp only
  have J : ∀ v, v = fv a b c d e i → i < 20 → wp_feed_j78 a b c d e post (fun x6 S => R (x6, S)) (nI i) v S2 := fun v ev hi20 => by
    unfold wp_feed_j78
    refine ⟨aN A 6 + i, by omega, t2, fun S3 e3 S4 e4 x6 ex6 => ?_⟩
    subst ex6
    have t3 : S3 0 16 = nI (aN A 6 + i) := by rw [e3, bw_at, if_neg (by omega)]; exact t2
    rw [t3, li_1, nI_add] at e4
    rw [li_24, li_8, li_4, n_rem (by omega) (by omega) (by omega), pk_mul, pk_sub (by omega)] at e3
    refine hR (by omega) _ ⟨by rw [li_1, nI_add], fun k j q1 q2 => ?_, ?_, fun j hj => ?_⟩
    · show S4 k j = _
      rw [e4, bw_at, if_neg q2, e3, bw_at, if_neg (by omega)]; exact f2 k j q1 q2
    · show S4 0 16 = _
      rw [e4, bw_at, if_pos ⟨rfl, rfl⟩]; rfl
    · show S4 3 j = (if aN A 6 ≤ j ∧ j < aN A 6 + (i + 1) then fb (fv a b c d e (j - aN A 6)) ((j - aN A 6) % 4) else aT A j)
      rw [e4, bw_at, if_neg (by omega), e3, bw_at]
      by_cases q : j = aN A 6 + i
      · rw [if_pos ⟨rfl, q⟩, if_pos (by omega), show j - aN A 6 = i by omega, ev]; rfl
      · rw [if_neg (fun z => q z.2), w2 j hj]
        show (if aN A 6 ≤ j ∧ j < aN A 6 + i then _ else _) = _
        by_cases q2 : aN A 6 ≤ j ∧ j < aN A 6 + i
        · rw [if_pos q2, if_pos (by omega)]
        · rw [if_neg q2, if_neg (by omega)]
  rw [li_20, nI_leI (by omega) (by omega), li_4, nI_leI (by omega) (by omega), li_8, nI_leI (by omega) (by omega), li_12, nI_leI (by omega) (by omega), li_16, nI_leI (by omega) (by omega)]
  unfold fv at J
  refine ⟨fun q => ?_, fun q => ⟨fun q4 => ⟨fun q8 => ⟨fun q12 => ⟨fun q16 => J _ ?_ (by omega), fun q16 => J _ ?_ (by omega)⟩, fun q12 => J _ ?_ (by omega)⟩, fun q8 => J _ ?_ (by omega)⟩, fun q4 => J _ ?_ (by omega)⟩⟩
  · have hi20 : i = 20 := by omega
    subst hi20
    rw [t2]
    refine fin S2 ⟨?_, ?_, ?_, ?_, t2, w2, fun ht => ?_⟩
    · rw [f2 0 1 (by omega) (by omega)]; exact g1
    · rw [f2 0 2 (by omega) (by omega)]; exact g2
    · rw [f2 0 22 (by omega) (by omega)]; exact g3
    · rw [f2 0 14 (by omega) (by omega)]; exact g4
    · obtain ⟨k1, k2, k3, k4, k5, k6, ⟨al, k7⟩, k8⟩ := g7 ht
      refine ⟨?_, ?_, ?_, ?_, ?_, fun r hr k hk => ?_, ⟨al, alg_cg k7 (fun j => f2 4 j (by omega) (by omega))⟩, fun j hj => ?_⟩
      · rw [f2 0 5 (by omega) (by omega)]; exact k1
      · rw [f2 0 6 (by omega) (by omega)]; exact k2
      · rw [f2 0 7 (by omega) (by omega)]; exact k3
      · rw [f2 0 8 (by omega) (by omega)]; exact k4
      · rw [f2 0 45 (by omega) (by omega)]; exact k5
      · rw [f2 1 _ (by omega) (by omega)]; exact k6 r hr k hk
      · have hold := k8 j hj
        unfold rmP at hold ⊢
        rw [f2 14 j (by omega) (by omega), f2 15 j (by omega) (by omega), f2 16 j (by omega) (by omega), f2 17 j (by omega) (by omega)]
        obtain ⟨q1, q2, q3, q4⟩ := hold
        refine ⟨q1, q2, q3, ?_⟩
        rcases q4 with z | ⟨w, w1, w2', w3, w4⟩
        · exact Or.inl z
        · exact Or.inr ⟨w, w1, w2', fun k hk => by rw [f2 13 _ (by omega) (by omega)]; exact w3 k hk, w4⟩
  · rw [if_neg (by omega), if_neg (by omega), if_neg (by omega), if_neg (by omega)]
  · rw [if_neg (by omega), if_neg (by omega), if_neg (by omega), if_pos (by omega)]
  · rw [if_neg (by omega), if_neg (by omega), if_pos (by omega)]
  · rw [if_neg (by omega), if_pos (by omega)]
  · rw [if_pos (by omega)]
