set_option maxRecDepth 100000
theorem xc_size {A : AB} {K : XK} {T : XT} {x : Int32} {post : Int32 → Prop} (h : rx A K T) (hw : wf A) (h1 : post (if x = nI 0 then nI (aN A 6) else if x = nI 1 then nI (aN A 5) else if x = nI 2 then nI (ns (fun r => cn (aR A r) 4096) 8) else -1)) : wx1_size x K T post := by
  obtain ⟨g, q1, q2, q3⟩ := rx_reg h
  have h16 := h.2.2.2.2.2.1
  have h22 := h.2.2.2.2.2.2.1
  unfold wx1_size
  refine ⟨g, q1, fun x4 e4 => ?_⟩
  rw [q2] at e4
  subst e4
  unfold wx1_size_l14
  refine wl_up 8 (fun i w => w.1 = nI (ns (fun r => cn (aR A r) 4096) i) ∧ w.2 = nI i) 0 (by omega) ⟨rfl, rfl⟩ ?_
  rintro i ⟨x2, x5⟩ hi ⟨hx2, hx5⟩ R hR
  dsimp only at hx2 hx5
  subst hx2 hx5
  unfold wx1_size_b14
  dsimp only
  rw [nI_leI (by omega) (by omega)]
  refine ⟨fun c => ?_, fun c => ?_⟩
  · rw [h16, h22, show i = 8 by omega]
    refine ⟨fun (a0 : ¬ x = nI 0) => ⟨fun (a1 : ¬ x = nI 1) => ⟨fun (a2 : ¬ x = nI 2) => ?_, fun (a2 : x = nI 2) => ?_⟩, fun (a1 : x = nI 1) => ?_⟩, fun (a0 : x = nI 0) => ?_⟩
    · rw [if_neg a0, if_neg a1, if_neg a2] at h1; exact h1
    · rw [if_neg a0, if_neg a1, if_pos a2] at h1; exact h1
    · rw [if_neg a0, if_pos a1] at h1; exact h1
    · rw [if_pos a0] at h1; exact h1
  · obtain ⟨v, v1, v2⟩ := q3 i (by omega)
    refine ⟨i, by omega, rfl, v, v1, fun x2 e2 x5 e5 => ?_⟩
    rw [ply_n v2, nI_add] at e2
    rw [li_1, nI_add] at e5
    subst e2 e5
    exact hR (by omega) _ ⟨rfl, rfl⟩
theorem rx_tape {A : AB} {K : XK} {T T' : XT} {a b c d e : Int32} {n : Nat} (h : rx (aFn A a b c d e n) K T) (hf : xf (fun k => k = 0 ∨ k = 79) T T') (hr : xr T' 0 = xr T 0) (h0 : ∀ j, j ≠ 16 → xi T' 0 j = xi T 0 j) (h16 : xi T' 0 16 = nI (aN A 6 + (n + 1))) (h79 : ∀ j, j < 700 → xi T' 79 j = if j = aN A 6 + n then fb (fv a b c d e n) (n % 4) else xi T 79 j) : rx (aFn A a b c d e (n + 1)) K T' := by
  obtain ⟨q1, q2, q3, q4, q5, q6, q7, q8, q9, g, ga, q10, q11, q12⟩ := h
  have hz := q1.2.1
  have nP : ∀ k, 90 ≤ k → k < kz K → ¬ (k = 0 ∨ k = 79) := fun k a _ => by omega
  refine ⟨?_, ?_, ?_, fun z => ?_, ?_, h16, ?_, fun j hj => ?_, fun ht => ?_, g, ga, by rw [hr]; exact q10, rgs_keep q11 hf (kx_rfl _) nP (by omega), rxP_keep (A := aFn A a b c d e n) q12 hf (kx_rfl _) nP (by omega) (by omega) (by omega)⟩
  · obtain ⟨w1, w2, w3, w4, w5, w6, w7⟩ := q1
    exact ⟨w1, w2, by rw [hr]; exact w3, fun i hi' => by rw [(hf 41 (by omega)).2, (hf 58 (by omega)).2]; exact w4 i hi', by rw [(hf 6 (by omega)).2]; exact w5, fun d hd => by rw [(hf 7 (by omega)).2]; exact w6 d hd, by rw [(hf 78 (by omega)).1]; exact w7⟩
  · rw [h0 23 (by omega)]; exact q2
  · rw [h0 24 (by omega)]; exact q3
  · rw [h0 25 (by omega)]; exact q4 z
  · rw [h0 21 (by omega)]; exact q5
  · rw [h0 22 (by omega)]; exact q7
  · rw [h79 j hj]
    show _ = if aN A 6 ≤ j ∧ j < aN A 6 + (n + 1) then fb (fv a b c d e (j - aN A 6)) ((j - aN A 6) % 4) else aT A j
    by_cases q : j = aN A 6 + n
    · rw [if_pos q, if_pos (by omega), show j - aN A 6 = n by omega]
    · rw [if_neg q, q8 j hj]
      show (if aN A 6 ≤ j ∧ j < aN A 6 + n then _ else _) = _
      by_cases z : aN A 6 ≤ j ∧ j < aN A 6 + n
      · rw [if_pos z, if_pos (by omega)]
      · rw [if_neg z, if_neg (by omega)]
  · obtain ⟨w1, w2, w3, w4, ⟨q, w5, w6, w7, w8⟩, w9⟩ := q9 ht
    refine ⟨by rw [h0 0 (by omega)]; exact w1, by rw [h0 1 (by omega)]; exact w2, by rw [h0 2 (by omega)]; exact w3, by rw [h0 3 (by omega)]; exact w4, ⟨q, by rw [hr]; exact w5, ?_, w7, w8⟩, fun a ha1 ha2 => by rw [(hf 1 (by omega)).1]; exact w9 a ha1 ha2⟩
    unfold orn at w6 ⊢
    rw [(hf q (by omega)).1]
    exact w6
theorem xs_bytes {A : AB} {K : XK} {T : XT} {a b c d e v : Int32} {n : Nat} {post : XT → Prop} (hA : aN A 6 + 20 ≤ 700) (h4 : n % 4 = 0) (hn : n ≤ 16) (hv : ∀ j, j < 4 → fv a b c d e (n + j) = v) (h : rx (aFn A a b c d e n) K T) (hp : ∀ T', rx (aFn A a b c d e (n + 4)) K T' → post T') : wx1_bytes v K T post := by
  unfold wx1_bytes wx1_bytes_l3
  refine wl_up 4 (fun j w => w.1 = zI (24 - 8 * (j : Int)) ∧ rx (aFn A a b c d e (n + j)) K w.2) 0 (by omega) ⟨rfl, h⟩ ?_
  rintro j ⟨x2, T1⟩ hj ⟨hx2, r1⟩ R hR
  dsimp only at hx2 r1
  subst hx2
  have t16 : xi T1 0 16 = nI (aN A 6 + (n + j)) := r1.2.2.2.2.2.1
  unfold wx1_bytes_b3
  dsimp only
  rw [z_0, z_lt (by omega) (by omega)]
  refine ⟨fun q => hp T1 (by rw [show 4 = j by omega]; exact r1), fun q => ⟨aN A 6 + (n + j), by omega, t16, fun T2 e2 T3 e3 x2 ex2 => ?_⟩⟩
  have t2 : xi T2 0 16 = nI (aN A 6 + (n + j)) := by rw [e2, xi_wi, if_neg (by omega)]; exact t16
  rw [t2, li_1, nI_add] at e3
  rw [show (-8 : Int32) = zI (-8) from rfl, z_add] at ex2
  refine hR (by omega) _ ⟨by rw [ex2]; exact congrArg zI (by omega), ?_⟩
  show rx _ K T3
  have i3 : ∀ k i, ¬ (k = 0 ∧ i = 16) → xi T3 k i = xi T2 k i := fun k i q => by rw [e3, xi_wi, if_neg q]
  refine rx_tape (n := n + j) r1 (by rw [e3, e2]; exact xf_tr (xf_wi (Or.inr rfl)) (xf_wi (Or.inl rfl))) (by rw [e3, e2]; rfl) (fun i hi => by rw [i3 0 i (fun z => hi z.2), e2, xi_wi, if_neg (by omega)]) (by rw [e3, xi_wi, if_pos ⟨rfl, rfl⟩]; rfl) (fun i hi => ?_)
  rw [i3 79 i (by omega), e2, xi_wi]
  by_cases y : i = aN A 6 + (n + j)
  · rw [if_pos ⟨rfl, y⟩, if_pos y, hv j (by omega), show (n + j) % 4 = j by omega]
    unfold fb
    rw [z_nI, show ((24 - 8 * j : Nat) : Int) = 24 - 8 * (j : Int) by omega]
  · rw [if_neg (fun z => y z.2), if_neg y]
theorem rx_F0 {A : AB} {K : XK} {T : XT} {a b c d e : Int32} (h : rx A K T) : rx (aFn A a b c d e 0) K T := by
  obtain ⟨q1, q2, q3, q4, q5, q6, q7, q8, q9, q10⟩ := h
  refine ⟨q1, q2, q3, q4, q5, q6, q7, fun j hj => ?_, q9, q10⟩
  rw [q8 j hj]
  show _ = if aN A 6 ≤ j ∧ j < aN A 6 + 0 then _ else _
  rw [if_neg (by omega)]
theorem xc_feed {A : AB} {K : XK} {T : XT} {a b c d e : Int32} {post : Int32 → XT → Prop} (h : rx A K T) (hw : wf A) (h0 : 700 < aN A 6 + 20 → ∀ T', rx A K T' → post (-1) T') (h1 : aN A 6 + 20 ≤ 700 → ∀ T', rx (aFn A a b c d e 20) K T' → post (nI (aN A 6 + 20)) T') : wx1_feed a b c d e K T post := by
  have h6 := hw.2.1
  have t16 : xi T 0 16 = nI (aN A 6) := h.2.2.2.2.2.1
  unfold wx1_feed
  rw [t16, li_20, nI_add, li_700, nI_leI (by omega) (by omega)]
  refine ⟨fun q => ?_, fun q => h0 (by omega) T h⟩
  refine xs_bytes (n := 0) (b := b) (c := c) (d := d) (e := e) (a := a) q rfl (by omega) (fun j hj => ?_) (rx_F0 h) (fun T1 r1 => ?_)
  · unfold fv; rw [if_pos (by omega)]
  refine xs_bytes (n := 4) (b := b) (c := c) (d := d) (e := e) (a := a) q rfl (by omega) (fun j hj => ?_) r1 (fun T2 r2 => ?_)
  · unfold fv; rw [if_neg (by omega), if_pos (by omega)]
  refine xs_bytes (n := 8) (b := b) (c := c) (d := d) (e := e) (a := a) q rfl (by omega) (fun j hj => ?_) r2 (fun T3 r3 => ?_)
  · unfold fv; rw [if_neg (by omega), if_neg (by omega), if_pos (by omega)]
  refine xs_bytes (n := 12) (b := b) (c := c) (d := d) (e := e) (a := a) q rfl (by omega) (fun j hj => ?_) r3 (fun T4 r4 => ?_)
  · unfold fv; rw [if_neg (by omega), if_neg (by omega), if_neg (by omega), if_pos (by omega)]
  refine xs_bytes (n := 16) (b := b) (c := c) (d := d) (e := e) (a := a) q rfl (by omega) (fun j hj => ?_) r4 (fun T5 r5 => ?_)
  · unfold fv; rw [if_neg (by omega), if_neg (by omega), if_neg (by omega), if_neg (by omega)]
  have t5 : xi T5 0 16 = nI (aN A 6 + 20) := r5.2.2.2.2.2.1
  rw [t5]
  exact h1 q T5 r5
