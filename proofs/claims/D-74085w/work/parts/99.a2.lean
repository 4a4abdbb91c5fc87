set_option maxRecDepth 100000
def xfd (k : Nat) : Prop := k = 6 ∨ (8 ≤ k ∧ k ≤ 40)
theorem rx_6 {A : AB} {K : XK} {T T' : XT} (h : rx A K T) (hT : xf xfd T T') (h6 : (xr T' 6 2 = some 11 ∧ xr T' 6 3 = some 14) ∨ (xr T' 6 2 = some 14 ∧ xr T' 6 3 = some 11)) : rx A K T' := by
  obtain ⟨q1, q2, q3, q4, q5, q6, q7, q8, q9, g, ga, q10, q11, q12⟩ := h
  have hz := q1.2.1
  have no : ∀ k, k ≠ 6 → ¬ (8 ≤ k ∧ k ≤ 40) → ¬ xfd k := fun k a b => by unfold xfd; omega
  have hP : ∀ k, 90 ≤ k → k < kz K → ¬ xfd k := fun k a b => by unfold xfd; omega
  have e0 := hT 0 (no 0 (by omega) (by omega))
  refine ⟨?_, by rw [e0.1]; exact q2, by rw [e0.1]; exact q3, fun z => by rw [e0.1]; exact q4 z, by rw [e0.1]; exact q5, by rw [e0.1]; exact q6, by rw [e0.1]; exact q7, fun j hj => ?_, fun ht => ?_, g, ga, by rw [e0.2]; exact q10, ?_, ?_⟩
  · obtain ⟨y1, y2, y3, y4, y5, y6, y7⟩ := q1
    exact ⟨y1, y2, by rw [e0.2]; exact y3, fun i hi => by rw [(hT 41 (no 41 (by omega) (by omega))).2, (hT 58 (no 58 (by omega) (by omega))).2]; exact y4 i hi, h6, fun d hd => by rw [(hT 7 (no 7 (by omega) (by omega))).2]; exact y6 d hd, by rw [(hT 78 (no 78 (by omega) (by omega))).1]; exact y7⟩
  · rw [(hT 79 (no 79 (by omega) (by omega))).1]; exact q8 j hj
  · exact rxT_keep (q9 ht) hT (kx_rfl _) hP (no 0 (by omega) (by omega)) (no 1 (by omega) (by omega))
  · exact rgs_keep q11 hT (kx_rfl _) hP (no 87 (by omega) (by omega))
  · exact rxP_keep q12 hT (kx_rfl _) hP (no 87 (by omega) (by omega)) (no 88 (by omega) (by omega)) (no 89 (by omega) (by omega))
/-- which row is left, which one is next -/
def lnx (L N : Nat) : Prop := (L = 11 ∧ N = 14) ∨ (L = 14 ∧ N = 11)
/-- the division as it lies in TermDesk -/
def xdv (o : Nat → Nat) (set : Nat) (s : DS) (T : XT) (L N : Nat) : Prop := lnx L N ∧ xr T 6 2 = some L ∧ xr T 6 3 = some N ∧ rwl o T L (dL s) ∧ rwl o T 8 (dR s) ∧ (∀ d, d < 8 → rwl o T (17 + 3 * d) (dQ s d)) ∧ xi T 6 4 = nI set ∧ xi T 6 5 = nI (dS s) ∧ xi T 6 6 = nI (dM s)
theorem xdv_rx {A : AB} {K : XK} {T : XT} {o : Nat → Nat} {set L N : Nat} {s : DS} (h : rx A K T) (T' : XT) (hT : xf xfd T T') (h2 : xr T' 6 2 = some L) (h3 : xr T' 6 3 = some N) (hl : lnx L N) : rx A K T' := rx_6 h hT (by
  rcases hl with ⟨e1, e2⟩ | ⟨e1, e2⟩
  · exact Or.inl ⟨by rw [h2, e1], by rw [h3, e2]⟩
  · exact Or.inr ⟨by rw [h2, e1], by rw [h3, e2]⟩)
theorem xs_divisor {A : AB} {K : XK} {T : XT} {set L k : Nat} {post : Int32 → Prop} (h : rx A K T) (hs : set < 256) (hn : ¬ hzr A set) (h64 : xi T 6 4 = nI set) (h62 : xr T 6 2 = some L) (hL : 0 < kl K (L + 1)) (hk : k < 4096) (hlk : xi T (L + 1) 0 = nI k) (h0 : (∀ d, d < 8 → ¬ (bit set d ∧ gi (ldk (aOk A) (aR A d)) k)) → post (-1)) (h1 : ∀ d, d < 8 → bit set d → gi (ldk (aOk A) (aR A d)) k → (∀ e, e < d → ¬ (bit set e ∧ gi (ldk (aOk A) (aR A e)) k)) → post (nI d)) : wx3_divisor K T post := by
  obtain ⟨g, q1, q2, q3⟩ := rx_reg h
  unfold wx3_divisor wx3_divisor_l2
  refine wl_up 8 (fun d v => v = nI d ∧ ∀ e, e < d → ¬ (bit set e ∧ gi (ldk (aOk A) (aR A e)) k)) 0 (by omega) ⟨rfl, fun e he => absurd he (by omega)⟩ ?_
  rintro d v hd ⟨rfl, hno⟩ R hR
  unfold wx3_divisor_b2 wx3_divisor_j51
  rw [li_8, nI_leI (by omega) (by omega)]
  refine ⟨fun c => h0 fun e he => hno e (by omega), fun c => ?_⟩
  rw [h64, n_bit1 hs (by omega)]
  have next : ¬ (bit set d ∧ gi (ldk (aOk A) (aR A d)) k) → ∀ x, x = nI d + 1 → R x := fun q x e => by
    subst e
    refine hR (by omega) _ ⟨by rw [li_1, nI_add], fun e he => ?_⟩
    by_cases z : e = d
    · rw [z]; exact q
    · exact hno e (by omega)
  obtain ⟨v, v1, v2⟩ := q3 d (by omega)
  refine ⟨fun q => next fun z => q z.1, fun q => ?_⟩
  obtain ⟨va, vb, y1, y2, y3, y4, y5, y6, y7, _⟩ := ply_ld v2 (fun z => hn ⟨d, by omega, q, z⟩)
  refine ⟨g, q1, d, by omega, rfl, v, v1, va, y1, 0, y3, rfl, L, h62, 0, hL, rfl, ?_⟩
  rw [y5, hlk]
  exact xs_goesInto y7.1 hk (fun g => b11 rfl (h1 d (by omega) q g hno)) (fun g => b01 rfl (next fun z => g z.2))
theorem lnx_len {A : AB} {K : XK} {T : XT} {L N : Nat} (h : rx A K T) (hl : lnx L N) : kl K (L + 1) = 122 ∧ kl K (L + 2) = 122 ∧ kl K (N + 1) = 122 ∧ kl K (N + 2) = 122 := by
  have a := h.1.1 12 (by omega)
  have b := h.1.1 13 (by omega)
  have c := h.1.1 15 (by omega)
  have d := h.1.1 16 (by omega)
  rcases hl with ⟨e1, e2⟩ | ⟨e1, e2⟩ <;> rw [e1, e2] <;> exact ⟨by assumption, by assumption, by assumption, by assumption⟩
theorem j_maxn {a b : Nat} (ha : a < 1000) (hb : b < 1000) : jmax (nI a) (nI b) = nI (max a b) := by
  rw [z_nI a, j_max (by omega) (by omega), z_nI]
  exact congrArg zI (by omega)
/-- the end of a step with room -/
theorem xs_step288 {T : XT} {K : XK} {L c M : Nat} {post : XT → Prop} (h7 : xi T 6 7 = nI 1) (h62 : xr T 6 2 = some L) (hL2 : xi T L 2 = nI c) (h66 : xi T 6 6 = nI M) (hc : c < 1000) (hM : M < 1000) (hL6 : L ≠ 6) (hp : ∀ T', xf (fun k => k = 6) T T' → xr T' = xr T → (∀ j, j ≠ 6 → xi T' 6 j = xi T 6 j) → xi T' 6 6 = nI (max M c) → post T') : wx3_step_j288 post K T := by
  unfold wx3_step_j288
  rw [h7]
  refine ⟨fun q => absurd q (by decide), fun _ => ⟨L, h62, fun T2 e2 => ?_⟩⟩
  rw [h66, hL2, j_maxn hM hc] at e2
  exact hp T2 (by rw [e2]; exact xf_wi rfl) (by rw [e2]; rfl) (fun j hj => by rw [e2, xi_wi, if_neg (fun z => hj z.2)]) (by rw [e2, xi_wi, if_pos ⟨rfl, rfl⟩])
theorem xs_step288n {T : XT} {K : XK} {post : XT → Prop} (h7 : xi T 6 7 = nI 0) (hp : post T) : wx3_step_j288 post K T := by
  unfold wx3_step_j288
  rw [h7]
  exact ⟨fun _ => hp, fun q => absurd rfl q⟩
