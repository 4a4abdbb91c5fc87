set_option maxRecDepth 100000
/-! TermDesk holds the desk's state -/
/-- cells that a call may write as it likes -/
def xsc (K : XK) (k : Nat) : Prop := (2 ≤ k ∧ k ≤ 5) ∨ (8 ≤ k ∧ k ≤ 40) ∨ (42 ≤ k ∧ k ≤ 57) ∨ (59 ≤ k ∧ k ≤ 77) ∨ (80 ≤ k ∧ k ≤ 86) ∨ kz K ≤ k
/-- registers: an array of polynomials -/
def rgs (o : Nat → Nat) (p : Nat) (K : XK) (T : XT) (g : Nat) (reg : Nat → Nat → Nat) : Prop := kl K g = 8 ∧ (g = 87 ∨ 90 ≤ g) ∧ g < kz K ∧ ∀ r, r < 8 → ∃ v, xr T g r = some v ∧ ply o p K T v (reg r)
def rxT (A : AB) (K : XK) (T : XT) : Prop := xi T 0 0 = nI (aN A 1) ∧ xi T 0 1 = nI (aN A 2) ∧ xi T 0 2 = nI (aN A 3) ∧ xi T 0 3 = nI (aN A 4) ∧ (∃ q, xr T 0 4 = some q ∧ orn K T q (aN A 2) (aN A 3) (aN A 4) ∧ 90 ≤ q ∧ q < kz K) ∧ ∀ a, 0 < a → a < aN A 1 → xi T 1 a = nI (iv (aN A 1) a)
/-- what is kept of acts: arrays ga j, apart from one another and from the registers' own g -/
def rxP (A : AB) (K : XK) (T : XT) (g : Nat) (ga : Nat → Nat) : Prop := (∀ j, j < aN A 5 → xr T 88 j = some (ga j) ∧ 90 ≤ ga j ∧ ga j ≠ g ∧ rgs (ok (aO A j 0) (aO A j 1) (aO A j 2)) (aN A 1) K T (ga j) (aP A j) ∧ xi T 89 j = nI (16 * aO A j 0 + 4 * aO A j 1 + aO A j 2)) ∧ ∀ i j, i < j → j < aN A 5 → ga i ≠ ga j
/-- the cells that never change but by turns -/
def rxC (K : XK) (T : XT) : Prop := (∀ k, k < 90 → kl K k = sln k) ∧ 90 ≤ kz K ∧ ((xr T 0 9 = some 41 ∧ xr T 0 10 = some 58) ∨ (xr T 0 9 = some 58 ∧ xr T 0 10 = some 41)) ∧ (∀ i, i < 16 → xr T 41 i = some (42 + i) ∧ xr T 58 i = some (59 + i)) ∧ ((xr T 6 2 = some 11 ∧ xr T 6 3 = some 14) ∨ (xr T 6 2 = some 14 ∧ xr T 6 3 = some 11)) ∧ (∀ d, d < 8 → xr T 7 d = some (17 + 3 * d)) ∧ xi T 78 0 = nI 0
def rx (A : AB) (K : XK) (T : XT) : Prop := rxC K T ∧ xi T 0 23 = aZ A 0 ∧ xi T 0 24 = aZ A 1 ∧ (aZ A 0 = 4 → xi T 0 25 = aZ A 2) ∧ xi T 0 21 = nI (aN A 0) ∧ xi T 0 16 = nI (aN A 6) ∧ xi T 0 22 = nI (aN A 5) ∧ (∀ j, j < 700 → xi T 79 j = aT A j) ∧ (aN A 0 = 1 → rxT A K T) ∧ ∃ (g : Nat) (ga : Nat → Nat), xr T 0 18 = some g ∧ rgs (aOk A) (aN A 1) K T g (aR A) ∧ rxP A K T g ga
theorem rgs_keep {o : Nat → Nat} {p : Nat} {K K' : XK} {T T' : XT} {g : Nat} {reg : Nat → Nat → Nat} {P : Nat → Prop} (h : rgs o p K T g reg) (hT : xf P T T') (hK : kx K K') (hP : ∀ k, 90 ≤ k → k < kz K → ¬ P k) (h87 : ¬ P 87) : rgs o p K' T' g reg := by
  obtain ⟨h1, h2, h3, h4⟩ := h
  have hg : ¬ P g := by
    rcases h2 with e | e
    · rw [e]; exact h87
    · exact hP g e h3
  refine ⟨by rw [hK.2 g h3]; exact h1, h2, Nat.lt_of_lt_of_le h3 hK.1, fun r hr => ?_⟩
  obtain ⟨v, h5, h6⟩ := h4 r hr
  exact ⟨v, by rw [(hT g hg).2]; exact h5, ply_keep h6 hT hK hP⟩
theorem rxP_keep {A : AB} {K K' : XK} {T T' : XT} {g : Nat} {ga : Nat → Nat} {P : Nat → Prop} (h : rxP A K T g ga) (hT : xf P T T') (hK : kx K K') (hP : ∀ k, 90 ≤ k → k < kz K → ¬ P k) (h87 : ¬ P 87) (h88 : ¬ P 88) (h89 : ¬ P 89) : rxP A K' T' g ga := by
  refine ⟨fun j hj => ?_, h.2⟩
  obtain ⟨q1, q2, q3, q4, q5⟩ := h.1 j hj
  exact ⟨by rw [(hT 88 h88).2]; exact q1, q2, q3, rgs_keep q4 hT hK hP h87, by rw [(hT 89 h89).1]; exact q5⟩
theorem rxT_keep {A : AB} {K K' : XK} {T T' : XT} {P : Nat → Prop} (h : rxT A K T) (hT : xf P T T') (hK : kx K K') (hP : ∀ k, 90 ≤ k → k < kz K → ¬ P k) (h0 : ¬ P 0) (h1 : ¬ P 1) : rxT A K' T' := by
  obtain ⟨q1, q2, q3, q4, ⟨q, q5, q6, q7, q8⟩, q9⟩ := h
  have e0 := hT 0 h0
  have e1 := hT 1 h1
  have eq := hT q (hP q q7 q8)
  refine ⟨by rw [e0.1]; exact q1, by rw [e0.1]; exact q2, by rw [e0.1]; exact q3, by rw [e0.1]; exact q4, ⟨q, by rw [e0.2]; exact q5, ?_, q7, Nat.lt_of_lt_of_le q8 hK.1⟩, fun a h1 h2 => by rw [e1.1]; exact q9 a h1 h2⟩
  unfold orn at q6 ⊢
  rw [hK.2 q q8, eq.1]
  exact q6
theorem rxC_keep {K K' : XK} {T T' : XT} {P : Nat → Prop} (h : rxC K T) (hT : xf P T T') (hK : kx K K') (h0 : ¬ P 0) (h6 : ¬ P 6) (h7 : ¬ P 7) (h41 : ¬ P 41) (h58 : ¬ P 58) (h78 : ¬ P 78) : rxC K' T' := by
  obtain ⟨q1, q2, q3, q4, q5, q6, q7⟩ := h
  refine ⟨fun k hk => by rw [hK.2 k (by omega)]; exact q1 k hk, Nat.le_trans q2 hK.1, ?_, fun i hi => ?_, ?_, fun d hd => ?_, ?_⟩
  · rw [(hT 0 h0).2]; exact q3
  · rw [(hT 41 h41).2, (hT 58 h58).2]; exact q4 i hi
  · rw [(hT 6 h6).2]; exact q5
  · rw [(hT 7 h7).2]; exact q6 d hd
  · rw [(hT 78 h78).1]; exact q7
theorem rx_keep {A : AB} {K K' : XK} {T T' : XT} (h : rx A K T) (hT : xf (xsc K) T T') (hK : kx K K') : rx A K' T' := by
  obtain ⟨q1, q2, q3, q4, q5, q6, q7, q8, q9, g, ga, q10, q11, q12⟩ := h
  have hz := q1.2.1
  have no : ∀ k, ¬ (2 ≤ k ∧ k ≤ 5) → ¬ (8 ≤ k ∧ k ≤ 40) → ¬ (42 ≤ k ∧ k ≤ 57) → ¬ (59 ≤ k ∧ k ≤ 77) → ¬ (80 ≤ k ∧ k ≤ 86) → k < kz K → ¬ xsc K k := fun k a b c d e f => by unfold xsc; omega
  have hP : ∀ k, 90 ≤ k → k < kz K → ¬ xsc K k := fun k a b => by unfold xsc; omega
  have e0 := hT 0 (no 0 (by omega) (by omega) (by omega) (by omega) (by omega) (by omega))
  refine ⟨rxC_keep q1 hT hK (no 0 (by omega) (by omega) (by omega) (by omega) (by omega) (by omega)) (no 6 (by omega) (by omega) (by omega) (by omega) (by omega) (by omega)) (no 7 (by omega) (by omega) (by omega) (by omega) (by omega) (by omega)) (no 41 (by omega) (by omega) (by omega) (by omega) (by omega) (by omega)) (no 58 (by omega) (by omega) (by omega) (by omega) (by omega) (by omega)) (no 78 (by omega) (by omega) (by omega) (by omega) (by omega) (by omega)), by rw [e0.1]; exact q2, by rw [e0.1]; exact q3, fun z => by rw [e0.1]; exact q4 z, by rw [e0.1]; exact q5, by rw [e0.1]; exact q6, by rw [e0.1]; exact q7, fun j hj => ?_, fun ht => ?_, g, ga, by rw [e0.2]; exact q10, ?_, ?_⟩
  · rw [(hT 79 (no 79 (by omega) (by omega) (by omega) (by omega) (by omega) (by omega))).1]; exact q8 j hj
  · exact rxT_keep (q9 ht) hT hK hP (no 0 (by omega) (by omega) (by omega) (by omega) (by omega) (by omega)) (no 1 (by omega) (by omega) (by omega) (by omega) (by omega) (by omega))
  · exact rgs_keep q11 hT hK hP (no 87 (by omega) (by omega) (by omega) (by omega) (by omega) (by omega))
  · exact rxP_keep q12 hT hK hP (no 87 (by omega) (by omega) (by omega) (by omega) (by omega) (by omega)) (no 88 (by omega) (by omega) (by omega) (by omega) (by omega) (by omega)) (no 89 (by omega) (by omega) (by omega) (by omega) (by omega) (by omega))
/-- trouble and where are laid: cell 0 alone is written, at 23 and 25 -/
theorem rx_S {A : AB} {K : XK} {T T' : XT} {t w : Int32} (h : rx A K T) (hT : xf (fun k => k = 0) T T') (hr : xr T' 0 = xr T 0) (h0 : ∀ j, j ≠ 23 → j ≠ 25 → xi T' 0 j = xi T 0 j) (h23 : xi T' 0 23 = t) (h25 : t = 4 → xi T' 0 25 = w) : rx (aS A t w) K T' := by
  obtain ⟨q1, q2, q3, q4, q5, q6, q7, q8, q9, g, ga, q10, q11, q12⟩ := h
  have hz := q1.2.1
  have hP : ∀ k, 90 ≤ k → k < kz K → ¬ (k = 0) := fun k a b => by omega
  refine ⟨?_, h23, by rw [h0 24 (by omega) (by omega)]; exact q3, h25, by rw [h0 21 (by omega) (by omega)]; exact q5, by rw [h0 16 (by omega) (by omega)]; exact q6, by rw [h0 22 (by omega) (by omega)]; exact q7, fun j hj => by rw [(hT 79 (by omega)).1]; exact q8 j hj, fun ht => ?_, g, ga, by rw [hr]; exact q10, rgs_keep q11 hT (kx_rfl K) hP (by omega), rxP_keep q12 hT (kx_rfl K) hP (by omega) (by omega) (by omega)⟩
  · obtain ⟨w1, w2, w3, w4, w5, w6, w7⟩ := q1
    exact ⟨w1, w2, by rw [hr]; exact w3, fun i hi => by rw [(hT 41 (by omega)).2, (hT 58 (by omega)).2]; exact w4 i hi, by rw [(hT 6 (by omega)).2]; exact w5, fun d hd => by rw [(hT 7 (by omega)).2]; exact w6 d hd, by rw [(hT 78 (by omega)).1]; exact w7⟩
  · obtain ⟨w1, w2, w3, w4, ⟨q, w5, w6, w7, w8⟩, w9⟩ := q9 ht
    refine ⟨by rw [h0 0 (by omega) (by omega)]; exact w1, by rw [h0 1 (by omega) (by omega)]; exact w2, by rw [h0 2 (by omega) (by omega)]; exact w3, by rw [h0 3 (by omega) (by omega)]; exact w4, ⟨q, by rw [hr]; exact w5, ?_, w7, w8⟩, fun a h1 h2 => by rw [(hT 1 (by omega)).1]; exact w9 a h1 h2⟩
    unfold orn at w6 ⊢
    rw [(hT q (by omega)).1]
    exact w6
theorem xs_in {x lo hi : Int32} {K : XK} {T : XT} {post : Int32 → Prop} (h0 : (x < lo ∨ hi < x) → post 0) (h1 : ¬ x < lo → ¬ hi < x → post 1) : wx1_in x lo hi K T post := ⟨fun c => h0 (Or.inl c), fun c => ⟨fun d => h0 (Or.inr d), fun d => h1 c d⟩⟩
theorem xs_inr {x hi : Int32} {n : Nat} {K : XK} {T : XT} {post : Int32 → Prop} (hh : hi = nI n) (hn : n < 2 ^ 31) (h0 : ¬ inr x n → post 0) (h1 : ∀ j, j ≤ n → x = nI j → post 1) : wx1_in x 0 hi K T post := sp_inr (S := fun _ _ => 0) hh hn h0 h1
theorem xs_inset {x : Int32} {K : XK} {T : XT} {post : Int32 → Prop} (h0 : ¬ (∃ s, iset x s) → post 0) (h1 : ∀ s, iset x s → post 1) : wx1_in x 1 255 K T post := sp_inset (S := fun _ _ => 0) h0 h1
theorem xs_inlt {x : Int32} {n : Nat} {K : XK} {T : XT} {post : Int32 → Prop} (hn : n < 2 ^ 31) (h0 : ¬ (∃ j, j < n ∧ x = nI j) → post 0) (h1 : ∀ j, j < n → x = nI j → post 1) : wx1_in x 0 (nI n - 1) K T post := sp_inlt (S := fun _ _ => 0) hn h0 h1
/-- why: p1 whether it is there, p2 whether the numbers go -/
theorem xs_why2 {A : AB} {K : XK} {T : XT} {x y : Int32} {post : Int32 → Prop} (h : rx A K T) (hw : wf A) (h1 : ¬ (aN A 0 = 1 ∧ x ≠ 0) → post 1) (h2 : aN A 0 = 1 → x ≠ 0 → y = 0 → post 2) (h0 : aN A 0 = 1 → x ≠ 0 → y ≠ 0 → post 0) : wx1_why_2 x y K T post := by
  have e := h.2.2.2.2.1
  have hl := hw.1
  unfold wx1_why_2 wx1_why_2_j11
  rw [e, li_0, nI_eq (by omega) (by omega)]
  exact ⟨fun c => h1 (by omega), fun c => ⟨fun d => ⟨fun e => h2 (by omega) d e, fun e => h0 (by omega) d e⟩, fun d => h1 fun w => w.2 d⟩⟩
theorem xs_why {A : AB} {K : XK} {T : XT} {x : Int32} {post : Int32 → Prop} (h : rx A K T) (hw : wf A) (h1 : ¬ (aN A 0 = 1 ∧ x ≠ 0) → post 1) (h0 : aN A 0 = 1 → x ≠ 0 → post 0) : wx1_why x K T post := by
  unfold wx1_why
  exact xs_why2 h hw h1 (fun _ _ q => absurd q (by decide)) (fun a b _ => h0 a b)
theorem xs_isRefused {A : AB} {K : XK} {T : XT} {t : Int32} {post : Int32 → XT → Prop} (h : rx A K T) (h4 : t ≠ 4) (h0 : t = 0 → ∀ T', xf (fun k => k = 0) T T' → rx (aS A 0 (-1)) K T' → post 0 T') (h1 : t ≠ 0 → ∀ T', xf (fun k => k = 0) T T' → rx (aS A t (-1)) K T' → post 1 T') : wx1_isRefused t K T post := by
  unfold wx1_isRefused wx1_anew
  intro T1 e1 T2 e2 T3 e3
  have hf : xf (fun k => k = 0) T T3 := by
    rw [e3, e2, e1]
    exact xf_tr (xf_tr (xf_wi rfl) (xf_wi rfl)) (xf_wi rfl)
  have hr : rx (aS A t (-1)) K T3 := by
    refine rx_S h hf (by rw [e3, e2, e1]; rfl) (fun j q1 q2 => ?_) ?_ (fun z => absurd z h4)
    · rw [e3, xi_wi, if_neg (by omega), e2, xi_wi, if_neg (by omega), e1, xi_wi, if_neg (by omega)]
    · rw [e3, xi_wi, if_pos ⟨rfl, rfl⟩]
  exact ⟨fun c => h0 c T3 hf (by rw [c] at hr; exact hr), fun c => h1 c T3 hf hr⟩
theorem xs_no {A : AB} {K : XK} {T : XT} {t : Int32} {post : Int32 → XT → Prop} (h : rx A K T) (h4 : t ≠ 4) (h1 : ∀ T', rx (aS A t (-1)) K T' → post (-1) T') : wx1_no t K T post := by
  unfold wx1_no
  intro T1 e1
  refine h1 T1 (rx_S h (by rw [e1]; exact xf_wi rfl) (by rw [e1]; rfl) (fun j q1 q2 => ?_) ?_ (fun z => absurd z h4))
  · rw [e1, xi_wi, if_neg (by omega)]
  · rw [e1, xi_wi, if_pos ⟨rfl, rfl⟩]
/-- ints in an array of a call's own are all in a range -/
theorem xs_is {K : XK} {T : XT} {v n : Nat} {a : Nat → Int32} {post : Int32 → Prop} (hl : kl K v = n) (hn : n < 8) (ha : ∀ j, j < n → xi T v j = a j) (h0 : ¬ (∀ j, j < n → inr (a j) 7) → post 0) (h1 : (∀ j, j < n → inr (a j) 7) → post 1) : wx1_is v K T post := by
  unfold wx1_is
  intro x2 e2
  subst e2
  unfold wx1_is_l7
  rw [hl]
  refine wl_up n (fun i w => w = nI i ∧ ∀ j, j < i → inr (a j) 7) 0 (by omega) ⟨rfl, fun j hj => absurd hj (by omega)⟩ ?_
  rintro i w hi ⟨rfl, hall⟩ R hR
  unfold wx1_is_b7
  rw [nI_leI (by omega) (by omega), hl]
  refine ⟨fun c => h1 fun j hj => hall j (by omega), fun c => ⟨i, by omega, rfl, ?_⟩⟩
  rw [ha i (by omega)]
  refine xs_inr (n := 7) rfl (by omega) (fun d => b02 rfl (h0 fun q => d (q i (by omega)))) (fun j hj e => b12 rfl (fun x ex => ?_))
  subst ex
  refine hR (by omega) _ ⟨by rw [li_1, nI_add], fun k hk => ?_⟩
  by_cases q : k = i
  · rw [q]; exact ⟨j, hj, e⟩
  · exact hall k (by omega)
theorem xs_areExponents {K : XK} {T : XT} {v n : Nat} {a : Nat → Int32} {post : Int32 → Prop} (hl : kl K v = n) (hn : n < 8) (ha : ∀ j, j < n → xi T v j = a j) (h0 : ¬ (∀ j, j < n → inr (a j) 15) → post 0) (h1 : (∀ j, j < n → inr (a j) 15) → post 1) : wx1_areExponents v K T post := by
  unfold wx1_areExponents
  intro x2 e2
  subst e2
  unfold wx1_areExponents_l7
  rw [hl]
  refine wl_up n (fun i w => w = nI i ∧ ∀ j, j < i → inr (a j) 15) 0 (by omega) ⟨rfl, fun j hj => absurd hj (by omega)⟩ ?_
  rintro i w hi ⟨rfl, hall⟩ R hR
  unfold wx1_areExponents_b7
  rw [nI_leI (by omega) (by omega), hl]
  refine ⟨fun c => h1 fun j hj => hall j (by omega), fun c => ⟨i, by omega, rfl, ?_⟩⟩
  rw [ha i (by omega)]
  refine xs_inr (n := 15) rfl (by omega) (fun d => b02 rfl (h0 fun q => d (q i (by omega)))) (fun j hj e => b12 rfl (fun x ex => ?_))
  subst ex
  refine hR (by omega) _ ⟨by rw [li_1, nI_add], fun k hk => ?_⟩
  by_cases q : k = i
  · rw [q]; exact ⟨j, hj, e⟩
  · exact hall k (by omega)
theorem xs_areValues {K : XK} {T : XT} {v n p : Nat} {a : Nat → Int32} {post : Int32 → Prop} (hl : kl K v = n) (hn : n < 8) (hp0 : 1 ≤ p) (hp : p ≤ 97) (h00 : xi T 0 0 = nI p) (ha : ∀ j, j < n → xi T v j = a j) (h0 : ¬ (∀ j, j < n → inr (a j) (p - 1)) → post 0) (h1 : (∀ j, j < n → inr (a j) (p - 1)) → post 1) : wx1_areValues v K T post := by
  unfold wx1_areValues
  intro x2 e2
  subst e2
  unfold wx1_areValues_l8
  rw [hl]
  refine wl_up n (fun i w => w = nI i ∧ ∀ j, j < i → inr (a j) (p - 1)) 0 (by omega) ⟨rfl, fun j hj => absurd hj (by omega)⟩ ?_
  rintro i w hi ⟨rfl, hall⟩ R hR
  unfold wx1_areValues_b8
  rw [nI_leI (by omega) (by omega), hl]
  refine ⟨fun c => h1 fun j hj => hall j (by omega), fun c => ⟨i, by omega, rfl, ?_⟩⟩
  rw [ha i (by omega)]
  refine xs_inr (n := p - 1) (by rw [h00, li_1, pk_sub hp0]) (by omega) (fun d => b02 rfl (h0 fun q => d (q i (by omega)))) (fun j hj e => b12 rfl (fun x ex => ?_))
  subst ex
  refine hR (by omega) _ ⟨by rw [li_1, nI_add], fun k hk => ?_⟩
  by_cases q : k = i
  · rw [q]; exact ⟨j, hj, e⟩
  · exact hall k (by omega)
