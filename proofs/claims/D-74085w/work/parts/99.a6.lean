set_option maxRecDepth 100000
theorem rwl_z {o : Nat → Nat} {T : XT} {to : Nat} (h : xi T to 2 = nI 0) : rwl o T to (fun _ => 0) := ⟨0, fun l => l, ⟨fun i hi => absurd hi (by omega), fun i j _ hj => absurd hj (by omega), fun k _ hz => absurd rfl hz⟩, h, fun l hl => absurd hl (by omega)⟩
/-- the polynomial is laid into the row, then it runs -/
theorem xs_done78 {A : AB} {K : XK} {T0 T : XT} {v set L N : Nat} {w : Nat → Nat} {post : Nat → XT → Prop} (hw : wf A) (ht : aN A 0 = 1) (hs : set < 256) (hnz : ¬ hzr A set) (hv : dvs (aN A 1) (aOk A) (aR A) set) (h : rx A K T) (hf0 : xf xfd T0 T) (hl : lnx L N) (h62 : xr T 6 2 = some L) (h63 : xr T 6 3 = some N) (hpl : ply (aOk A) (aN A 1) K T v w) (h60 : cn w 4096 ≤ 60) (h64 : xi T 6 4 = nI set) (h65 : xi T 6 5 = nI 0) (h66 : xi T 6 6 = nI (cn w 4096)) (h7 : xi T 6 7 = nI 1) (h8 : xi T 8 2 = nI 0) (hq : ∀ d, d < 8 → xi T (17 + 3 * d) 2 = nI 0) (hL : xi T L 2 = nI 0)
    (h0 : drun (aN A 1) (aOk A) (aR A) set 502 (ds0 w) = none → ∀ T', xf xfd T0 T' → rx A K T' → xi T' 6 7 = nI 0 → post 6 T') (h1 : ∀ s, drun (aN A 1) (aOk A) (aR A) set 502 (ds0 w) = some s → dinv (aN A 1) (aOk A) (aR A) set s → ∀ T' L N, xf xfd T0 T' → rx A K T' → xdv (aOk A) set s T' L N → xi T' 6 7 = nI 1 → post 6 T') : wx3_done_l78 v (nI set) post 0 K T := by
  have hW := hw.2.2.2.2 ht
  have hp97 := hW.1.2.1
  obtain ⟨b1, b2, b3⟩ := lnx_b hl
  obtain ⟨k1, k2, k3, k4⟩ := lnx_len h hl
  obtain ⟨va, vb, n, a, u1, u2, u3, u4, u5, u6, u7, u8, u9, u10, u11⟩ := hpl
  have en := isr_cn u6
  unfold wx3_done_l78
  refine wl_up n (fun i y => y.1 = nI i ∧ xf (r3 L) T y.2 ∧ rwd y.2 L i a w) 0 (by omega) ⟨rfl, xf_rfl _ _, hL, fun l hl => absurd hl (by omega)⟩ ?_
  rintro i ⟨x3, T1⟩ hi ⟨hx3, f1, r1⟩ R hR
  dsimp only at hx3 f1 r1
  subst hx3
  have kv := f1 v (by unfold r3; omega)
  have kva := f1 va (by unfold r3; omega)
  have kvb := f1 vb (by unfold r3; omega)
  have k6 := f1 6 (by unfold r3; omega)
  unfold wx3_done_b78
  dsimp only
  rw [kv.1, kv.2, u3, nI_leI (by omega) (by omega), k6.2]
  refine ⟨fun c => ?_, fun c => ⟨L, h62, va, u1, i, by omega, rfl, vb, u2, i, by omega, rfl, ?_⟩⟩
  · have ei : i = n := by omega
    rw [ei] at r1
    have x62 : xr T1 6 2 = some L := by rw [k6.2]; exact h62
    have x63 : xr T1 6 3 = some N := by rw [k6.2]; exact h63
    have fd : xf xfd T T1 := xf_mono f1 (fun k hk => by unfold r3 at hk; unfold xfd; omega)
    have h1' : rx A K T1 := xdv_rx (o := aOk A) (set := set) (s := ds0 w) h T1 fd x62 x63 hl
    refine xs_done111 (s0 := ds0 w) (L := L) (N := N) hw ht hs hnz hv h1' (xf_tr hf0 fd) ⟨hl, x62, x63, ⟨n, a, u6, r1⟩, rwl_z ?_, fun d hd => rwl_z ?_, ?_, ?_, ?_⟩ ?_ (dinv_s0 hW.1 u8 h60) rfl (Nat.le_refl _) h0 h1
    · rw [(f1 8 (by unfold r3; omega)).1]; exact h8
    · rw [(f1 _ (by unfold r3; omega)).1]; exact hq d hd
    · rw [k6.1]; exact h64
    · rw [k6.1]; exact h65
    · rw [k6.1]; exact h66
    · rw [k6.1]; exact h7
  · obtain ⟨y1, y2⟩ := u7 i (by omega)
    obtain ⟨z1, z2⟩ := u6.1 i (by omega)
    have hlt := u8 _ z1
    rw [kva.1, kvb.1, y1, y2]
    refine xs_radd r1 (by omega) (by omega) (Nat.pos_of_ne_zero z2) (by omega) rfl (fun T2 f2 r2 x3 e3 => ?_)
    rw [e3, li_1, nI_add]
    refine hR (by omega) _ ⟨rfl, xf_tr f1 f2, ?_⟩
    have ea : (fun l => if l = i then a i else a l) = a := funext fun l => by
      by_cases q : l = i
      · rw [if_pos q, q]
      · rw [if_neg q]
    rw [ea] at r2
    exact r2
theorem xs_done {A : AB} {K : XK} {T : XT} {v set : Nat} {w : Nat → Nat} {post : Nat → XT → Prop} (hw : wf A) (ht : aN A 0 = 1) (hs : set < 256) (hnz : ¬ hzr A set) (hv : dvs (aN A 1) (aOk A) (aR A) set) (h : rx A K T) (hpl : ply (aOk A) (aN A 1) K T v w) (h60 : cn w 4096 ≤ 60)
    (h0 : drun (aN A 1) (aOk A) (aR A) set 502 (ds0 w) = none → ∀ T', xf xfd T T' → rx A K T' → xi T' 6 7 = nI 0 → post 6 T') (h1 : ∀ s, drun (aN A 1) (aOk A) (aR A) set 502 (ds0 w) = some s → dinv (aN A 1) (aOk A) (aR A) set s → ∀ T' L N, xf xfd T T' → rx A K T' → xdv (aOk A) set s T' L N → xi T' 6 7 = nI 1 → post 6 T') : wx3_done v (nI set) K T post := by
  have hv9 : 90 ≤ v := by
    obtain ⟨_, _, _, _, _, _, _, _, _, _, _, _, u9, _⟩ := hpl
    exact u9.1
  have hn := ply_n hpl
  have hex : ∃ L N, lnx L N ∧ xr T 6 2 = some L ∧ xr T 6 3 = some N := by
    rcases h.1.2.2.2.2.1 with ⟨a, b⟩ | ⟨a, b⟩
    · exact ⟨11, 14, Or.inl ⟨rfl, rfl⟩, a, b⟩
    · exact ⟨14, 11, Or.inr ⟨rfl, rfl⟩, a, b⟩
  obtain ⟨L, N, hl, h62, h63⟩ := hex
  obtain ⟨b1, b2, b3⟩ := lnx_b hl
  unfold wx3_done wx2_begins
  intro T1 e1 T2 e2 T3 e3 T4 e4 T5 e5 x4 ex4
  have i2 : xi T2 v 2 = nI (cn w 4096) := by rw [e2, xi_wi, if_neg (by omega), e1, xi_wi, if_neg (by omega)]; exact hn
  rw [i2] at e3
  have f5 : xf (fun k => k = 6 ∨ k = 8) T T5 := by
    rw [e5, e4, e3, e2, e1]
    exact xf_tr (xf_tr (xf_tr (xf_tr (xf_wi (Or.inl rfl)) (xf_wi (Or.inl rfl))) (xf_wi (Or.inl rfl))) (xf_wi (Or.inl rfl))) (xf_wi (Or.inr rfl))
  have r5 : xr T5 = xr T := by rw [e5, e4, e3, e2, e1]; rfl
  have j4 : xi T5 6 4 = nI set := by rw [e5, xi_wi, if_neg (by omega), e4, xi_wi, if_neg (by omega), e3, xi_wi, if_neg (by omega), e2, xi_wi, if_neg (by omega), e1, xi_wi, if_pos ⟨rfl, rfl⟩]
  have j5 : xi T5 6 5 = nI 0 := by rw [e5, xi_wi, if_neg (by omega), e4, xi_wi, if_neg (by omega), e3, xi_wi, if_neg (by omega), e2, xi_wi, if_pos ⟨rfl, rfl⟩]; rfl
  have j6 : xi T5 6 6 = nI (cn w 4096) := by rw [e5, xi_wi, if_neg (by omega), e4, xi_wi, if_neg (by omega), e3, xi_wi, if_pos ⟨rfl, rfl⟩]
  have j7 : xi T5 6 7 = nI 1 := by rw [e5, xi_wi, if_neg (by omega), e4, xi_wi, if_pos ⟨rfl, rfl⟩]; rfl
  have j8 : xi T5 8 2 = nI 0 := by rw [e5, xi_wi, if_pos ⟨rfl, rfl⟩]; rfl
  subst ex4
  unfold wx3_done_l43
  refine wl_up 8 (fun i y => y.1 = nI i ∧ xf (fun k => 17 ≤ k ∧ k ≤ 40) T5 y.2 ∧ xr y.2 = xr T5 ∧ ∀ d, d < i → xi y.2 (17 + 3 * d) 2 = nI 0) 0 (by omega) ⟨rfl, xf_rfl _ _, rfl, fun d hd => absurd hd (by omega)⟩ ?_
  rintro i ⟨x5, T6⟩ hi ⟨hx5, f6, r6, q6⟩ R hR
  dsimp only at hx5 f6 r6 q6
  subst hx5
  have q7 : ∀ d, d < 8 → xr T6 7 d = some (17 + 3 * d) := fun d hd => by rw [r6, r5]; exact h.1.2.2.2.2.2.1 d hd
  unfold wx3_done_b43 wx2_begins
  dsimp only
  rw [nI_leI (by omega) (by omega)]
  refine ⟨fun c => ⟨L, by rw [r6, r5]; exact h62, fun T7 e7 => ?_⟩, fun c => ⟨i, by rw [show kl K 7 = 8 from h.1.1 7 (by omega)]; omega, rfl, 17 + 3 * i, q7 i (by omega), fun T7 e7 x5 e5' => ?_⟩⟩
  · have f7 : xf (fun k => k = L) T6 T7 := by rw [e7]; exact xf_wi rfl
    have ft : xf xfd T T7 := xf_tr (xf_tr (xf_mono f5 (fun k hk => by unfold xfd; omega)) (xf_mono f6 (fun k hk => by unfold xfd; omega))) (xf_mono f7 (fun k hk => by unfold xfd; omega))
    have r7 : xr T7 = xr T := by rw [e7]; show xr T6 = _; rw [r6, r5]
    have g6 : xi T7 6 = xi T5 6 := by rw [(f7 6 (by omega)).1, (f6 6 (by omega)).1]
    have h7 : rx A K T7 := xdv_rx (o := aOk A) (set := set) (s := ds0 w) h T7 ft (by rw [r7]; exact h62) (by rw [r7]; exact h63) hl
    refine xs_done78 hw ht hs hnz hv h7 ft hl (by rw [r7]; exact h62) (by rw [r7]; exact h63) (ply_keep hpl ft (kx_rfl _) (fun k a b => by unfold xfd; omega)) h60 (by rw [g6]; exact j4) (by rw [g6]; exact j5) (by rw [g6]; exact j6) (by rw [g6]; exact j7) ?_ (fun d hd => ?_) ?_ h0 h1
    · rw [(f7 8 (by omega)).1, (f6 8 (by omega)).1]; exact j8
    · rw [(f7 _ (by omega)).1]; exact q6 d (by omega)
    · rw [e7, xi_wi, if_pos ⟨rfl, rfl⟩]; rfl
  · rw [e5', li_1, nI_add]
    refine hR (by omega) _ ⟨rfl, by show xf _ T5 T7; rw [e7]; exact xf_tr f6 (xf_wi (by omega)), by show xr T7 = _; rw [e7]; exact r6, fun d hd => ?_⟩
    show xi T7 _ 2 = _
    rw [e7, xi_wi]
    by_cases z : d = i
    · rw [if_pos ⟨by omega, rfl⟩]; rfl
    · rw [if_neg (by omega)]; exact q6 d (by omega)
