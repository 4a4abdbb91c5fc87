set_option maxRecDepth 100000
/-! masks on numbers of three digits -/
theorem or3 {x y z : Nat} (hx : x < 16) (hy : y < 16) : x + 16 * y + 256 * z = (x ||| y * 16) ||| z * 256 := by
  have h1 : x ||| y * 16 = x + y * 16 := n_or_add (e := y) (k := 4) hx
  have h2 : (x + y * 16) ||| z * 256 = (x + y * 16) + z * 256 := n_or_add (x := x + y * 16) (e := z) (k := 8) (by omega)
  rw [h1, h2]; omega
theorem and3 {x y z c0 c1 c2 M : Nat} (hx : x < 16) (hy : y < 16) (hz : z < 16) (d0 : c0 = 0 ∨ c0 = 1) (d1 : c1 = 0 ∨ c1 = 1) (h0 : ∀ x, x < 16 → x &&& M = c0 * x) (h1 : ∀ y, y < 16 → y * 16 &&& M = (c1 * y) * 16) (h2 : ∀ z, z < 16 → z * 256 &&& M = (c2 * z) * 256) : (x + 16 * y + 256 * z) &&& M = c0 * x + 16 * (c1 * y) + 256 * (c2 * z) := by
  have e0 : c0 * x < 16 := by
    rcases d0 with e | e <;> rw [e] <;> omega
  have e1 : c1 * y < 16 := by
    rcases d1 with e | e <;> rw [e] <;> omega
  rw [or3 hx hy, or3 e0 e1, Nat.and_or_distrib_right, Nat.and_or_distrib_right, h0 x hx, h1 y hy, h2 z hz]
theorem dig3 {k : Nat} (hk : k < 4096) : k = ex k 0 + 16 * ex k 1 + 256 * ex k 2 := by
  rw [ex_0, ex_1, ex_2]; omega
theorem n_mask {k M c0 c1 c2 : Nat} (hk : k < 4096) (d0 : c0 = 0 ∨ c0 = 1) (d1 : c1 = 0 ∨ c1 = 1) (h0 : ∀ x, x < 16 → x &&& M = c0 * x) (h1 : ∀ y, y < 16 → y * 16 &&& M = (c1 * y) * 16) (h2 : ∀ z, z < 16 → z * 256 &&& M = (c2 * z) * 256) : nI k &&& nI M = nI (c0 * ex k 0 + 16 * (c1 * ex k 1) + 256 * (c2 * ex k 2)) := by
  rw [n_and]
  congr 1
  rw [← and3 (ex_lt k 0) (ex_lt k 1) (ex_lt k 2) d0 d1 h0 h1 h2, ← dig3 hk]
theorem n_wo {k u : Nat} (hk : k < 4096) (hu : u < 3) : nI k &&& ((jshl 15 (4 * nI u)) ^^^ (-1)) = nI (wo u k) := by
  have e : u = 0 ∨ u = 1 ∨ u = 2 := by omega
  have hd := dig3 hk
  rcases e with e | e | e <;> subst e
  · rw [show ((jshl 15 (4 * nI 0)) ^^^ (-1)) = nI 4294967280 from rfl, n_mask (c0 := 0) (c1 := 1) (c2 := 1) hk (Or.inl rfl) (Or.inr rfl) (by decide) (by decide) (by decide)]
    congr 1
    unfold wo
    rw [show (16 : Nat) ^ 0 = 1 from rfl]; omega
  · rw [show ((jshl 15 (4 * nI 1)) ^^^ (-1)) = nI 4294967055 from rfl, n_mask (c0 := 1) (c1 := 0) (c2 := 1) hk (Or.inr rfl) (Or.inl rfl) (by decide) (by decide) (by decide)]
    congr 1
    unfold wo
    rw [show (16 : Nat) ^ 1 = 16 from rfl]; omega
  · rw [show ((jshl 15 (4 * nI 2)) ^^^ (-1)) = nI 4294963455 from rfl, n_mask (c0 := 1) (c1 := 1) (c2 := 0) hk (Or.inr rfl) (Or.inr rfl) (by decide) (by decide) (by decide)]
    congr 1
    unfold wo
    rw [show (16 : Nat) ^ 2 = 256 from rfl]; omega
theorem xs_put54 {A : AB} {K : XK} {T : XT} {r u c k Z Y : Nat} {post : Int32 → XT → XK → Prop} (h : rx (aS A 0 (-1)) K T) (hw : wf A) (ht : aN A 0 = 1) (hr : r < 8) (hu : u < 3) (hc : c < aN A 1) (hk : k < 8) (hZ : kc K + 4 ≤ Z) (hY : ks K + 8203 ≤ Y) (fin : lydx A k (ptn (aN A 1) (aR A r) u c 4096) True Z Y post) : wx1_put_j54 (nI r) (nI u) (nI c) (nI k) Z Y post K T := by
  have hp := (hw.2.2.2.2 ht).1
  have h2 := hp.1
  have h97 := hp.2.1
  have hzz := h.1.2.1
  unfold wx1_put_j54
  refine xs_blank (rx_l2 h) (fun T1 f1 b1 => ?_)
  have r1 := rx_keep h (xf_sc (by unfold xsc; omega) f1) (kx_rfl _)
  obtain ⟨gg, q1, q2, q3⟩ := rx_reg2 r1
  obtain ⟨v, v1, v2⟩ := q3 r hr
  refine ⟨gg, q1, r, by omega, rfl, v, v1, ?_⟩
  obtain ⟨va, vb, n, a, u1, u2, u3, u4, u5, u6, u7, u8, u9, u10, u11⟩ := v2
  have hn : n ≤ 4096 := by rw [isr_cn u6]; exact cn_le _ _
  unfold wx1_put_l71
  refine wl_up n (fun i w => w.1 = nI i ∧ xf (fun k => k = 2) T1 w.2 ∧ ∀ m, m < 4096 → xi w.2 2 m = nI (ns (fun l => if wo u (a l) = m then aR A r (a l) * pw (aN A 1) c (ex (a l) u) else 0) i % aN A 1)) 0 (by omega) ⟨rfl, xf_rfl _ _, fun m hm => by rw [b1 m hm]; congr 1⟩ ?_
  rintro i ⟨x7, T2⟩ hi ⟨hx7, f2, d1⟩ R hR
  dsimp only at hx7 f2 d1
  subst hx7
  have kv := f2 v (by omega)
  have kva := f2 va (by omega)
  have kvb := f2 vb (by omega)
  have r2 := rx_keep r1 (xf_sc (by unfold xsc; omega) f2) (kx_rfl _)
  have hp0 : xi T2 0 0 = nI (aN A 1) := rx_p (A := aS A 0 (-1)) r2 ht
  unfold wx1_put_b71
  dsimp only
  rw [kv.1, kv.2, u3, nI_leI (by omega) (by omega)]
  refine ⟨fun cc => ?_, fun cc => ⟨va, u1, i, by omega, rfl, fun x8 e8 => ?_⟩⟩
  · refine xs_srlay (w := ptn (aN A 1) (aR A r) u c 4096) r2 hw ht hk (fun m hm => ?_) (fun m _ => Nat.mod_lt _ (by omega)) hZ hY fin
    rw [d1 m hm, show i = n by omega]
    congr 1
    unfold ptn
    rw [isr_sum u6 (fun k => if wo u k = m then aR A r k * pw (aN A 1) c (ex k u) else 0)]
    congr 1
    refine ns_ext fun k _ => ?_
    by_cases z : aR A r k = 0
    · rw [if_pos z, z, Nat.zero_mul]
      split <;> rfl
    · rw [if_neg z]
  · obtain ⟨e1, e2⟩ := u7 i (by omega)
    have a4 := (u6.1 i (by omega)).1
    have hlt := ex_lt (a i) u
    have hwo : wo u (a i) < 4096 := Nat.lt_of_le_of_lt (Nat.sub_le _ _) a4
    rw [kva.1, e1, n_wo a4 hu] at e8
    subst e8
    refine ⟨wo u (a i), by rw [rx_l2 h]; exact hwo, rfl, vb, u2, i, by omega, rfl, va, u1, i, by omega, rfl, ?_⟩
    rw [kva.1, e1]
    refine xs_exponent (by omega) (by omega) ?_
    have hpw := pw_lt (v := c) hp (ex (a i) u)
    refine xs_power hp hp0 hc hlt ⟨by rw [hp0]; exact n_ne0 hp, ?_⟩
    have hfa := u8 _ a4
    have hm := mul97 (a := aR A r (a i)) (b := pw (aN A 1) c (ex (a i) u)) (by omega) (by omega)
    have hml := Nat.mod_lt (ns (fun l => if wo u (a l) = wo u (a i) then aR A r (a l) * pw (aN A 1) c (ex (a l) u) else 0) i) (show 0 < aN A 1 by omega)
    rw [d1 _ hwo, kvb.1, e2, hp0, pk_mul, nI_add, n_rem (by omega) (by omega) (by omega)]
    refine ⟨wo u (a i), by rw [rx_l2 h]; exact hwo, rfl, fun T3 e3 x7 ex7 => ?_⟩
    rw [ex7, li_1, nI_add]
    refine hR (by omega) _ ⟨rfl, by show xf _ T1 T3; rw [e3]; exact xf_tr f2 (xf_wi rfl), fun m hm => ?_⟩
    show xi T3 2 m = nI ((ns _ i + (if wo u (a i) = m then _ else 0)) % aN A 1)
    rw [e3, xi_wi]
    by_cases q : m = wo u (a i)
    · rw [if_pos ⟨rfl, q⟩, if_pos q.symm, q, Nat.mod_add_mod]
    · rw [if_neg (fun z => q z.2), if_neg (fun z => q z.symm), Nat.add_zero]
      exact d1 m hm
theorem xc_put {A : AB} {K : XK} {T : XT} {x y v z : Int32} {Z Y : Nat} {post : Int32 → XT → XK → Prop} (h : rx A K T) (hw : wf A) (hZ : kc K + 10 ≤ Z) (hY : ks K + 9000 ≤ Y) (h0 : ¬ (aN A 0 = 1 ∧ inr x 7 ∧ inr y 2 ∧ inr z 7) → pst (aS A 1 (-1)) (-1) Z Y post) (h2 : aN A 0 = 1 → inr x 7 → inr y 2 → inr z 7 → ¬ inr v (aN A 1 - 1) → pst (aS A 2 (-1)) (-1) Z Y post)
    (h1 : aN A 0 = 1 → ∀ r u c k, r < 8 → u < 3 → c < aN A 1 → k < 8 → x = nI r → y = nI u → v = nI c → z = nI k → lydx A k (ptn (aN A 1) (aR A r) u c 4096) True Z Y post) : wx1_put x y v z K T Z Y post := by
  unfold wx1_put
  refine xv2 (by omega) (by omega) (fun K1 T1 f1 k1 l1 a1 c1 s1 z1 => ?_)
  have g1 := rx_keep h f1 k1
  refine xs_is' l1 (by omega) a1 (fun rr hrr => ?_)
  rw [all2] at hrr
  refine ⟨fun e => ?_, fun e => ?_⟩
  · refine xv1 (by omega) (by omega) (fun K2 T2 f2 k2 l2 a2 c2 s2 z2 => ?_)
    have g2 := rx_keep g1 f2 k2
    refine xs_vals' g2 hw l2 (by omega) a2 (fun rv hrv => ?_)
    exact xh2 g2 hw (fun q T3 r3 => b11 rfl (pst_u (h0 fun w => hrr.2 ⟨w.2.1, w.2.2.2⟩ e) r3)) (fun _ q => absurd rfl q) (fun _ q => absurd rfl q)
  · refine xs_isUnknown (fun q => b01 rfl ?_) (fun u hu eu => b11 rfl ?_)
    · refine xv1 (by omega) (by omega) (fun K2 T2 f2 k2 l2 a2 c2 s2 z2 => ?_)
      have g2 := rx_keep g1 f2 k2
      refine xs_vals' g2 hw l2 (by omega) a2 (fun rv hrv => ?_)
      exact xh2 g2 hw (fun _ T3 r3 => b11 rfl (pst_u (h0 fun w => q w.2.2.1) r3)) (fun _ q => absurd rfl q) (fun _ q => absurd rfl q)
    · refine xv1 (by omega) (by omega) (fun K2 T2 f2 k2 l2 a2 c2 s2 z2 => ?_)
      have g2 := rx_keep g1 f2 k2
      refine xs_vals' g2 hw l2 (by omega) a2 (fun rv hrv => ?_)
      rw [all1] at hrv
      obtain ⟨⟨r, hr, er⟩, k, hk, ek⟩ := hrr.1 e
      refine xh2 g2 hw (fun q T3 r3 => b11 rfl (pst_u (h0 fun w => q ⟨w.1, by decide⟩) r3)) (fun ht _ q T3 r3 => b11 rfl (pst_u (h2 ht ⟨r, hr, er⟩ ⟨u, by omega, eu⟩ ⟨k, hk, ek⟩ fun w => (hrv ht).2 w q) r3)) (fun ht _ q T3 f3 r3 => b01 rfl ?_)
      obtain ⟨c, hc, ec⟩ := (hrv ht).1 q
      have hp1 := (hw.2.2.2.2 ht).1.1
      have fin := h1 ht r u c k (by omega) hu (by omega) (by omega) er eu ec ek
      subst er eu ec ek
      exact xs_put54 r3 hw ht (by omega) hu (by omega) (by omega) (by omega) (by omega) fin
/-- a digit is put where none is -/
theorem or_d0 {x y z : Nat} (hx : x < 16) (hy : y < 16) : (0 + 16 * y + 256 * z) ||| x = x + 16 * y + 256 * z := by
  rw [or3 (show 0 < 16 by omega) hy, or3 hx hy, Nat.zero_or, Nat.or_comm, ← Nat.or_assoc]
theorem or_d1 {x y z : Nat} (hx : x < 16) (hy : y < 16) : (x + 16 * 0 + 256 * z) ||| y * 16 = x + 16 * y + 256 * z := by
  rw [or3 hx (show 0 < 16 by omega), or3 hx hy, Nat.zero_mul, Nat.or_zero, Nat.or_assoc, Nat.or_comm (z * 256), ← Nat.or_assoc]
theorem or_d2 {x y z : Nat} (hx : x < 16) (hy : y < 16) : (x + 16 * y + 256 * 0) ||| z * 256 = x + 16 * y + 256 * z := by
  rw [or3 hx hy, or3 hx hy, Nat.zero_mul, Nat.or_zero]
theorem or_e {a b : Nat} : (a ||| b) ||| b = a ||| b := by rw [Nat.or_assoc, Nat.or_self]
theorem n_sw {k u v : Nat} (hk : k < 4096) (hu : u < 3) (hv : v < 3) : ((nI k &&& (((jshl 15 (4 * nI u)) ||| (jshl 15 (4 * nI v))) ^^^ (-1))) ||| (jshl (nI (ex k v)) (4 * nI u))) ||| (jshl (nI (ex k u)) (4 * nI v)) = nI (sw u v k) := by
  have l0 := ex_lt k 0
  have l1 := ex_lt k 1
  have l2 := ex_lt k 2
  rw [n_shl16 (ex_lt k v) hu, n_shl16 (ex_lt k u) hv]
  have e : u = 0 ∨ u = 1 ∨ u = 2 := by omega
  have e' : v = 0 ∨ v = 1 ∨ v = 2 := by omega
  have m0 : nI k &&& nI 4294967280 = _ := n_mask (c0 := 0) (c1 := 1) (c2 := 1) hk (Or.inl rfl) (Or.inr rfl) (by decide) (by decide) (by decide)
  have m1 : nI k &&& nI 4294967055 = _ := n_mask (c0 := 1) (c1 := 0) (c2 := 1) hk (Or.inr rfl) (Or.inl rfl) (by decide) (by decide) (by decide)
  have m2 : nI k &&& nI 4294963455 = _ := n_mask (c0 := 1) (c1 := 1) (c2 := 0) hk (Or.inr rfl) (Or.inr rfl) (by decide) (by decide) (by decide)
  have m01 : nI k &&& nI 4294967040 = _ := n_mask (c0 := 0) (c1 := 0) (c2 := 1) hk (Or.inl rfl) (Or.inl rfl) (by decide) (by decide) (by decide)
  have m12 : nI k &&& nI 4294963215 = _ := n_mask (c0 := 1) (c1 := 0) (c2 := 0) hk (Or.inr rfl) (Or.inl rfl) (by decide) (by decide) (by decide)
  have m02 : nI k &&& nI 4294963440 = _ := n_mask (c0 := 0) (c1 := 1) (c2 := 0) hk (Or.inl rfl) (Or.inr rfl) (by decide) (by decide) (by decide)
  rw [Nat.zero_mul, Nat.one_mul, Nat.one_mul] at m0 m1 m2
  rw [Nat.one_mul, Nat.zero_mul, Nat.zero_mul] at m01 m12 m02
  rcases e with e | e | e <;> rcases e' with e' | e' | e' <;> subst e e'
  · rw [show ((jshl 15 (4 * nI 0)) ||| (jshl 15 (4 * nI 0))) ^^^ (-1) = nI 4294967280 from rfl, m0, n_or, n_or, or_e, Nat.pow_zero, Nat.mul_one, or_d0 l0 l1]; rfl
  · rw [show ((jshl 15 (4 * nI 0)) ||| (jshl 15 (4 * nI 1))) ^^^ (-1) = nI 4294967040 from rfl, m01, n_or, n_or, Nat.pow_zero, Nat.mul_one, Nat.pow_one, or_d0 l1 (by omega), or_d1 l1 l0]; rfl
  · rw [show ((jshl 15 (4 * nI 0)) ||| (jshl 15 (4 * nI 2))) ^^^ (-1) = nI 4294963440 from rfl, m02, n_or, n_or, Nat.pow_zero, Nat.mul_one, show (16 : Nat) ^ 2 = 256 from rfl, or_d0 l2 l1, or_d2 l2 l1]; rfl
  · rw [show ((jshl 15 (4 * nI 1)) ||| (jshl 15 (4 * nI 0))) ^^^ (-1) = nI 4294967040 from rfl, m01, n_or, n_or, Nat.pow_zero, Nat.mul_one, Nat.pow_one, or_d1 (by omega) l0, or_d0 l1 l0]; rfl
  · rw [show ((jshl 15 (4 * nI 1)) ||| (jshl 15 (4 * nI 1))) ^^^ (-1) = nI 4294967055 from rfl, m1, n_or, n_or, or_e, Nat.pow_one, or_d1 l0 l1]; rfl
  · rw [show ((jshl 15 (4 * nI 1)) ||| (jshl 15 (4 * nI 2))) ^^^ (-1) = nI 4294963215 from rfl, m12, n_or, n_or, Nat.pow_one, show (16 : Nat) ^ 2 = 256 from rfl, or_d1 l0 l2, or_d2 l0 l2]; rfl
  · rw [show ((jshl 15 (4 * nI 2)) ||| (jshl 15 (4 * nI 0))) ^^^ (-1) = nI 4294963440 from rfl, m02, n_or, n_or, Nat.pow_zero, Nat.mul_one, show (16 : Nat) ^ 2 = 256 from rfl, or_d2 (by omega) l1, or_d0 l2 l1]; rfl
  · rw [show ((jshl 15 (4 * nI 2)) ||| (jshl 15 (4 * nI 1))) ^^^ (-1) = nI 4294963215 from rfl, m12, n_or, n_or, Nat.pow_one, show (16 : Nat) ^ 2 = 256 from rfl, or_d2 (y := 0) l0 (by omega), or_d1 l0 l2]; rfl
  · rw [show ((jshl 15 (4 * nI 2)) ||| (jshl 15 (4 * nI 2))) ^^^ (-1) = nI 4294963455 from rfl, m2, n_or, n_or, or_e, show (16 : Nat) ^ 2 = 256 from rfl, or_d2 l0 l1]; rfl
theorem xs_swap50 {A : AB} {K : XK} {T : XT} {r u c k Z Y : Nat} {post : Int32 → XT → XK → Prop} (h : rx (aS A 0 (-1)) K T) (hw : wf A) (ht : aN A 0 = 1) (hr : r < 8) (hu : u < 3) (hc : c < 3) (hk : k < 8) (hZ : kc K + 4 ≤ Z) (hY : ks K + 8203 ≤ Y) (fin : lydx A k (fun m => aR A r (sw u c m)) True Z Y post) : wx1_swap_j50 (nI r) (nI u) (nI c) (nI k) Z Y post K T := by
  have hp := (hw.2.2.2.2 ht).1
  have h2 := hp.1
  have h97 := hp.2.1
  have hzz := h.1.2.1
  unfold wx1_swap_j50
  refine xs_blank (rx_l2 h) (fun T1 f1 b1 => ?_)
  have r1 := rx_keep h (xf_sc (by unfold xsc; omega) f1) (kx_rfl _)
  obtain ⟨gg, q1, q2, q3⟩ := rx_reg2 r1
  obtain ⟨v, v1, v2⟩ := q3 r hr
  refine ⟨gg, q1, r, by omega, rfl, v, v1, ?_⟩
  obtain ⟨va, vb, n, a, u1, u2, u3, u4, u5, u6, u7, u8, u9, u10, u11⟩ := v2
  have hn : n ≤ 4096 := by rw [isr_cn u6]; exact cn_le _ _
  have hsw : ∀ m, sw u c m < 4096 := fun m => (sw_ex 0 (by omega)).1
  unfold wx1_swap_l67
  refine wl_up n (fun i w => w.1 = nI i ∧ xf (fun k => k = 2) T1 w.2 ∧ (∀ m, m < 4096 → (∃ i', i' < i ∧ a i' = sw u c m) → xi w.2 2 m = nI (aR A r (sw u c m))) ∧ ∀ m, m < 4096 → ¬ (∃ i', i' < i ∧ a i' = sw u c m) → xi w.2 2 m = nI 0) 0 (by omega) ⟨rfl, xf_rfl _ _, fun m _ ⟨i', w, _⟩ => absurd w (by omega), fun m hm _ => b1 m hm⟩ ?_
  rintro i ⟨x7, T2⟩ hi ⟨hx7, f2, d1, d0⟩ R hR
  dsimp only at hx7 f2 d1 d0
  subst hx7
  have kv := f2 v (by omega)
  have kva := f2 va (by omega)
  have kvb := f2 vb (by omega)
  have r2 := rx_keep r1 (xf_sc (by unfold xsc; omega) f2) (kx_rfl _)
  unfold wx1_swap_b67
  dsimp only
  rw [kv.1, kv.2, u3, nI_leI (by omega) (by omega)]
  refine ⟨fun cc => ?_, fun cc => ⟨va, u1, i, by omega, rfl, ?_⟩⟩
  · refine xs_srlay (w := fun m => aR A r (sw u c m)) r2 hw ht hk (fun m hm => ?_) (fun m _ => u8 _ (hsw m)) hZ hY fin
    by_cases q : ∃ i', i' < i ∧ a i' = sw u c m
    · exact d1 m hm q
    · rw [d0 m hm q]
      congr 1
      refine (Classical.byContradiction fun y => ?_ : aR A r (sw u c m) = 0).symm
      obtain ⟨i', z1, z2⟩ := u6.2.2 _ (hsw m) y
      exact q ⟨i', by omega, z2⟩
  · obtain ⟨e1, e2⟩ := u7 i (by omega)
    have a4 := (u6.1 i (by omega)).1
    rw [kva.1, e1]
    refine xs_exponent (by omega) (by omega) ⟨va, u1, i, by omega, rfl, ?_⟩
    rw [kva.1, e1]
    refine xs_exponent (by omega) (by omega) ⟨va, u1, i, by omega, rfl, fun x10 e10 => ⟨vb, u2, i, by omega, rfl, sw u c (a i), by rw [rx_l2 h]; exact hsw _, ?_, fun T3 e3 x7 ex7 => ?_⟩⟩
    · rw [e10, kva.1, e1]; exact n_sw a4 hu hc
    · rw [kvb.1, e2] at e3
      rw [ex7, li_1, nI_add]
      refine hR (by omega) _ ⟨rfl, by show xf _ T1 T3; rw [e3]; exact xf_tr f2 (xf_wi rfl), fun m hm z => ?_, fun m hm z => ?_⟩
      · show xi T3 2 m = _
        rw [e3, xi_wi]
        by_cases q : m = sw u c (a i)
        · rw [if_pos ⟨rfl, q⟩, q, sw_sw hu hc a4]
        · rw [if_neg (fun z => q z.2)]
          obtain ⟨i', z1, z2⟩ := z
          refine d1 m hm ⟨i', ?_, z2⟩
          by_cases y : i' = i
          · refine absurd ?_ q
            rw [← y, z2, sw_sw hu hc hm]
          · omega
      · show xi T3 2 m = _
        rw [e3, xi_wi, if_neg]
        · exact d0 m hm (fun ⟨i', y1, y2⟩ => z ⟨i', by omega, y2⟩)
        · intro q
          exact z ⟨i, by omega, by rw [q.2, sw_sw hu hc a4]⟩
theorem xc_swap {A : AB} {K : XK} {T : XT} {x y v z : Int32} {Z Y : Nat} {post : Int32 → XT → XK → Prop} (h : rx A K T) (hw : wf A) (hZ : kc K + 10 ≤ Z) (hY : ks K + 9000 ≤ Y) (h0 : ¬ (aN A 0 = 1 ∧ inr x 7 ∧ inr y 2 ∧ inr v 2 ∧ inr z 7) → pst (aS A 1 (-1)) (-1) Z Y post)
    (h1 : aN A 0 = 1 → ∀ r u c k, r < 8 → u < 3 → c < 3 → k < 8 → x = nI r → y = nI u → v = nI c → z = nI k → lydx A k (fun m => aR A r (sw u c m)) True Z Y post) : wx1_swap x y v z K T Z Y post := by
  unfold wx1_swap
  refine xv2 (by omega) (by omega) (fun K1 T1 f1 k1 l1 a1 c1 s1 z1 => ?_)
  have g1 := rx_keep h f1 k1
  refine xs_is' l1 (by omega) a1 (fun rr hrr => ?_)
  rw [all2] at hrr
  refine ⟨fun e => xh_bad g1 hw (fun T2 r2 => b11 rfl (pst_u (h0 fun w => hrr.2 ⟨w.2.1, w.2.2.2.2⟩ e) r2)), fun e => ?_⟩
  refine xs_isUnknown (fun q => b01 rfl (xh_bad g1 hw (fun T2 r2 => b11 rfl (pst_u (h0 fun w => q w.2.2.1) r2)))) (fun u hu eu => b11 rfl ?_)
  refine xs_isUnknown (fun q => b01 rfl (xh_bad g1 hw (fun T2 r2 => b11 rfl (pst_u (h0 fun w => q w.2.2.2.1) r2)))) (fun c hc ec => b11 rfl (xh_ok g1 hw (fun q T2 r2 => b11 rfl (pst_u (h0 fun w => q w.1) r2)) (fun ht T2 f2 r2 => b01 rfl ?_)))
  obtain ⟨⟨r, hr, er⟩, k, hk, ek⟩ := hrr.1 e
  have fin := h1 ht r u c k (by omega) hu hc (by omega) er eu ec ek
  subst er eu ec ek
  exact xs_swap50 r2 hw ht (by omega) hu hc (by omega) (by omega) (by omega) fin
