set_option maxRecDepth 100000
theorem xc_constant {A : AB} {K : XK} {T : XT} {x : Int32} {post : Int32 → Prop} {xpost : Prop} (h : rx A K T) (hw : wf A) (h0 : (¬ aN A 0 = 1 ∨ ∀ r, r < 8 → ¬ (isC A r ∧ x = nI (nC A r))) → xpost) (h1 : aN A 0 = 1 → ∀ r, r < 8 → isC A r → x = nI (nC A r) → (∀ q, q < r → ¬ (isC A q ∧ x = nI (nC A q))) → post (nI r)) : wx1_constant x K T post xpost := by
  have hlt := hw.1
  have h21 : xi T 0 21 = nI (aN A 0) := h.2.2.2.2.1
  obtain ⟨g, q1, q2, q3⟩ := rx_reg h
  unfold wx1_constant wx1_constant_l4
  refine wl_up 8 (fun i v => v = (nI (nC A i), nI i) ∧ nC A i ≤ i ∧ ∀ q, q < i → ¬ (isC A q ∧ x = nI (nC A q))) 0 (by omega) ⟨rfl, Nat.le_refl _, fun q hq => absurd hq (by omega)⟩ ?_
  rintro i v hi ⟨rfl, hc, hno⟩ R hR
  unfold wx1_constant_b4 wx1_constant_j63 wx1_constant_j57
  dsimp only
  rw [h21, li_0, nI_eq (by omega) (by omega), ← li_0, li_8, nI_leI (by omega) (by omega)]
  refine ⟨fun c => h0 (Or.inl (by omega)), fun c => ⟨fun c2 => h0 (Or.inr fun r hr => hno r (by omega)), fun c2 => ?_⟩⟩
  have ht : aN A 0 = 1 := by omega
  have hcn := cn_le (aR A i) 4096
  have step : ∀ n, n = nC A (i + 1) → ¬ (isC A i ∧ x = nI (nC A i)) → ∀ x3, x3 = nI i + 1 → R (nI n, x3) := fun n en hn x3 e3 => by
    subst en e3
    refine hR (by omega) _ ⟨by rw [li_1, nI_add], ?_, fun q hq => ?_⟩
    · by_cases q : isC A i
      · rw [← nC_1 q]; omega
      · rw [← nC_0 q]; omega
    · by_cases e : q = i
      · rw [e]; exact hn
      · exact hno q (by omega)
  obtain ⟨v, v1, v2⟩ := q3 i (by omega)
  have hn := ply_n v2
  obtain ⟨va, vb, n, a, u1, u2, u3, u4, u5, u6, u7, u8, u9, u10, u11⟩ := v2
  have en : n = cn (aR A i) 4096 := isr_cn u6
  refine ⟨g, q1, i, by omega, rfl, v, v1, ?_⟩
  rw [hn, li_1, nI_eq (by omega) (by omega), ← li_1]
  refine ⟨fun q => step _ (nC_0 fun w => q w.1) (fun w => q w.1.1), fun q => ⟨g, q1, i, by omega, rfl, v, v1, va, u1, 0, by omega, rfl, ?_⟩⟩
  obtain ⟨y1, y2⟩ := u6.1 0 (by omega)
  have hkey : a 0 = 0 ↔ aR A i 0 ≠ 0 := ⟨fun e => by rw [e] at y2; exact y2, fun e => by
    obtain ⟨l, hl, el⟩ := u6.2.2 0 (by omega) e
    have l0 : l = 0 := by omega
    rw [l0] at el; exact el⟩
  rw [(u7 0 (by omega)).1, li_0, nI_eq (by omega) (by omega)]
  refine ⟨fun q2 => ⟨fun q3 x2 e2 => ?_, fun q3 => h1 ht i (by omega) ⟨q, hkey.1 q2⟩ q3.symm hno⟩, fun q2 => step _ (nC_0 fun w => q2 (hkey.2 w.2)) (fun w => q2 (hkey.2 w.1.2))⟩
  rw [li_1, nI_add] at e2
  subst e2
  exact step _ (nC_1 ⟨q, hkey.1 q2⟩) (fun w => q3 w.2.symm)
theorem xs_layInverses {p : Nat} {K : XK} {T : XT} {post : XT → Prop} (hp : pr p) (h00 : xi T 0 0 = nI p) (hq : ∀ T', xf (fun k => k = 1) T T' → xr T' 1 = xr T 1 → (∀ a, 0 < a → a < p → xi T' 1 a = nI (iv p a)) → post T') : wx1_layInverses K T post := by
  have hp2 := hp.1
  have hp97 := hp.2.1
  unfold wx1_layInverses wx1_layInverses_l2
  refine wl_up p (fun i w => w.1 = nI i ∧ 0 < i ∧ xf (fun k => k = 1) T w.2 ∧ xr w.2 1 = xr T 1 ∧ ∀ a, 0 < a → a < i → xi w.2 1 a = nI (iv p a)) 1 (by omega) ⟨rfl, by omega, xf_rfl _ _, rfl, fun a _ hb => absurd hb (by omega)⟩ ?_
  rintro i ⟨x1, T1⟩ hi ⟨hx1, hi0, f1, r1, g1⟩ R hR
  dsimp only at hx1 f1 r1 g1
  subst hx1
  have k0 := (f1 0 (by omega)).1
  unfold wx1_layInverses_b2
  dsimp only
  rw [k0, h00, nI_leI (by omega) (by omega)]
  refine ⟨fun c => hq T1 f1 r1 (fun a ha hb => g1 a ha (by omega)), fun c => ?_⟩
  obtain ⟨v1, v2, v3⟩ := iv_ok hp hi0 (show i < p by omega)
  unfold wx1_layInverses_l12
  refine wl_up p (fun j w => w.1 = nI j ∧ 0 < j ∧ xf (fun k => k = 1) T w.2 ∧ xr w.2 1 = xr T 1 ∧ (∀ a, 0 < a → a < i → xi w.2 1 a = nI (iv p a)) ∧ (iv p i < j → xi w.2 1 i = nI (iv p i))) 1 (by omega) ⟨rfl, by omega, f1, r1, g1, fun z => absurd z (by omega)⟩ ?_
  rintro j ⟨x2, T2⟩ hj ⟨hx2, hj0, f2, r2, g2, l2⟩ R2 hR2
  dsimp only at hx2 f2 r2 g2 l2
  subst hx2
  have k2 := (f2 0 (by omega)).1
  unfold wx1_layInverses_b12 wx1_layInverses_j39
  dsimp only
  rw [k2, h00, nI_leI (by omega) (by omega)]
  refine ⟨fun c2 x1 e1 => ?_, fun c2 => ⟨n_ne0 hp, ?_⟩⟩
  · rw [e1, li_1, nI_add]
    refine hR (by omega) _ ⟨rfl, by omega, f2, r2, fun a ha hb => ?_⟩
    by_cases e : a = i
    · rw [e]; exact l2 (by omega)
    · exact g2 a ha (by omega)
  · have hm := mul97 (a := i) (b := j) (by omega) (by omega)
    have hml := Nat.mod_lt (i * j) (show 0 < p by omega)
    rw [pk_mul, n_rem (by omega) (by omega) (by omega), li_1, nI_eq (by omega) (by omega)]
    refine ⟨fun c3 x2 e2 => ?_, fun c3 => ⟨i, by omega, rfl, fun T3 e3 x2 e2 => ?_⟩⟩
    · rw [e2, nI_add]
      refine hR2 (by omega) _ ⟨rfl, by omega, f2, r2, g2, fun z => ?_⟩
      by_cases e : iv p i = j
      · rw [e, Nat.mul_comm] at v1; exact absurd v1 c3
      · exact l2 (by omega)
    · have ej : iv p i = j := (iv_uni hp hi0 (by omega) (by omega) (by rw [Nat.mul_comm]; exact c3)).symm
      rw [e2, nI_add]
      refine hR2 (by omega) _ ⟨rfl, by omega, by show xf _ T T3; rw [e3]; exact xf_tr f2 (xf_wi rfl), by show xr T3 1 = _; rw [e3]; exact r2, fun a ha hb => ?_, fun _ => ?_⟩
      · show xi T3 1 a = _
        rw [e3, xi_wi, if_neg (by omega)]; exact g2 a ha hb
      · show xi T3 1 i = _
        rw [e3, xi_wi, if_pos ⟨rfl, rfl⟩, ej]
