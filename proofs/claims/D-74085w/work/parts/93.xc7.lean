set_option maxRecDepth 100000
theorem rx_2z {A : AB} {K : XK} {T : XT} (h : rx A K T) : 2 < kz K := by
  have := h.1.2.1
  omega
/-- the table in the scratch is sorted and laid -/
theorem xs_srlay {A : AB} {K : XK} {T : XT} {k Z Y : Nat} {w : Nat → Nat} {post : Int32 → XT → XK → Prop} (h : rx (aS A 0 (-1)) K T) (hw : wf A) (ht : aN A 0 = 1) (hk : k < 8) (hv : ∀ m, m < 4096 → xi T 2 m = nI (w m)) (hwp : ∀ m, m < 4096 → w m < aN A 1) (hZ : kc K + 4 ≤ Z) (hY : ks K + 8203 ≤ Y) (fin : lydx A k w True Z Y post) : ∃ Z_5 Y_6 : Nat, kc K ≤ Z_5 ∧ Z_5 ≤ Z ∧ ks K ≤ Y_6 ∧ Y_6 ≤ Y ∧ wx1_sorted 2 K T Z_5 Y_6 (fun r_2 T_3 K_4 => ∃ Z_10 Y_11 : Nat, kc K_4 ≤ Z_10 ∧ Z_10 ≤ Z ∧ ks K_4 ≤ Y_11 ∧ Y_11 ≤ Y ∧ wx1_lays (some r_2) (nI k) K_4 T_3 Z_10 Y_11 (fun r_7 T_8 K_9 => post r_7 T_8 (kset K_9 Z Y))) := by
  have hW := hw.2.2.2.2 ht
  have hp97 := hW.1.2.1
  obtain ⟨k1, k2, k3, k4, ⟨oq, o1, o2, o3, o4⟩, _⟩ := h.2.2.2.2.2.2.2.2.1 ht
  have hcn := cn_le w 4096
  refine ⟨kc K + 3, ks K + 8195, by omega, by omega, by omega, by omega, xs_sorted hW.2.1 (p := aN A 1) (by omega) o1 o2 o4 h.1.2.1 (rx_2z h) (rx_l2 h) hv hwp (Nat.le_refl _) (by omega) (fun T1 K1 f1 x1 z1 c1 s1 p1 => ⟨kc K1 + 1, ks K1 + 8, by omega, by omega, by omega, by omega, ?_⟩)⟩
  have hzz := h.1.2.1
  exact xs_lays (rx_keep h (xf_mono f1 (fun k hk => by unfold xsc; omega)) x1) hw ht hk (P := True) (Or.inr ⟨_, rfl, trivial, p1⟩) (Nat.le_refl _) (Nat.le_refl _) (lydx_k fin)
theorem xs_derive42 {A : AB} {K : XK} {T : XT} {r u k Z Y : Nat} {post : Int32 → XT → XK → Prop} (h : rx (aS A 0 (-1)) K T) (hw : wf A) (ht : aN A 0 = 1) (hr : r < 8) (hu : u < 3) (hk : k < 8) (hZ : kc K + 4 ≤ Z) (hY : ks K + 8203 ≤ Y) (fin : lydx A k (dr (aN A 1) (aR A r) u) True Z Y post) : wx1_derive_j42 (nI r) (nI u) (nI k) Z Y post K T := by
  have hp := (hw.2.2.2.2 ht).1
  have h2 := hp.1
  have h97 := hp.2.1
  have hzz := h.1.2.1
  unfold wx1_derive_j42
  refine xs_blank (rx_l2 h) (fun T1 f1 b1 => ?_)
  have r1 := rx_keep h (xf_sc (by unfold xsc; omega) f1) (kx_rfl _)
  obtain ⟨gg, q1, q2, q3⟩ := rx_reg2 r1
  obtain ⟨v, v1, v2⟩ := q3 r hr
  refine ⟨gg, q1, r, by omega, rfl, v, v1, ?_⟩
  obtain ⟨va, vb, n, a, u1, u2, u3, u4, u5, u6, u7, u8, u9, u10, u11⟩ := v2
  have hn : n ≤ 4096 := by rw [isr_cn u6]; exact cn_le _ _
  have hdr : ∀ m, dr (aN A 1) (aR A r) u m < aN A 1 := fun m => by
    unfold dr
    split
    · exact Nat.mod_lt _ (by omega)
    · omega
  unfold wx1_derive_l59
  refine wl_up n (fun i w => w.1 = nI i ∧ xf (fun k => k = 2) T1 w.2 ∧ (∀ m, m < 4096 → (∃ i', i' < i ∧ a i' = m + 16 ^ u ∧ 0 < ex (a i') u) → xi w.2 2 m = nI (dr (aN A 1) (aR A r) u m)) ∧ ∀ m, m < 4096 → ¬ (∃ i', i' < i ∧ a i' = m + 16 ^ u ∧ 0 < ex (a i') u) → xi w.2 2 m = nI 0) 0 (by omega) ⟨rfl, xf_rfl _ _, fun m _ ⟨i', w, _⟩ => absurd w (by omega), fun m hm _ => b1 m hm⟩ ?_
  rintro i ⟨x6, T2⟩ hi ⟨hx6, f2, d1, d0⟩ R hR
  dsimp only at hx6 f2 d1 d0
  subst hx6
  have kv := f2 v (by omega)
  have kva := f2 va (by omega)
  have kvb := f2 vb (by omega)
  have k0 := f2 0 (by omega)
  have r2 := rx_keep r1 (xf_sc (by unfold xsc; omega) f2) (kx_rfl _)
  have hp0 : xi T2 0 0 = nI (aN A 1) := rx_p (A := aS A 0 (-1)) r2 ht
  unfold wx1_derive_b59 wx1_derive_j127
  dsimp only
  rw [kv.1, kv.2, u3, nI_leI (by omega) (by omega)]
  refine ⟨fun c => ?_, fun c => ⟨va, u1, i, by omega, rfl, ?_⟩⟩
  · refine xs_srlay (w := dr (aN A 1) (aR A r) u) r2 hw ht hk (fun m hm => ?_) (fun m _ => hdr m) hZ hY fin
    by_cases q : ∃ i', i' < i ∧ a i' = m + 16 ^ u ∧ 0 < ex (a i') u
    · exact d1 m hm q
    · rw [d0 m hm q]
      congr 1
      unfold dr
      split
      · rename_i w
        obtain ⟨y1, y2, _⟩ := ex_up hm hu w
        have : aR A r (m + 16 ^ u) = 0 := Classical.byContradiction fun y => by
          obtain ⟨i', z1, z2⟩ := u6.2.2 _ y1 y
          exact q ⟨i', by omega, z2, by rw [z2]; omega⟩
        rw [this, Nat.zero_mul, Nat.zero_mod]
      · rfl
  · obtain ⟨e1, e2⟩ := u7 i (by omega)
    have a4 := (u6.1 i (by omega)).1
    have hlt := ex_lt (a i) u
    rw [kva.1, e1]
    refine xs_exponent (by omega) (by omega) ?_
    rw [li_0, nI_leI (by omega) (by omega)]
    have grow : ∀ m, (∃ i', i' < i + 1 ∧ a i' = m + 16 ^ u ∧ 0 < ex (a i') u) ↔ ((∃ i', i' < i ∧ a i' = m + 16 ^ u ∧ 0 < ex (a i') u) ∨ (a i = m + 16 ^ u ∧ 0 < ex (a i) u)) := fun m => ⟨fun ⟨i', z1, z2⟩ => by
      by_cases y : i' = i
      · rw [y] at z2; exact Or.inr z2
      · exact Or.inl ⟨i', by omega, z2⟩, fun z => by
      rcases z with ⟨i', z1, z2⟩ | z
      · exact ⟨i', by omega, z2⟩
      · exact ⟨i, by omega, z⟩⟩
    refine ⟨fun d x6 ex6 => ?_, fun d => ⟨va, u1, i, by omega, rfl, vb, u2, i, by omega, rfl, va, u1, i, by omega, rfl, ?_⟩⟩
    · rw [ex6, li_1, nI_add]
      refine hR (by omega) _ ⟨rfl, f2, fun m hm z => ?_, fun m hm z => ?_⟩
      · rcases (grow m).1 z with z | z
        · exact d1 m hm z
        · omega
      · exact d0 m hm (fun y => z ((grow m).2 (Or.inl y)))
    · rw [kva.1, e1]
      refine xs_exponent (by omega) (by omega) ⟨by rw [hp0]; exact n_ne0 hp, ?_⟩
      obtain ⟨y1, y2⟩ := ex_dn a4 hu (by omega)
      have hfa := u8 _ a4
      have hm := mul97 (a := aR A r (a i)) (b := ex (a i) u) (by omega) (by omega)
      rw [li_1, n_shl16 (by omega) hu, Nat.one_mul, kvb.1, e2, hp0, pk_mul, n_rem (by omega) (by omega) (by omega)]
      refine ⟨a i - 16 ^ u, by rw [rx_l2 h]; exact Nat.lt_of_le_of_lt (Nat.sub_le _ _) a4, pk_sub y1, fun T3 e3 x6 ex6 => ?_⟩
      rw [ex6, nI_add]
      refine hR (by omega) _ ⟨rfl, by show xf _ T1 T3; rw [e3]; exact xf_tr f2 (xf_wi rfl), fun m hm z => ?_, fun m hm z => ?_⟩
      · show xi T3 2 m = _
        rw [e3, xi_wi]
        by_cases q : m = a i - 16 ^ u
        · rw [if_pos ⟨rfl, q⟩]
          unfold dr
          rw [q, y2, if_pos (by omega), show a i - 16 ^ u + 16 ^ u = a i by omega, show ex (a i) u - 1 + 1 = ex (a i) u by omega]
        · rw [if_neg (fun z => q z.2)]
          rcases (grow m).1 z with z | z
          · exact d1 m hm z
          · omega
      · show xi T3 2 m = _
        rw [e3, xi_wi, if_neg]
        · exact d0 m hm (fun y => z ((grow m).2 (Or.inl y)))
        · intro q
          exact z ((grow m).2 (Or.inr ⟨by omega, by omega⟩))
theorem xc_derive {A : AB} {K : XK} {T : XT} {x y z : Int32} {Z Y : Nat} {post : Int32 → XT → XK → Prop} (h : rx A K T) (hw : wf A) (hZ : kc K + 10 ≤ Z) (hY : ks K + 9000 ≤ Y) (h0 : ¬ (aN A 0 = 1 ∧ inr x 7 ∧ inr y 2 ∧ inr z 7) → pst (aS A 1 (-1)) (-1) Z Y post)
    (h1 : aN A 0 = 1 → ∀ r u k, r < 8 → u < 3 → k < 8 → x = nI r → y = nI u → z = nI k → lydx A k (dr (aN A 1) (aR A r) u) True Z Y post) : wx1_derive x y z K T Z Y post := by
  unfold wx1_derive
  refine xv2 (by omega) (by omega) (fun K1 T1 f1 k1 l1 a1 c1 s1 z1 => ?_)
  have g1 := rx_keep h f1 k1
  refine xs_is' l1 (by omega) a1 (fun rr hrr => ?_)
  rw [all2] at hrr
  refine ⟨fun e => xh_bad g1 hw (fun T2 r2 => b11 rfl (pst_u (h0 fun w => hrr.2 ⟨w.2.1, w.2.2.2⟩ e) r2)), fun e => ?_⟩
  refine xs_isUnknown (fun q => b01 rfl (xh_bad g1 hw (fun T2 r2 => b11 rfl (pst_u (h0 fun w => q w.2.2.1) r2)))) (fun u hu eu => b11 rfl (xh_ok g1 hw (fun q T2 r2 => b11 rfl (pst_u (h0 fun w => q w.1) r2)) (fun ht T2 f2 r2 => b01 rfl ?_)))
  obtain ⟨⟨r, hr, er⟩, k, hk, ek⟩ := hrr.1 e
  have fin := h1 ht r u k (by omega) hu (by omega) er eu ek
  subst er eu ek
  exact xs_derive42 r2 hw ht (by omega) hu (by omega) (by omega) (by omega) fin
