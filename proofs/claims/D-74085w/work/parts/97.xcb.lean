set_option maxRecDepth 100000
/-! another order -/
def rgo (o : Nat → Nat → Nat) (p : Nat) (K : XK) (T : XT) (g : Nat) (reg : Nat → Nat → Nat) : Prop := kl K g = 8 ∧ (g = 87 ∨ 90 ≤ g) ∧ g < kz K ∧ ∀ r, r < 8 → ∃ v, xr T g r = some v ∧ ply (o r) p K T v (reg r)
/-- as rx, but each register has an order of its own -/
def rxo (A : AB) (o : Nat → Nat → Nat) (K : XK) (T : XT) : Prop := rxC K T ∧ xi T 0 23 = aZ A 0 ∧ xi T 0 24 = aZ A 1 ∧ (aZ A 0 = 4 → xi T 0 25 = aZ A 2) ∧ xi T 0 21 = nI (aN A 0) ∧ xi T 0 16 = nI (aN A 6) ∧ xi T 0 22 = nI (aN A 5) ∧ (∀ j, j < 700 → xi T 79 j = aT A j) ∧ (aN A 0 = 1 → rxT A K T) ∧ ∃ (g : Nat) (ga : Nat → Nat), xr T 0 18 = some g ∧ rgo o (aN A 1) K T g (aR A) ∧ rxP A K T g ga
theorem rgo_keep {o : Nat → Nat → Nat} {p : Nat} {K K' : XK} {T T' : XT} {g : Nat} {reg : Nat → Nat → Nat} {P : Nat → Prop} (h : rgo o p K T g reg) (hT : xf P T T') (hK : kx K K') (hP : ∀ k, 90 ≤ k → k < kz K → ¬ P k) (h87 : ¬ P 87) : rgo o p K' T' g reg := by
  obtain ⟨h1, h2, h3, h4⟩ := h
  have hg : ¬ P g := by
    rcases h2 with e | e
    · rw [e]; exact h87
    · exact hP g e h3
  refine ⟨by rw [hK.2 g h3]; exact h1, h2, Nat.lt_of_lt_of_le h3 hK.1, fun r hr => ?_⟩
  obtain ⟨v, h5, h6⟩ := h4 r hr
  exact ⟨v, by rw [(hT g hg).2]; exact h5, ply_keep h6 hT hK hP⟩
theorem rxo_keep {A : AB} {o : Nat → Nat → Nat} {K K' : XK} {T T' : XT} (h : rxo A o K T) (hT : xf (xsc K) T T') (hK : kx K K') : rxo A o K' T' := by
  obtain ⟨q1, q2, q3, q4, q5, q6, q7, q8, q9, g, ga, q10, q11, q12⟩ := h
  have hz := q1.2.1
  have no : ∀ k, ¬ (2 ≤ k ∧ k ≤ 5) → ¬ (8 ≤ k ∧ k ≤ 40) → ¬ (42 ≤ k ∧ k ≤ 57) → ¬ (59 ≤ k ∧ k ≤ 77) → ¬ (80 ≤ k ∧ k ≤ 86) → k < kz K → ¬ xsc K k := fun k a b c d e f => by unfold xsc; omega
  have hP : ∀ k, 90 ≤ k → k < kz K → ¬ xsc K k := fun k a b => by unfold xsc; omega
  have e0 := hT 0 (no 0 (by omega) (by omega) (by omega) (by omega) (by omega) (by omega))
  refine ⟨rxC_keep q1 hT hK (no 0 (by omega) (by omega) (by omega) (by omega) (by omega) (by omega)) (no 6 (by omega) (by omega) (by omega) (by omega) (by omega) (by omega)) (no 7 (by omega) (by omega) (by omega) (by omega) (by omega) (by omega)) (no 41 (by omega) (by omega) (by omega) (by omega) (by omega) (by omega)) (no 58 (by omega) (by omega) (by omega) (by omega) (by omega) (by omega)) (no 78 (by omega) (by omega) (by omega) (by omega) (by omega) (by omega)), by rw [e0.1]; exact q2, by rw [e0.1]; exact q3, fun z => by rw [e0.1]; exact q4 z, by rw [e0.1]; exact q5, by rw [e0.1]; exact q6, by rw [e0.1]; exact q7, fun j hj => ?_, fun ht => ?_, g, ga, by rw [e0.2]; exact q10, ?_, ?_⟩
  · rw [(hT 79 (no 79 (by omega) (by omega) (by omega) (by omega) (by omega) (by omega))).1]; exact q8 j hj
  · exact rxT_keep (q9 ht) hT hK hP (no 0 (by omega) (by omega) (by omega) (by omega) (by omega) (by omega)) (no 1 (by omega) (by omega) (by omega) (by omega) (by omega) (by omega))
  · exact rgo_keep q11 hT hK hP (no 87 (by omega) (by omega) (by omega) (by omega) (by omega) (by omega))
  · exact rxP_keep q12 hT hK hP (no 87 (by omega) (by omega) (by omega) (by omega) (by omega) (by omega)) (no 88 (by omega) (by omega) (by omega) (by omega) (by omega) (by omega)) (no 89 (by omega) (by omega) (by omega) (by omega) (by omega) (by omega))
/-- a register is written with the same table in another order -/
theorem rxo_G {A : AB} {o o' : Nat → Nat → Nat} {K : XK} {T : XT} {g k v : Nat} (h : rxo A o K T) (hg : xr T 0 18 = some g) (hk : k < 8) (hv : ply (o' k) (aN A 1) K T v (aR A k)) (ho : ∀ r, r ≠ k → o' r = o r) : rxo A o' K (xwr T g k (some v)) := by
  obtain ⟨q1, q2, q3, q4, q5, q6, q7, q8, q9, g', ga, q10, q11, q12⟩ := h
  have eg : g' = g := by
    rw [hg] at q10
    injection q10 with q10
    exact q10.symm
  subst eg
  have hkl := q11.1
  have hgg := q11.2.1
  have hgz := q11.2.2.1
  have hz := q1.2.1
  have hr : ∀ c, c ≠ g' → xr (xwr T g' k (some v)) c = xr T c := fun c hc => (xf_wr (P := fun c => c = g') rfl c hc).2
  have hi : xi (xwr T g' k (some v)) = xi T := rfl
  refine ⟨?_, q2, q3, q4, q5, q6, q7, q8, fun ht => ?_, g', ga, by rw [hr 0 (by omega)]; exact q10, ⟨hkl, hgg, hgz, fun r hr' => ?_⟩, fun j hj => ?_, q12.2⟩
  · obtain ⟨w1, w2, w3, w4, w5, w6, w7⟩ := q1
    exact ⟨w1, w2, by rw [hr 0 (by omega)]; exact w3, fun i hi' => by rw [hr 41 (by omega), hr 58 (by omega)]; exact w4 i hi', by rw [hr 6 (by omega)]; exact w5, fun d hd => by rw [hr 7 (by omega)]; exact w6 d hd, w7⟩
  · obtain ⟨w1, w2, w3, w4, ⟨q, w5, w6, w7, w8⟩, w9⟩ := q9 ht
    exact ⟨w1, w2, w3, w4, ⟨q, by rw [hr 0 (by omega)]; exact w5, w6, w7, w8⟩, w9⟩
  · rw [xr_wr]
    by_cases e : r = k
    · rw [if_pos ⟨rfl, e⟩, e]
      exact ⟨v, rfl, ply_wr hv (ply_ne hv hkl) hi hr⟩
    · rw [if_neg (fun z => e z.2), ho r e]
      obtain ⟨v', h1, h2⟩ := q11.2.2.2 r hr'
      exact ⟨v', h1, ply_wr h2 (ply_ne h2 hkl) hi hr⟩
  · obtain ⟨w1, w2, w3, w4, w5⟩ := q12.1 j hj
    refine ⟨by rw [hr 88 (by omega)]; exact w1, w2, w3, ⟨w4.1, w4.2.1, w4.2.2.1, fun r hr' => ?_⟩, w5⟩
    obtain ⟨v', h1, h2⟩ := w4.2.2.2 r hr'
    exact ⟨v', by rw [hr _ w3]; exact h1, ply_wr h2 (ply_ne h2 hkl) hi hr⟩
/-- the order alone is another one -/
theorem rxo_Or {A : AB} {K K' : XK} {T T' : XT} {h a b : Nat} (hx : rx A K T) (ht : aN A 0 = 1) (f5 : xf (fun k => k = 0 ∨ k = kz K) T T') (x5 : kx K K') (z5 : kz K' = kz K + 1) (o5 : orn K' T' (kz K) h a b) (j1 : xi T' 0 1 = nI h) (j2 : xi T' 0 2 = nI a) (j3 : xi T' 0 3 = nI b) (jo : ∀ j, j ≠ 1 → j ≠ 2 → j ≠ 3 → xi T' 0 j = xi T 0 j) (j4 : xr T' 0 4 = some (kz K)) (jr : ∀ j, j ≠ 4 → xr T' 0 j = xr T 0 j) : rxo (aOr A h a b) (fun _ => aOk A) K' T' := by
  obtain ⟨q1, q2, q3, q4, q5, q6, q7, q8, q9, g, ga, q10, q11, q12⟩ := hx
  have hz := q1.2.1
  obtain ⟨w1, w2, w3, w4, _, w6⟩ := q9 ht
  have nP : ∀ k, 90 ≤ k → k < kz K → ¬ (k = 0 ∨ k = kz K) := fun k a b => by omega
  refine ⟨?_, ?_, ?_, fun z => ?_, ?_, ?_, ?_, fun j hj => ?_, fun _ => ?_, g, ga, ?_, rgs_keep q11 f5 x5 nP (by omega), rxP_keep (A := A) q12 f5 x5 nP (by omega) (by omega) (by omega)⟩
  · obtain ⟨y1, y2, y3, y4, y5, y6, y7⟩ := q1
    refine ⟨fun k hk => by rw [x5.2 k (by omega)]; exact y1 k hk, Nat.le_trans y2 x5.1, by rw [jr 9 (by omega), jr 10 (by omega)]; exact y3, fun i hi => by rw [(f5 41 (by omega)).2, (f5 58 (by omega)).2]; exact y4 i hi, by rw [(f5 6 (by omega)).2]; exact y5, fun d hd => by rw [(f5 7 (by omega)).2]; exact y6 d hd, by rw [(f5 78 (by omega)).1]; exact y7⟩
  · rw [jo 23 (by omega) (by omega) (by omega)]; exact q2
  · rw [jo 24 (by omega) (by omega) (by omega)]; exact q3
  · rw [jo 25 (by omega) (by omega) (by omega)]; exact q4 z
  · rw [jo 21 (by omega) (by omega) (by omega)]; exact q5
  · rw [jo 16 (by omega) (by omega) (by omega)]; exact q6
  · rw [jo 22 (by omega) (by omega) (by omega)]; exact q7
  · rw [(f5 79 (by omega)).1]; exact q8 j hj
  · exact ⟨by rw [jo 0 (by omega) (by omega) (by omega)]; exact w1, j1, j2, j3, ⟨kz K, j4, o5, hz, by omega⟩, fun a ha1 ha2 => by rw [(f5 1 (by omega)).1]; exact w6 a ha1 ha2⟩
  · rw [jr 18 (by omega)]; exact q10
theorem xs_order51 {A : AB} {K : XK} {T : XT} {h a b Z Y : Nat} {x4 : Int32} {post : Int32 → XT → XK → Prop} (hx : rx A K T) (hw : wf A) (ht : aN A 0 = 1) (v : vo h a b) (hZ : kc K + 40 ≤ Z) (hY : ks K + 66000 ≤ Y) (fin : pst (aOr (aK A) h a b) (if x4 = 0 then 0 else 1) Z Y post) : wx1_order_j51 (nI h) (nI a) (nI b) Z Y post x4 K T := by
  have hW := hw.2.2.2.2 ht
  have hp97 := hW.1.2.1
  unfold wx1_order_j51
  refine ⟨kc K + 1, ks K + 8, by omega, by omega, by omega, by omega, xs_keeps hx hw ht (Nat.le_refl _) (Nat.le_refl _) (fun T2 K2 g r2 f2 x2 c2 s2 g2 g0 => ⟨kc K2 + 1, ks K2 + 3, by omega, by omega, by omega, by omega, ?_⟩)⟩
  have hz2 := r2.1.2.1
  refine xs_becomes v (by omega) (Nat.le_refl _) (Nat.le_refl _) (fun K3 T3 f3 x3 z3 c3 s3 o3 j1 j2 j3 jo j4 jr => ?_)
  have r3 := rxo_Or r2 ht f3 x3 z3 o3 j1 j2 j3 jo j4 jr
  unfold wx1_order_l65
  refine wl_up 8 (fun i w => w.1 = nI i ∧ kc w.2.2 = kc K3 + 3 * i ∧ ks w.2.2 = ks K3 + 8195 * i ∧ rxo (aOr (aK A) h a b) (fun r => if r < i then ok h a b else aOk A) w.2.2 w.2.1) 0 (by omega) ⟨rfl, rfl, rfl, ?_⟩ ?_
  · have e : (fun r : Nat => if r < 0 then ok h a b else aOk A) = fun _ => aOk A := funext fun r => if_neg (by omega)
    show rxo _ (fun r : Nat => if r < 0 then ok h a b else aOk A) _ _
    rw [e]; exact r3
  rintro i ⟨x5, T4, K4⟩ hi ⟨hx5, c4, s4, r4⟩ R hR
  dsimp only at hx5 c4 s4 r4
  subst hx5
  unfold wx1_order_b65
  dsimp only
  rw [li_8, nI_leI (by omega) (by omega)]
  refine ⟨fun c => ?_, fun c => ?_⟩
  · have r5 : rx (aOr (aK A) h a b) K4 T4 := by
      obtain ⟨q1, q2, q3, q4, q5, q6, q7, q8, q9, g, ga, q10, q11, q12⟩ := r4
      refine ⟨q1, q2, q3, q4, q5, q6, q7, q8, q9, g, ga, q10, ⟨q11.1, q11.2.1, q11.2.2.1, fun r hr => ?_⟩, q12⟩
      obtain ⟨v', y1, y2⟩ := q11.2.2.2 r hr
      refine ⟨v', y1, ?_⟩
      dsimp only at y2
      rw [if_pos (by omega)] at y2
      exact y2
    refine ⟨fun e => ?_, fun e => ?_⟩
    · rw [if_pos e] at fin; exact pst_u fin r5
    · rw [if_neg e] at fin; exact pst_u fin r5
  · have hr4 := r4
    obtain ⟨q1, q2, q3, q4, q5, q6, q7, q8, q9, g, ga, q10, q11, q12⟩ := hr4
    obtain ⟨v', y1, y2⟩ := q11.2.2.2 i (by omega)
    have hkl := q11.1
    have hgz := q11.2.2.1
    have hzz := q1.2.1
    have l2 : kl K4 2 = 4096 := q1.1 2 (by omega)
    refine ⟨g, q10, g, q10, i, by omega, rfl, v', y1, xs_spread y2 l2 (fun T5 f5 t5 => ?_)⟩
    have r5 := rxo_keep r4 (xf_sc (by unfold xsc; omega) f5) (kx_rfl _)
    have hr5 := r5
    obtain ⟨_, _, _, _, _, _, _, _, p9, _⟩ := hr5
    obtain ⟨_, _, _, _, ⟨oq, o1, o2, o3', o4⟩, _⟩ := p9 ht
    have fp : ∀ k, k < 4096 → aR A i k < aN A 1 := by
      obtain ⟨_, _, _, _, _, _, _, _, _, _, _, u8, _⟩ := y2
      exact u8
    have hcn := cn_le (aR A i) 4096
    refine ⟨kc K4 + 3, ks K4 + 8195, by omega, by omega, by omega, by omega, xs_sorted v (p := aN A 1) (f := aR A i) (by omega) o1 o2 o4 hzz (by omega) l2 t5 fp (Nat.le_refl _) (by omega) (fun T6 K6 f6 x6 z6 c6 s6 p6 => ?_)⟩
    have r6 := rxo_keep r5 (xf_mono f6 (fun k hk => by unfold xsc; omega)) x6
    refine ⟨i, by rw [x6.2 g hgz]; omega, rfl, fun T7 e7 x5 ex5 => ?_⟩
    rw [ex5, li_1, nI_add, e7]
    have g6 : xr T6 0 18 = some g := by rw [(f6 0 (by omega)).2, (f5 0 (by omega)).2]; exact q10
    refine hR (by omega) _ ⟨rfl, by show kc K6 = _; omega, by show ks K6 = _; omega, ?_⟩
    refine rxo_G r6 g6 (by omega) (o' := fun r => if r < i + 1 then ok h a b else aOk A) ?_ (fun r hr => ?_)
    · dsimp only
      rw [if_pos (by omega)]; exact p6
    · show (if r < i + 1 then _ else _) = (if r < i then _ else _)
      by_cases e : r < i
      · rw [if_pos e, if_pos (by omega)]
      · rw [if_neg e, if_neg (by omega)]
theorem xc_order {A : AB} {K : XK} {T : XT} {x y z : Int32} {Z Y : Nat} {post : Int32 → XT → XK → Prop} (h : rx A K T) (hw : wf A) (hZ : kc K + 40 ≤ Z) (hY : ks K + 66000 ≤ Y) (h0 : ¬ aN A 0 = 1 → pst (aS A 1 (-1)) (-1) Z Y post) (h2 : aN A 0 = 1 → ¬ (∃ h a b, vo h a b ∧ x = nI h ∧ y = nI a ∧ z = nI b) → pst (aS A 2 (-1)) (-1) Z Y post)
    (h1 : aN A 0 = 1 → ∀ h a b, vo h a b → x = nI h → y = nI a → z = nI b → pst (aS (aOr (aK A) h a b) 0 (-1)) (if aN A 2 = h ∧ aN A 3 = a ∧ aN A 4 = b then 0 else 1) Z Y post) : wx1_order x y z K T Z Y post := by
  unfold wx1_order
  refine xs_isOrder (fun c => ?_) (fun hh a b v ex ey ez => ?_)
  · exact xh2 h hw (fun q T' r' => b11 rfl (pst_u (h0 fun w => q ⟨w, by decide⟩) r')) (fun ht _ _ T' r' => b11 rfl (pst_u (h2 ht c) r')) (fun _ _ w => absurd rfl w)
  · refine xh2 h hw (fun q T' r' => b11 rfl (pst_u (h0 fun w => q ⟨w, by decide⟩) r')) (fun _ _ w => absurd w (by decide)) (fun ht _ _ T' f' r' => b01 rfl ?_)
    have fin := h1 ht hh a b v ex ey ez
    subst ex ey ez
    obtain ⟨k1, k2, k3, k4, _⟩ := r'.2.2.2.2.2.2.2.2.1 ht
    have k2 : xi T' 0 1 = nI (aN A 2) := k2
    have k3 : xi T' 0 2 = nI (aN A 3) := k3
    have k4 : xi T' 0 3 = nI (aN A 4) := k4
    have hv := (hw.2.2.2.2 ht).2.1
    obtain ⟨v1, v2, v3, v4⟩ := id v
    obtain ⟨w1, w2, w3, w4⟩ := hv
    unfold wx1_order_j44
    rw [k2, k3, k4, nI_eq (by omega) (by omega), nI_eq (by omega) (by omega), nI_eq (by omega) (by omega)]
    have no : ¬ (aN A 2 = hh ∧ aN A 3 = a ∧ aN A 4 = b) → wx1_order_j51 (nI hh) (nI a) (nI b) Z Y post 1 K T' := fun q => by
      rw [if_neg q] at fin
      exact xs_order51 (A := aS A 0 (-1)) r' (wf_S hw) ht v hZ hY (by rw [if_neg (by decide)]; exact fin)
    refine ⟨fun q => no fun w => q w.1, fun q1 => ⟨fun q => no fun w => q w.2.1, fun q2 => ⟨fun q3 => ?_, fun q => no fun w => q w.2.2⟩⟩⟩
    rw [if_pos ⟨q1, q2, q3⟩] at fin
    exact xs_order51 (A := aS A 0 (-1)) r' (wf_S hw) ht v hZ hY (by rw [if_pos rfl]; exact fin)
