set_option maxRecDepth 100000
/-! TermDesk's asking calls -/
/-- an answer, and the state behind it -/
def pst (A : AB) (v : Int32) (Z Y : Nat) (post : Int32 → XT → XK → Prop) : Prop := ∀ T' K', rx A K' T' → kc K' = Z → ks K' = Y → post v T' K'
theorem pst_u {A : AB} {v : Int32} {Z Y : Nat} {post : Int32 → XT → XK → Prop} {K : XK} {T : XT} (h : pst A v Z Y post) (hr : rx A K T) : post v T (kset K Z Y) := h T (kset K Z Y) (rx_keep hr (xf_rfl _ _) (kx_set _ _ _)) rfl rfl
theorem rx_reg {A : AB} {K : XK} {T : XT} (h : rx A K T) : ∃ g, xr T 0 18 = some g ∧ kl K g = 8 ∧ ∀ r, r < 8 → ∃ v, xr T g r = some v ∧ ply (aOk A) (aN A 1) K T v (aR A r) := by
  obtain ⟨_, _, _, _, _, _, _, _, _, g, ga, h1, h2, _⟩ := h
  exact ⟨g, h1, h2.1, h2.2.2.2⟩
theorem xh_is {A : AB} {K : XK} {T : XT} {v n : Nat} {a : Nat → Int32} {P : Int32 → XT → Prop} (h : rx A K T) (hw : wf A) (hl : kl K v = n) (hn : n < 8) (ha : ∀ j, j < n → xi T v j = a j) (h0 : ¬ (aN A 0 = 1 ∧ ∀ j, j < n → inr (a j) 7) → ∀ T', rx (aS A 1 (-1)) K T' → P 1 T') (h1 : aN A 0 = 1 → (∀ j, j < n → inr (a j) 7) → ∀ T', xf (fun k => k = 0) T T' → rx (aS A 0 (-1)) K T' → P 0 T') : wx1_is v K T (fun r_5 => wx1_why r_5 K T (fun r_8 => wx1_isRefused r_8 K T P)) := by
  refine xs_is hl hn ha (fun c => xs_why h hw (fun q => ?_) (fun _ q => absurd rfl q)) (fun c => xs_why h hw (fun q => ?_) (fun ht _ => ?_))
  · exact xs_isRefused h (by decide) (fun q => absurd q (by decide)) (fun _ T' _ hr => h0 (fun w => c w.2) T' hr)
  · exact xs_isRefused h (by decide) (fun q => absurd q (by decide)) (fun _ T' _ hr => h0 (fun w => q ⟨w.1, by decide⟩) T' hr)
  · exact xs_isRefused h (by decide) (fun _ T' f hr => h1 ht c T' f hr) (fun q => absurd rfl q)
/-- the most over a row -/
def mxr (g a : Nat → Nat) : Nat → Int
  | 0 => -2
  | n + 1 => max (mxr g a n) (g (a n))
theorem mxr_s (g a : Nat → Nat) (n : Nat) : mxr g a (n + 1) = max (mxr g a n) (g (a n)) := rfl
theorem mxr_le {g a : Nat → Nat} {n i : Nat} (h : i < n) : (g (a i) : Int) ≤ mxr g a n := by
  induction n with
  | zero => omega
  | succ n ih =>
    rw [mxr_s]
    by_cases e : i = n
    · subst e; omega
    · have := ih (by omega); omega
theorem mxr_ex (g a : Nat → Nat) (n : Nat) : mxr g a n = -2 ∨ ∃ i, i < n ∧ mxr g a n = g (a i) := by
  induction n with
  | zero => exact Or.inl rfl
  | succ n ih =>
    rw [mxr_s]
    rcases ih with q | ⟨i, h1, h2⟩
    · exact Or.inr ⟨n, by omega, by omega⟩
    · by_cases hc : mxr g a n ≤ g (a n)
      · exact Or.inr ⟨n, by omega, by omega⟩
      · exact Or.inr ⟨i, by omega, by omega⟩
theorem mxr_mx {o f : Nat → Nat} {n : Nat} {a : Nat → Nat} (h : isr o f n a) (g : Nat → Nat) : mxr g a n = mx g f 4096 := by
  have l1 : mxr g a n ≤ mx g f 4096 := by
    rcases mxr_ex g a n with q | ⟨i, h1, h2⟩
    · rw [q]
      rcases mx_ex (g := g) (f := f) (n := 4096) with z | ⟨k, _, _, z⟩
      · rw [z]; omega
      · rw [z]; omega
    · rw [h2]
      exact mx_le (h.1 i h1).1 (h.1 i h1).2
  have l2 : mx g f 4096 ≤ mxr g a n := by
    rcases mx_ex (g := g) (f := f) (n := 4096) with q | ⟨k, h1, h2, h3⟩
    · rw [q]
      rcases mxr_ex g a n with z | ⟨i, _, z⟩
      · rw [z]; omega
      · rw [z]; omega
    · obtain ⟨i, hi, e⟩ := h.2.2 k h1 h2
      rw [h3, ← e]
      exact mxr_le hi
  omega
theorem j_max {x : Int} {b : Nat} (h1 : -2147483648 ≤ x ∧ x < 2147483648) (h2 : b < 2147483648) : jmax (zI x) (nI b) = zI (max x (b : Int)) := by
  unfold jmax
  rw [z_nI]
  by_cases c : zI x < zI (b : Int)
  · rw [if_pos c]
    rw [z_lt h1 (by omega)] at c
    congr 1
    omega
  · rw [if_neg c]
    rw [z_lt h1 (by omega)] at c
    congr 1
    omega
theorem mxr_b {g : Nat → Nat} {B : Nat} (hB : ∀ k, g k ≤ B) (a : Nat → Nat) (n : Nat) : -2 ≤ mxr g a n ∧ mxr g a n ≤ B := by
  induction n with
  | zero => exact ⟨Int.le_refl _, by show (-2 : Int) ≤ B; omega⟩
  | succ n ih =>
    rw [mxr_s]
    have := hB (a n)
    omega
theorem ply_n {o : Nat → Nat} {p : Nat} {K : XK} {T : XT} {v : Nat} {f : Nat → Nat} (h : ply o p K T v f) : xi T v 2 = nI (cn f 4096) := by
  obtain ⟨va, vb, n, a, h1, h2, h3, h4, h5, h6, h7, h8, h9, h10, h11⟩ := h
  rw [h3, ← isr_cn h6]
theorem xs_most {o : Nat → Nat} {p : Nat} {K : XK} {T : XT} {v u : Nat} {f : Nat → Nat} {post : Int32 → Prop} (h : ply o p K T v f) (hu : u < 3) (hp : post (zI (mx (fun k => ex k u) f 4096))) : wx6_most v (nI u) K T post := by
  have hB : ∀ k, ex k u ≤ 15 := fun k => Nat.le_of_lt_succ (ex_lt k u)
  obtain ⟨va, vb, n, a, h1, h2, h3, h4, h5, h6, h7, h8, h9, h10, h11⟩ := h
  have hn : n ≤ 4096 := by rw [isr_cn h6]; exact cn_le _ _
  rw [← mxr_mx h6] at hp
  unfold wx6_most wx6_most_l5
  refine wl_up n (fun i w => w = (zI (mxr (fun k => ex k u) a i), nI i)) 0 (by omega) rfl ?_
  rintro i w hi rfl R hR
  unfold wx6_most_b5
  dsimp only
  rw [h3, nI_leI (by omega) (by omega)]
  refine ⟨fun c => by rw [show i = n by omega]; exact hp, fun c => ⟨va, h1, i, by omega, rfl, ?_⟩⟩
  have ha := (h6.1 i (by omega)).1
  rw [(h7 i (by omega)).1]
  refine xs_exponent (by omega) (by omega) (fun x2 e2 x3 e3 => ?_)
  have b1 := mxr_b hB a i
  have b2 := hB (a i)
  rw [j_max (by omega) (by omega)] at e2
  subst e2 e3
  exact hR (by omega) _ (by rw [li_1, nI_add]; rfl)
theorem dg_le (k : Nat) : dg k ≤ 45 := by
  unfold dg
  have h1 := ex_lt k 0
  have h2 := ex_lt k 1
  have h3 := ex_lt k 2
  omega
theorem xs_degree {o : Nat → Nat} {p : Nat} {K : XK} {T : XT} {v : Nat} {f : Nat → Nat} {post : Int32 → Prop} (h : ply o p K T v f) (hp : post (zI (mx dg f 4096))) : wx6_degree v K T post := by
  obtain ⟨va, vb, n, a, h1, h2, h3, h4, h5, h6, h7, h8, h9, h10, h11⟩ := h
  have hn : n ≤ 4096 := by rw [isr_cn h6]; exact cn_le _ _
  rw [← mxr_mx h6] at hp
  unfold wx6_degree wx6_degree_l5
  refine wl_up n (fun i w => w = (zI (mxr dg a i), nI i)) 0 (by omega) rfl ?_
  rintro i w hi rfl R hR
  unfold wx6_degree_b5
  dsimp only
  rw [h3, nI_leI (by omega) (by omega)]
  refine ⟨fun c => by rw [show i = n by omega]; exact hp, fun c => ⟨va, h1, i, by omega, rfl, ?_⟩⟩
  have ha := (h6.1 i (by omega)).1
  rw [(h7 i (by omega)).1]
  refine xs_sum (by omega) (fun x2 e2 x3 e3 => ?_)
  have b1 := mxr_b dg_le a i
  have b2 := dg_le (a i)
  rw [j_max (by omega) (by omega)] at e2
  subst e2 e3
  exact hR (by omega) _ (by rw [li_1, nI_add]; rfl)
theorem xs_isZero {o : Nat → Nat} {p : Nat} {K : XK} {T : XT} {v : Nat} {f : Nat → Nat} {post : Int32 → Prop} (h : ply o p K T v f) (h0 : cn f 4096 ≠ 0 → post 0) (h1 : cn f 4096 = 0 → post 1) : wx6_isZero v K T post := by
  have := cn_le f 4096
  unfold wx6_isZero
  rw [ply_n h, li_0, nI_eq (by omega) (by omega)]
  exact ⟨h0, h1⟩
theorem xc_fault {A : AB} {K : XK} {T : XT} {post : Int32 → Prop} (h : rx A K T) (hp : post (aZ A 1)) : wx1_fault K T post := by
  unfold wx1_fault
  rw [h.2.2.1]
  exact hp
theorem xc_where {A : AB} {K : XK} {T : XT} {post : Int32 → Prop} (h : rx A K T) (hw : wf A) (hp : post (aZ A 2)) : wx1_where K T post := by
  unfold wx1_where
  rw [h.2.1]
  refine ⟨fun q => ?_, fun q => ?_⟩
  · rw [hw.2.2.1 q] at hp; exact hp
  · rw [h.2.2.2.1 q]; exact hp
theorem xc_trouble {A : AB} {K : XK} {T : XT} {post : Int32 → Prop} (h : rx A K T) (hp : post (aZ A 0)) : wx1_trouble K T post := by
  unfold wx1_trouble
  rw [h.2.1]
  exact hp
theorem xc_terms {A : AB} {K : XK} {T : XT} {x : Int32} {Z Y : Nat} {post : Int32 → XT → XK → Prop} (h : rx A K T) (hw : wf A) (hZ : kc K + 1 ≤ Z) (hY : ks K + 1 ≤ Y) (h0 : ¬ (aN A 0 = 1 ∧ inr x 7) → pst (aS A 1 (-1)) (-1) Z Y post) (h1 : aN A 0 = 1 → ∀ r, r < 8 → x = nI r → pst (aS A 0 (-1)) (nI (cn (aR A r) 4096)) Z Y post) : wx1_terms x K T Z Y post := by
  unfold wx1_terms
  refine xv1 hZ hY (fun K1 T1 f1 k1 l1 a1 c1 s1 z1 => ?_)
  have g := rx_keep h f1 k1
  refine xh_is g hw l1 (by omega) a1 (fun q T2 r2 => b11 rfl (pst_u (h0 fun w => q ⟨w.1, fun j hj => by rw [show j = 0 by omega]; exact w.2⟩) r2)) (fun ht q T2 f2 r2 => b01 rfl ?_)
  obtain ⟨j, hj, e⟩ := q 0 (by omega)
  have e : x = nI j := e
  obtain ⟨gg, g1, g2, g3⟩ := rx_reg r2
  obtain ⟨v, v1, v2⟩ := g3 j (by omega)
  refine ⟨gg, g1, j, by omega, e, v, v1, ?_⟩
  rw [ply_n v2]
  exact pst_u (h1 ht j (by omega) e) r2
theorem xc_degree {A : AB} {K : XK} {T : XT} {x : Int32} {Z Y : Nat} {post : Int32 → XT → XK → Prop} (h : rx A K T) (hw : wf A) (hZ : kc K + 1 ≤ Z) (hY : ks K + 1 ≤ Y) (h0 : ¬ (aN A 0 = 1 ∧ inr x 7) → pst (aS A 1 (-1)) (-1) Z Y post) (h1 : aN A 0 = 1 → ∀ r, r < 8 → x = nI r → pst (aS A 0 (-1)) (zI (mx dg (aR A r) 4096)) Z Y post) : wx1_degree x K T Z Y post := by
  unfold wx1_degree
  refine xv1 hZ hY (fun K1 T1 f1 k1 l1 a1 c1 s1 z1 => ?_)
  have g := rx_keep h f1 k1
  refine xh_is g hw l1 (by omega) a1 (fun q T2 r2 => b11 rfl (pst_u (h0 fun w => q ⟨w.1, fun j hj => by rw [show j = 0 by omega]; exact w.2⟩) r2)) (fun ht q T2 f2 r2 => b01 rfl ?_)
  obtain ⟨j, hj, e⟩ := q 0 (by omega)
  have e : x = nI j := e
  obtain ⟨gg, g1, g2, g3⟩ := rx_reg r2
  obtain ⟨v, v1, v2⟩ := g3 j (by omega)
  exact ⟨gg, g1, j, by omega, e, v, v1, xs_degree v2 (pst_u (h1 ht j (by omega) e) r2)⟩
theorem xs_isUnknown {x : Int32} {K : XK} {T : XT} {post : Int32 → Prop} (h0 : ¬ inr x 2 → post 0) (h1 : ∀ u, u < 3 → x = nI u → post 1) : wx1_isUnknown x K T post := by
  unfold wx1_isUnknown
  exact xs_inr (n := 2) rfl (by omega) (fun d => ⟨rfl, h0 d⟩) (fun j hj e => ⟨rfl, h1 j (by omega) e⟩)
/-- refused at once -/
theorem xh_bad {A : AB} {K : XK} {T : XT} {P : Int32 → XT → Prop} (h : rx A K T) (hw : wf A) (h0 : ∀ T', rx (aS A 1 (-1)) K T' → P 1 T') : wx1_why 0 K T (fun r => wx1_isRefused r K T P) := xs_why h hw (fun _ => xs_isRefused h (by decide) (fun q => absurd q (by decide)) (fun _ T' _ hr => h0 T' hr)) (fun _ q => absurd rfl q)
theorem xh_ok {A : AB} {K : XK} {T : XT} {P : Int32 → XT → Prop} (h : rx A K T) (hw : wf A) (h0 : ¬ aN A 0 = 1 → ∀ T', rx (aS A 1 (-1)) K T' → P 1 T') (h1 : aN A 0 = 1 → ∀ T', xf (fun k => k = 0) T T' → rx (aS A 0 (-1)) K T' → P 0 T') : wx1_why 1 K T (fun r => wx1_isRefused r K T P) := xs_why h hw (fun q => xs_isRefused h (by decide) (fun q => absurd q (by decide)) (fun _ T' _ hr => h0 (fun w => q ⟨w, by decide⟩) T' hr)) (fun ht _ => xs_isRefused h (by decide) (fun _ T' f hr => h1 ht T' f hr) (fun q => absurd rfl q))
theorem xc_degreeIn {A : AB} {K : XK} {T : XT} {x y : Int32} {Z Y : Nat} {post : Int32 → XT → XK → Prop} (h : rx A K T) (hw : wf A) (hZ : kc K + 1 ≤ Z) (hY : ks K + 1 ≤ Y) (h0 : ¬ (aN A 0 = 1 ∧ inr x 7 ∧ inr y 2) → pst (aS A 1 (-1)) (-1) Z Y post) (h1 : aN A 0 = 1 → ∀ r u, r < 8 → u < 3 → x = nI r → y = nI u → pst (aS A 0 (-1)) (zI (mx (fun k => ex k u) (aR A r) 4096)) Z Y post) : wx1_degreeIn x y K T Z Y post := by
  unfold wx1_degreeIn wx1_degreeIn_j36 wx1_degreeIn_j40
  refine xv1 hZ hY (fun K1 T1 f1 k1 l1 a1 c1 s1 z1 => ?_)
  have g := rx_keep h f1 k1
  refine xs_is l1 (by omega) a1 (fun q => b01 rfl (xh_bad g hw (fun T2 r2 => b11 rfl (pst_u (h0 fun w => q fun j hj => by rw [show j = 0 by omega]; exact w.2.1) r2)))) (fun q => b11 rfl ?_)
  refine xs_isUnknown (fun d => b01 rfl (xh_bad g hw (fun T2 r2 => b11 rfl (pst_u (h0 fun w => d w.2.2) r2)))) (fun u hu eu => b11 rfl ?_)
  refine xh_ok g hw (fun c T2 r2 => b11 rfl (pst_u (h0 fun w => c w.1) r2)) (fun ht T2 f2 r2 => b01 rfl ?_)
  obtain ⟨j, hj, e⟩ := q 0 (by omega)
  have e : x = nI j := e
  obtain ⟨gg, g1, g2, g3⟩ := rx_reg r2
  obtain ⟨v, v1, v2⟩ := g3 j (by omega)
  refine ⟨gg, g1, j, by omega, e, v, v1, ?_⟩
  have fin := h1 ht j u (by omega) hu e eu
  subst eu
  exact xs_most v2 hu (pst_u fin r2)
theorem xs_filled {A : AB} {K : XK} {T : XT} {post : Int32 → Prop} (h : rx A K T) (hp : post (nI (cn (fun r => cn (aR A r) 4096) 8))) : wx1_filled K T post := by
  obtain ⟨gg, g1, g2, g3⟩ := rx_reg h
  unfold wx1_filled
  refine ⟨gg, g1, fun x3 e3 => ?_⟩
  subst e3
  unfold wx1_filled_l13
  rw [g2]
  refine wl_up 8 (fun i w => w = (nI (cn (fun r => cn (aR A r) 4096) i), nI i)) 0 (by omega) rfl ?_
  rintro i w hi rfl R hR
  unfold wx1_filled_b13 wx1_filled_j41
  dsimp only
  rw [nI_leI (by omega) (by omega), g2]
  refine ⟨fun c => by rw [show i = 8 by omega]; exact hp, fun c => ?_⟩
  obtain ⟨v, v1, v2⟩ := g3 i (by omega)
  refine ⟨i, by omega, rfl, v, v1, xs_isZero v2 (fun d => b01 rfl (fun x1 e1 x4 e4 => ?_)) (fun d => b11 rfl (fun x1 e1 x4 e4 => ?_))⟩
  · subst e1 e4
    exact hR (by omega) _ (by rw [cn_s, if_neg d, li_1, nI_add, nI_add])
  · subst e1 e4
    exact hR (by omega) _ (by rw [cn_s, if_pos d, li_0, nI_add, li_1, nI_add])
theorem xc_about {A : AB} {K : XK} {T : XT} {x : Int32} {post : Int32 → XT → Prop} (h : rx A K T) (hw : wf A) (h0 : ¬ (aN A 0 = 1 ∧ inr x 5) → ∀ T', rx (aS A 1 (-1)) K T' → post (-1) T') (h1 : aN A 0 = 1 → ∀ w, w < 6 → x = nI w → ∀ T', rx (aS A 0 (-1)) K T' → post (nI (abt A w)) T') : wx1_about x K T post := by
  unfold wx1_about
  refine xs_inr (n := 5) rfl (by omega) (fun c => xh_bad h hw (fun T' r' => b11 rfl (h0 (fun w => c w.2) T' r'))) (fun w hw5 e => xh_ok h hw (fun c T' r' => b11 rfl (h0 (fun w => c w.1) T' r')) (fun ht T' f' r' => b01 rfl ?_))
  obtain ⟨k1, k2, k3, k4, _⟩ := r'.2.2.2.2.2.2.2.2.1 ht
  have hv := (hw.2.2.2.2 ht).2.1
  have fin := h1 ht w (by omega) e T' r'
  have ew : ∀ n : Nat, n < 2 ^ 31 → x.toInt = (n : Int) → w = n := fun n hn q => by
    have := (n_int hn).1 q
    rw [e, nI_eq (by omega) hn] at this
    exact this
  have k1 : xi T' 0 0 = nI (aN A 1) := k1
  have k2 : xi T' 0 1 = nI (aN A 2) := k2
  have k3 : xi T' 0 2 = nI (aN A 3) := k3
  have k4 : xi T' 0 3 = nI (aN A 4) := k4
  refine ⟨fun q => ?_, fun q => ?_, fun q => ?_, fun q => ?_, fun q => ?_, fun q => ?_⟩
  · rw [ew 0 (by omega) q] at fin; rw [k1]; exact fin
  · rw [ew 1 (by omega) q] at fin; rw [k2]; exact fin
  · rw [ew 2 (by omega) q] at fin; rw [k3]; exact fin
  · rw [ew 3 (by omega) q] at fin; rw [k4]; exact fin
  · rw [ew 4 (by omega) q] at fin
    obtain ⟨v1, v2, v3, v4⟩ := hv
    rw [k3, k4, li_3, pk_sub (by omega), pk_sub (by omega)]; exact fin
  · have : w = 5 := by
      rw [e, nI_toInt (by omega)] at q
      omega
    rw [this] at fin
    exact xs_filled r' fin
