set_option maxRecDepth 100000
/-! TermDesk's text: a term -/
theorem fdt_ext {p : Nat} {a a' co co' : Nat → Nat} {ls ls' : Nat → Bool} : ∀ m, (∀ j, j < m → a j = a' j ∧ co j = co' j ∧ ls j = ls' j) → ∀ k, fdt p a co ls m k = fdt p a' co' ls' m k := fun m => by
  induction m with
  | zero => intro _ k; rfl
  | succ m ih =>
    intro h k
    obtain ⟨h1, h2, h3⟩ := h m (by omega)
    have e := ih (fun j hj => h j (by omega)) k
    show (if k = a m then (fdt p a co ls m k + (if ls m then p - co m % p else co m % p)) % p else fdt p a co ls m k) = (if k = a' m then (fdt p a' co' ls' m k + (if ls' m then p - co' m % p else co' m % p)) % p else fdt p a' co' ls' m k)
    rw [e, h1, h2, h3]
theorem xen_add {p i m key co : Nat} {less : Bool} {tb : Nat → Nat → Nat} {T T' : XT} (h : xen p T i (tb i) m) (hm : m < 12) (hk : key < 4096) (hc : co < 10000) (h83 : ∀ j, xi T' 83 j = if j = 12 * i + m then nI key else xi T 83 j) (h84 : ∀ j, xi T' 84 j = if j = 12 * i + m then (if less then - nI co else nI co) else xi T 84 j) (h85 : xi T' 85 i = nI (m + 1)) : xen p T' i (tbs p tb i key less co i) (m + 1) := by
  obtain ⟨h1, h2, at', cf, ls, h3, h4⟩ := h
  refine ⟨h85, by omega, fun j => if j = m then key else at' j, fun j => if j = m then co else cf j, fun j => if j = m then less else ls j, fun j hj => ?_, fun k hk4 => ?_⟩
  · rw [h83, h84]
    dsimp only
    by_cases w : j = m
    · subst w
      simp [hk, hc]
    · simp only [if_neg w, if_neg (show ¬ 12 * i + j = 12 * i + m by omega)]
      exact h3 j (by omega)
  · have e : fdt p (fun j => if j = m then key else at' j) (fun j => if j = m then co else cf j) (fun j => if j = m then less else ls j) m k = tb i k := by
      rw [h4 k hk4]
      exact fdt_ext m (fun j hj => ⟨if_neg (by omega), if_neg (by omega), if_neg (by omega)⟩) k
    show (if i = i ∧ k = key then (tb i k + (if less then p - co % p else co % p)) % p else tb i k) = (if k = (if m = m then key else at' m) then (fdt p (fun j => if j = m then key else at' j) (fun j => if j = m then co else cf j) (fun j => if j = m then less else ls j) m k + (if (if m = m then less else ls m) = true then p - (if m = m then co else cf m) % p else (if m = m then co else cf m) % p)) % p else fdt p (fun j => if j = m then key else at' j) (fun j => if j = m then co else cf j) (fun j => if j = m then less else ls j) m k)
    rw [e, if_pos (rfl : m = m), if_pos (rfl : m = m), if_pos (rfl : m = m)]
    by_cases w : k = key
    · rw [if_pos ⟨rfl, w⟩, if_pos w]
    · rw [if_neg (fun z => w z.2), if_neg w]
theorem xcu_o {c : Nat → Nat} {n z : Nat} {K : XK} {T T' : XT} {t : Tk} (h : xcu c n z K T t) (he : ∀ k, ¬ (81 ≤ k ∧ k ≤ 86) → xi T' k = xi T k) (hr : xr T' = xr T) : xcu c n z K T' t := by
  obtain ⟨a1, a2, a3, a4, a5, a6, a7, a8⟩ := h
  have e80 := he 80 (by omega)
  refine ⟨by rw [e80]; exact a1, by rw [e80]; exact a2, by rw [e80]; exact a3, a4, a5, a6, fun w => by rw [e80]; exact a7 w, fun w => ?_⟩
  obtain ⟨v, w', L, r1, r2, r3, r4, r5, r6, r7, r8, r9, r10, r11, r12, r13, r14⟩ := a8 w
  refine ⟨v, w', L, by rw [hr]; exact r1, r2, r3, r4, r5, by rw [he v (by omega)]; exact r6, by rw [he v (by omega)]; exact r7, by rw [he v (by omega)]; exact r8, by rw [hr]; exact r9, r10, r11, r12, fun j hj => by rw [he w' (by omega)]; exact r13 j hj, r14⟩
theorem xs_term {c : Nat → Nat} {n z Z Y m : Nat} {less : Bool} {K0 K : XK} {T0 T : XT} {t : Tk} {ps : PS} {post xpost : XT → XK → Prop} (hc : cds c n) (hb : xb c n z K0 T0 K T) (hx : xcu c n z K T t) (hps : xps T ps) (hp : 0 < ps.1) (h6 : ps.2.2.2.2.1 < 6) (hm : m < 12) (hen : xen ps.1 T ps.2.2.2.2.1 (ps.2.2.2.2.2 ps.2.2.2.2.1) m) (hZ : kc K + 14 ≤ Z) (hY : ks K + 63 ≤ Y)
    (hi : ∀ e p, (pTm c n less ps (.inr t)).1 = .inl (e, p) → ∀ T' K', ff z T0 T' → kx K0 K' → kc K' = Z → ks K' = Y → xi T' 81 0 = nI e → xi T' 81 1 = nI p → xpost T' K')
    (hr : ∀ t', (pTm c n less ps (.inr t)).1 = .inr t' → ∀ T' K', xb c n z K0 T0 K' T' → kc K' = Z → ks K' = Y → xcu c n z K' T' t' → xps T' (pTm c n less ps (.inr t)).2 → xen ps.1 T' ps.2.2.2.2.1 ((pTm c n less ps (.inr t)).2.2.2.2.2.2 ps.2.2.2.2.1) (m + 1) → post T' K') : wx4_termHere (if less then 1 else 0) K T Z Y post xpost := by
  have h90 := hb.2.2.1
  obtain ⟨g15, g11, g13, gen, g0⟩ := hps
  have bad : ∀ e p T1 T2 K1, (pTz c n (.inr t)).1 = .inl (e, p) → xb c n z K0 T0 K1 T1 → xbad e p T1 T2 → xpost T2 (kset K1 Z Y) := fun e p T1 T2 K1 hz hb1 hb2 => hi e p (by rw [pTm_i hz]) T2 _ (xb_bad hb1 hb2) (kx_tr hb1.2.2.2.2.2 (kx_set _ _ _)) rfl rfl hb2.2.1 hb2.2.2
  -- the loop
  have j62 : ∀ (x3 : Int32) (ty : Tk) K1 T1, xb c n z K0 T0 K1 T1 → fs z T T1 → xcu c n z K1 T1 ty → pTl c n 4 0 0 (.inr ty) = pTz c n (.inr t) → x3 = nI (if cK (.inr t) = 3 then cV (.inr t) else 1) → (if cK (.inr t) = 3 then cV (.inr t) else 1) < 10000 → kc K1 + 12 ≤ Z → ks K1 + 54 ≤ Y → wx4_termHere_j62 (if less then 1 else 0) Z Y post xpost (nI (12 * ps.2.2.2.2.1 + m)) x3 K1 T1 := fun x3 ty K1 T1 b1 f1 y1 hz ex3 hco c1 s1 => by
    unfold wx4_termHere_j62
    refine xs_tunknown y1 ?_
    unfold wx4_termHere_l74
    refine wl_n (fun m' (v : Int32 × Int32 × Int32 × XT × XK) => ∃ told key tz, m' + bc told = 4 ∧ tdk told key ∧ v.1 = nI told ∧ v.2.1 = nI key ∧ v.2.2.1 = oI (cUn (.inr tz)) ∧ xb c n z K0 T0 v.2.2.2.2 v.2.2.2.1 ∧ fs z T v.2.2.2.1 ∧ xcu c n z v.2.2.2.2 v.2.2.2.1 tz ∧ pTl c n m' told key (.inr tz) = pTz c n (.inr t) ∧ kc v.2.2.2.2 + 4 * (3 - bc told) ≤ Z ∧ ks v.2.2.2.2 + 18 * (3 - bc told) ≤ Y) 4 ⟨0, 0, ty, rfl, ⟨by omega, by omega, fun u hu _ => ?_⟩, rfl, rfl, rfl, b1, f1, y1, hz, by show kc K1 + 4 * (3 - 0) ≤ Z; omega, by show ks K1 + 18 * (3 - 0) ≤ Y; omega⟩ ?_
    · have : ∀ u, u < 3 → ex 0 u = 0 := by decide
      exact this u hu
    rintro m' ⟨x4, x5, x6, T2, K2⟩ ⟨told, key, tz, hm', hd, e4, e5, e6, b2, f2, y2, hz2, c2, s2⟩ R hR
    dsimp only at e4 e5 e6 b2 f2 y2 c2 s2 ⊢
    subst e4 e5 e6
    have hbc := (bc_f told hd.1 0 (by omega)).1
    obtain ⟨f, rfl⟩ : ∃ f, m' = f + 1 := ⟨m' - 1, by omega⟩
    rw [pTl_s] at hz2
    obtain ⟨d1, d2, d3⟩ := hd
    unfold wx4_termHere_b74
    have em : (oI (cUn (.inr tz)) = -1) ↔ cUn (.inr tz) = none := oI_eq (b := none) (fun u w => cUn_lt w) (fun u w => by cases w)
    rw [em]
    cases hu : cUn (.inr tz) with
    | none =>
      rw [hu] at hz2
      have hz2 : (Sum.inr tz, key) = pTz c n (.inr t) := hz2
      refine ⟨fun _ => ⟨12 * ps.2.2.2.2.1 + m, by omega, rfl, fun T3 e3 => ?_⟩, fun q => absurd rfl q⟩
      have fin : ∀ T4, T4 = xwi T3 84 (12 * ps.2.2.2.2.1 + m) (if less then - nI (if cK (.inr t) = 3 then cV (.inr t) else 1) else nI (if cK (.inr t) = 3 then cV (.inr t) else 1)) → wx4_termHere_j194 (if less then 1 else 0) Z Y post xpost K2 T4 := fun T4 e4 => by
        have h13 : xi T4 80 13 = nI ps.2.2.2.2.1 := by rw [e4, xi_wi, if_neg (by omega), e3, xi_wi, if_neg (by omega), f2.2 13 (by omega) (by omega)]; exact g13
        have h85 : xi T4 85 ps.2.2.2.2.1 = nI m := by rw [e4, xi_wi, if_neg (by omega), e3, xi_wi, if_neg (by omega), (f2.1 85 (by omega)).1]; exact hen.1
        unfold wx4_termHere_j194
        refine ⟨_, h6, h13, _, h6, h13, fun T5 e5 => ?_⟩
        rw [h85, li_1, nI_add] at e5
        have o5 : ∀ k j, ¬ (k = 83 ∧ j = 12 * ps.2.2.2.2.1 + m) → ¬ (k = 84 ∧ j = 12 * ps.2.2.2.2.1 + m) → ¬ (k = 85 ∧ j = ps.2.2.2.2.1) → xi T5 k j = xi T2 k j := fun k j h1 h2 h3 => by rw [e5, xi_wi, if_neg h3, e4, xi_wi, if_neg h2, e3, xi_wi, if_neg h1]
        have r5 : xr T5 = xr T2 := by rw [e5, xr_wi, e4, xr_wi, e3, xr_wi]
        have hz1 : (pTz c n (.inr t)).1 = .inr tz := by rw [← hz2]
        have hzk : (pTz c n (.inr t)).2 = key := by rw [← hz2]
        have ePm := pTm_r (less := less) (ps := ps) hz1
        rw [hzk] at ePm
        rw [ePm] at hr
        refine hr tz rfl T5 _ (xb_k ?_) rfl rfl ?_ ?_ ?_
        · rw [e5, e4, e3]; exact xb_w (xb_w (xb_w b2 (by omega) (by omega)) (by omega) (by omega)) (by omega) (by omega)
        · exact xcu_o y2 (fun k hk => funext fun j => o5 k j (by omega) (by omega) (by omega)) r5
        · refine ⟨?_, fun w => ?_, ?_, fun i hi2 => ?_, g0⟩
          · rw [o5 80 15 (by omega) (by omega) (by omega), f2.2 15 (by omega) (by omega)]; exact g15
          · rw [o5 80 11 (by omega) (by omega) (by omega), o5 80 12 (by omega) (by omega) (by omega), o5 86 0 (by omega) (by omega) (by omega), o5 86 1 (by omega) (by omega) (by omega), f2.2 11 (by omega) (by omega), f2.2 12 (by omega) (by omega), (f2.1 86 (by omega)).1]
            exact g11 w
          · rw [o5 80 13 (by omega) (by omega) (by omega), f2.2 13 (by omega) (by omega)]; exact g13
          · have hi2 : i < ps.2.2.2.2.1 := hi2
            obtain ⟨mi, n1, n2, at', cf, ls, n3, n4⟩ := gen i hi2
            refine ⟨mi, ?_, n2, at', cf, ls, fun j hj => ?_, fun k hk => ?_⟩
            · rw [o5 85 i (by omega) (by omega) (by omega), (f2.1 85 (by omega)).1]; exact n1
            · rw [o5 83 _ (by omega) (by omega) (by omega), o5 84 _ (by omega) (by omega) (by omega), (f2.1 83 (by omega)).1, (f2.1 84 (by omega)).1]
              exact n3 j hj
            · show tbs ps.1 ps.2.2.2.2.2 ps.2.2.2.2.1 key less _ i k = _
              rw [← n4 k hk]
              exact if_neg (fun w => by have := w.1; omega)
        · refine xen_add hen hm d2 hco (fun j => ?_) (fun j => ?_) ?_
          · rw [e5, xi_wi, if_neg (by omega), e4, xi_wi, if_neg (by omega), e3, xi_wi, (f2.1 83 (by omega)).1]
            by_cases w : j = 12 * ps.2.2.2.2.1 + m
            · rw [if_pos ⟨rfl, w⟩, if_pos w]
            · rw [if_neg (fun z => w z.2), if_neg w]
          · rw [e5, xi_wi, if_neg (by omega), e4, xi_wi]
            by_cases w : j = 12 * ps.2.2.2.2.1 + m
            · rw [if_pos ⟨rfl, w⟩, if_pos w]
            · rw [if_neg (fun z => w z.2), if_neg w, e3, xi_wi, if_neg (by omega), (f2.1 84 (by omega)).1]
          · rw [e5, xi_wi, if_pos ⟨rfl, rfl⟩]
      subst ex3
      cases less with
      | false => exact ⟨fun _ => ⟨12 * ps.2.2.2.2.1 + m, by omega, rfl, fun T4 e4 => fin T4 e4⟩, fun q => absurd rfl q⟩
      | true => exact ⟨fun q => absurd q (by decide), fun _ => ⟨12 * ps.2.2.2.2.1 + m, by omega, rfl, fun T4 e4 => fin T4 e4⟩⟩
    | some u =>
      have u3 := cUn_lt hu
      rw [hu] at hz2
      dsimp only at hz2
      refine ⟨(fun q => by cases q), fun _ => ?_⟩
      have sh : (jshr (nI told) (oI (some u)) &&& 1) = nI (told / 2 ^ u % 2) := by
        show (jshr (nI told) (nI u) &&& 1) = _
        rw [n_shr (by omega) (by omega), li_1, n_and, show (1 : Nat) = 2 ^ 1 - 1 from rfl, Nat.and_two_pow_sub_one_eq_mod]
      have hm2 := Nat.mod_lt (told / 2 ^ u) (show 0 < 2 by omega)
      rw [sh, li_0, nI_eq (by omega) (by omega)]
      refine ⟨fun q => xs_good0 li_3 y2.2.2.1 (fun T3 hb3 => bad 3 tz.2.1 T2 T3 K2 ?_ b2 hb3), fun q => xs_good1 ?_⟩
      · rw [if_pos (by omega)] at hz2
        rw [← hz2]; rfl
      rw [if_neg (by omega)] at hz2
      have bc1 := (tdk_s (e := 0) ⟨d1, d2, d3⟩ u3 q (by omega)).2.2.2
      have bcl := (bc_f (told + 2 ^ u) ((bc_f told d1 u u3).2 q).1 0 (by omega)).1
      unfold wx4_termHere_j100
      intro x4' e4'
      have e4' : x4' = nI (told + 2 ^ u) := by
        rw [e4', li_1]
        show nI told ||| jshl (nI 1) (nI u) = _
        have h8 : 2 ^ u < 2 ^ 3 := Nat.pow_lt_pow_right (by omega) u3
        rw [n_shl (by omega) (by omega), Nat.one_mul, n_or, (tdk_s (e := 0) ⟨d1, d2, d3⟩ u3 q (by omega)).2.2.1]
      subst e4'
      have j149 : ∀ v tq K3 T3, 1 ≤ v → v ≤ 15 → xb c n z K0 T0 K3 T3 → fs z T T3 → xcu c n z K3 T3 tq → pTl c n f (told + 2 ^ u) (key + v * 16 ^ u) (.inr tq) = pTz c n (.inr t) → kc K3 ≤ kc K2 + 4 → ks K3 ≤ ks K2 + 18 → wx4_termHere_j149 (if less then 1 else 0) Z Y post xpost (fun x4 x5 x6 T K => R (x4, x5, x6, T, K)) (nI (12 * ps.2.2.2.2.1 + m)) x3 (nI (told + 2 ^ u)) (nI key) (oI (some u)) (nI v) K3 T3 := fun v tq K3 T3 hv1 hv2 b3 f3 y3 hz3 c3 s3 => by
        obtain ⟨k1, k2, k3, k4⟩ := tdk_s (e := v) ⟨d1, d2, d3⟩ u3 q (by omega)
        unfold wx4_termHere_j149
        intro x5' e5'
        have e5' : x5' = nI (key + v * 16 ^ u) := by
          rw [e5', show oI (some u) = nI u from rfl, n_shl16 (by omega) u3, n_or, k2]
        subst e5'
        refine xs_tunknown y3 ?_
        exact hR f _ (by omega) ⟨_, _, tq, by omega, k1, rfl, rfl, rfl, b3, f3, y3, hz3, by show kc K3 + 4 * (3 - bc (told + 2 ^ u)) ≤ Z; omega, by show ks K3 + 18 * (3 - bc (told + 2 ^ u)) ≤ Y; omega⟩
      refine xs_go hc b2 y2.1 y2.2.2.2.1 (by omega) (by omega) (fun T3 K3 b3 f3 k3 c3 s3 y3 => ?_)
      have f3 := fs_tr f2 f3
      have ecn : cN c n (.inr tz) = .inr (tok c n tz.2.2.2) := rfl
      rw [ecn] at hz2
      generalize tok c n tz.2.2.2 = tq at y3 hz2
      rw [y3.2.1, li_t3, tkc_e y3.2.2.2.2.2.1 (by omega)]
      refine ⟨fun w => ?_, fun w => ?_⟩
      · rw [if_neg (show ¬ cK (.inr tq) = 3 from w)] at hz2
        rw [li_1]
        exact j149 1 tq K3 T3 (by omega) (by omega) b3 f3 y3 (by rw [Nat.one_mul]; exact hz2) (by omega) (by omega)
      · rw [if_pos (show cK (.inr tq) = 3 from w)] at hz2
        obtain ⟨v1, v2⟩ := y3.2.2.2.2.2.2.1 w
        rw [v1]
        have nogo : ¬ (1 ≤ tq.2.2.1 ∧ tq.2.2.1 ≤ 15) → (pTz c n (.inr t)).1 = .inl (4, tq.2.1) := fun w2 => by
          rw [if_neg (show ¬ (1 ≤ cV (.inr tq) ∧ cV (.inr tq) ≤ 15) from w2)] at hz2
          rw [← hz2]; rfl
        rw [li_1, li_15]
        refine xs_in (fun w2 => ?_) (fun w2 w3 => ?_)
        · rw [nI_ltI (by omega) (by omega), nI_ltI (by omega) (by omega)] at w2
          exact xs_good0 li_4 y3.2.2.1 (fun T4 hb4 => bad 4 _ T3 T4 K3 (nogo (by omega)) b3 hb4)
        · rw [nI_ltI (by omega) (by omega)] at w2 w3
          rw [if_pos (show 1 ≤ cV (.inr tq) ∧ cV (.inr tq) ≤ 15 from ⟨by show 1 ≤ tq.2.2.1; omega, by show tq.2.2.1 ≤ 15; omega⟩)] at hz2
          refine xs_good1 ?_
          refine xs_go hc b3 y3.1 y3.2.2.2.1 (by omega) (by omega) (fun T4 K4 b4 f4 k4 c4 s4 y4 => ?_)
          rw [v1]
          exact j149 tq.2.2.1 _ K4 T4 (by omega) (by omega) b4 (fs_tr f3 f4) y4 hz2 (by omega) (by omega)
  unfold wx4_termHere
  refine ⟨_, h6, g13, fun x2 ex2 => ?_⟩
  have ex2 : x2 = nI (12 * ps.2.2.2.2.1 + m) := by rw [ex2, g13, hen.1, li_12, pk_mul, nI_add]
  subst ex2
  unfold wx4_termHere_j45
  rw [hx.2.1, li_t3, tkc_e hx.2.2.2.2.2.1 (by omega)]
  refine ⟨fun q => xs_must1 ?_, fun q => ?_⟩
  · obtain ⟨v1, v2⟩ := hx.2.2.2.2.2.2.1 q
    rw [hx.2.1, tkc_e hx.2.2.2.2.2.1 (by omega)]
    refine ⟨fun w => absurd q w, fun _ => ?_⟩
    refine xs_go hc hb hx.1 hx.2.2.2.1 (by omega) (by omega) (fun T1 K1 b1 f1 k1 c1 s1 y1 => ?_)
    rw [v1]
    refine j62 _ _ K1 T1 b1 f1 y1 ?_ ?_ ?_ (by omega) (by omega)
    · unfold pTz
      rw [if_pos (show cK (.inr t) = 3 from q)]; rfl
    · rw [if_pos (show cK (.inr t) = 3 from q)]; rfl
    · rw [if_pos (show cK (.inr t) = 3 from q)]; exact v2
  · refine xs_tunknown hx ?_
    have em : (oI (cUn (.inr t)) = -1) ↔ cUn (.inr t) = none := oI_eq (b := none) (fun u w => cUn_lt w) (fun u w => by cases w)
    rw [em]
    refine ⟨fun w => xs_must0 hx.2.2.1 (fun T1 hb1 => bad 1 _ T T1 K ?_ hb hb1), fun w => xs_must1 ?_⟩
    · unfold pTz
      rw [if_neg (show ¬ cK (.inr t) = 3 from q), if_pos w]; rfl
    · rw [hx.2.1, tkc_e hx.2.2.2.2.2.1 (by omega)]
      refine ⟨fun _ => ?_, fun z => absurd z q⟩
      refine j62 _ t K T hb (fs_rfl _ _) hx ?_ ?_ ?_ (by omega) (by omega)
      · unfold pTz
        rw [if_neg (show ¬ cK (.inr t) = 3 from q), if_neg w]
      · rw [if_neg (show ¬ cK (.inr t) = 3 from q)]; rfl
      · rw [if_neg (show ¬ cK (.inr t) = 3 from q)]; omega
