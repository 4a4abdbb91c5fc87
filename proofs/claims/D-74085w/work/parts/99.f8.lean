set_option maxRecDepth 100000
/-! TermDesk's text: a line, all -/
def hv (b : Nat → Nat) : Nat → Int32
  | 0 => 0
  | j + 1 => 31 * hv b j + nI (b j)
theorem hv_ext {a b : Nat → Nat} : ∀ L, (∀ j, j < L → a j = b j) → hv a L = hv b L := fun L => by
  induction L with
  | zero => intro _; rfl
  | succ L ih =>
    intro h
    show 31 * hv a L + nI (a L) = 31 * hv b L + nI (b L)
    rw [ih (fun j hj => h j (by omega)), h L (by omega)]
theorem b_255 : ∀ x, x < 256 → nI x &&& 255 = nI x := by decide
theorem hv_3 : (hv (bys 3) (slen.getD 3 0)).toInt = 3500592 := by decide +kernel
theorem hv_4 : (hv (bys 4) (slen.getD 4 0)).toInt = 3446732 := by decide +kernel
theorem xs_hash {b : Nat → Nat} {v w L : Nat} {K : XK} {T : XT} {post : Int32 → XT → Prop} (h1 : xi T v 1 = nI 0) (h2 : xi T v 2 = nI 0) (h3 : xi T v 3 = nI 0) (hr : xr T v 0 = some w) (hl : kl K w = L) (hL1 : 1 ≤ L) (hL5 : L ≤ 5) (hb : ∀ j, j < L → xi T w j = nI (b j) ∧ b j < 256) (hp : ∀ T', (∀ k j, ¬ (k = v ∧ (j = 2 ∨ j = 3)) → xi T' k j = xi T k j) → xr T' = xr T → post (hv b L) T') : wxJ4_hashCode v K T post := by
  have fin : ∀ r : Int32, r = hv b L → ((¬ r = 0 → ∀ T_8 : XT, T_8 = xwi T v 2 r → post r T_8) ∧ (r = 0 → ∀ T_9 : XT, T_9 = xwi T v 3 1 → post r T_9)) := fun r er => by
    subst er
    exact ⟨fun _ T1 e1 => hp T1 (fun k j hkj => by rw [e1, xi_wi, if_neg (by omega)]) (by rw [e1, xr_wi]), fun _ T1 e1 => hp T1 (fun k j hkj => by rw [e1, xi_wi, if_neg (by omega)]) (by rw [e1, xr_wi])⟩
  unfold wxJ4_hashCode
  rw [h2, h3]
  refine ⟨fun q => absurd rfl q, fun _ => ⟨fun q => absurd rfl q, fun _ => ?_⟩⟩
  unfold wxJ4_isLatin1
  rw [h1]
  refine ⟨fun q => absurd q (by decide), fun _ => ⟨fun q => absurd rfl q, fun _ => b11 rfl ⟨w, hr, ?_⟩⟩⟩
  unfold wxJ7_hashCode
  rw [hl]
  have tI : (nI L).toInt = (L : Int) := by
    have : ∀ L, L ≤ 5 → (nI L).toInt = (L : Int) := by decide
    exact this L hL5
  rw [tI]
  refine ⟨fun q => absurd q (by omega), fun q => ⟨0, by omega, rfl, ?_⟩, fun q1 q2 => ?_⟩
  · have e1 : L = 1 := by omega
    rw [(hb 0 (by omega)).1, b_255 _ (hb 0 (by omega)).2]
    refine fin _ ?_
    rw [e1]
    show nI (b 0) = 31 * 0 + nI (b 0)
    simp
  · unfold wxJ8_vectorizedHashCode
    refine ⟨fun _ => ?_, fun q => absurd q (by decide), fun q => absurd q (by decide), fun q => absurd q (by decide), fun q => absurd q (by decide), fun q => absurd q (by decide), fun q => absurd q (by decide), fun q => absurd q (by decide)⟩
    unfold wxJ8_signedHashCode
    intro x4 ex4
    have ex4 : x4 = nI L := by rw [ex4, li_0, nI_add, Nat.zero_add]
    subst ex4
    unfold wxJ8_signedHashCode_l8
    refine wl_up L (fun i (x : Int32 × Int32) => x.1 = hv b i ∧ x.2 = nI i) 0 (by omega) ⟨rfl, rfl⟩ ?_
    rintro i ⟨x0, x5⟩ hi ⟨e0, e5⟩ R hR
    dsimp only at e0 e5 ⊢
    subst e0 e5
    unfold wxJ8_signedHashCode_b8
    rw [nI_leI (by omega) (by omega)]
    refine ⟨fun q => ?_, fun q => ⟨i, by omega, rfl, fun x0 ex0 x5 ex5 => ?_⟩⟩
    · have : i = L := by omega
      subst this
      exact fin _ rfl
    · rw [(hb i (by omega)).1, b_255 _ (hb i (by omega)).2] at ex0
      rw [li_1, nI_add] at ex5
      exact hR (by omega) _ ⟨ex0, ex5⟩
theorem xs_line {c : Nat → Nat} {n z Z Y : Nat} {K0 K : XK} {T0 T : XT} {t : Tk} {ps : PS} {post xpost : XT → XK → Prop} (hc : cds c n) (hb : xb c n z K0 T0 K T) (hx : xcu c n z K T t) (hps : xps T ps) (hg : pgd 0 ps) (hZ : kc K + 194 ≤ Z) (hY : ks K + 873 ≤ Y)
    (hi : ∀ e p, (pLn c n ps (.inr t)).1 = .inl (e, p) → ∀ T' K', ff z T0 T' → kx K0 K' → kc K' = Z → ks K' = Y → xi T' 81 0 = nI e → xi T' 81 1 = nI p → xpost T' K')
    (hr : ∀ t', (pLn c n ps (.inr t)).1 = .inr t' → ∀ T' K', xb c n z K0 T0 K' T' → kc K' = Z → ks K' = Y → xcu c n z K' T' t' → xps T' (pLn c n ps (.inr t)).2 → post T' K') : wx4_line K T Z Y post xpost := by
  have h90 := hb.2.2.1
  obtain ⟨a7, a8, a9, an, ap, ak, a3, a2⟩ := hx
  unfold pLn at hi hr
  unfold wx4_line
  rw [a8, li_t2, tkc_e ak (by omega)]
  refine ⟨fun q => xs_must0 a9 (fun T2 hb2 => hi 1 t.2.1 ?_ T2 _ (xb_bad hb hb2) (kx_tr hb.2.2.2.2.2 (kx_set _ _ _)) rfl rfl hb2.2.1 hb2.2.2), fun q => xs_must1 ?_⟩
  · rw [if_neg (by rw [show cIs 3 (.inr t) = false from decide_eq_false fun w => q w.1]; decide), if_neg (by rw [show cIs 4 (.inr t) = false from decide_eq_false fun w => q w.1]; decide)]; rfl
  obtain ⟨v, w, L, r1, r2, r3, r4, r5, r6, r7, r8, r9, r10, r11, r12, r13, r14, r15, r16⟩ := a2 q
  unfold wx4_line_j17
  refine ⟨v, r1, ?_⟩
  refine xs_hash (b := fun j => c (t.2.1 + j)) r6 r7 r8 r9 r10 r11 r12 (fun j hj => ⟨(r13 j hj).1, by have := (r13 j hj).2; show c (t.2.1 + j) < 256; omega⟩) (fun T1 o1 or1 => ?_)
  have b1 : xb c n z K0 T0 K T1 := by
    obtain ⟨x1, x2, x3, x4, x5, x6⟩ := hb
    refine ⟨⟨by rw [o1 80 6 (by omega)]; exact x1.1, fun j hj => by rw [o1 79 j (by omega)]; exact x1.2 j hj⟩, x2, x3, x4, xf_tr x5 (fun k hk => ⟨funext fun j => o1 k j (fun z => ?_), by rw [or1]⟩), x6⟩
    have := z.1
    omega
  have o80 : ∀ j, xi T1 80 j = xi T 80 j := fun j => o1 80 j (by omega)
  have hps1 : xps T1 ps := by
    obtain ⟨p1, p2, p3, p4, p5⟩ := hps
    refine ⟨by rw [o80]; exact p1, fun w => by rw [o80, o80, o1 86 0 (by omega), o1 86 1 (by omega)]; exact p2 w, by rw [o80]; exact p3, fun i hi2 => ?_, p5⟩
    obtain ⟨mi, hmi⟩ := p4 i hi2
    exact ⟨mi, xen_g hmi (funext fun j => o1 83 j (by omega)) (funext fun j => o1 84 j (by omega)) (funext fun j => o1 85 j (by omega))⟩
  have c1 : ∀ i, cIs i (.inr t) = true ↔ vln c 256 0 t.2.1 L = wds i := fun i => by
    show decide (t.1 = 2 ∧ t.2.2.1 = wds i) = true ↔ _
    rw [decide_eq_true_eq, r14]
    exact ⟨fun z => z.2, fun z => ⟨q, z⟩⟩
  have hb1 : ∀ j, j < L → xi T1 w j = nI (c (t.2.1 + j)) ∧ 97 ≤ c (t.2.1 + j) ∧ c (t.2.1 + j) ≤ 122 := fun j hj => by rw [o1 w j (fun z => r15 z.1.symm)]; exact r13 j hj
  have v1 : xi T1 v 1 = nI 0 := by rw [o1 v 1 (by omega)]; exact r6
  have v0 : xr T1 v 0 = some w := by rw [or1]; exact r9
  have hsh : ∀ i, i < 10 → cIs i (.inr t) = true → hv (fun j => c (t.2.1 + j)) L = hv (bys i) (slen.getD i 0) := fun i hi10 hq => by
    have e := (c1 i).1 hq
    obtain ⟨f1, f2⟩ := sby_f i (by omega)
    rw [f2, vln_nv, pre_nv] at e
    obtain ⟨e1, e2⟩ := nv_inj _ _ (fun j hj => by have := r13 j hj; show 1 ≤ c (t.2.1 + j) ∧ c (t.2.1 + j) < 256; omega) (fun j hj => ⟨bys_1 i hi10 j hj, (bys_f i (by omega) j (by omega)).2⟩) e
    rw [← e1]
    exact hv_ext L e2
  have jno : ¬ cIs 3 (.inr t) = true → ¬ cIs 4 (.inr t) = true → wx4_line_j81 Z Y post xpost (-1) K T1 := fun n3 n4 => by
    unfold wx4_line_j81
    refine ⟨fun z => absurd z (by decide), fun z => absurd z (by decide), fun _ _ => ?_⟩
    rw [li_1]
    refine xs_fail (p := t.2.1) (by rw [o80]; exact a9) (fun T2 hb2 => ⟨rfl, hi 1 t.2.1 ?_ T2 _ (xb_bad b1 hb2) (kx_tr b1.2.2.2.2.2 (kx_set _ _ _)) rfl rfl hb2.2.1 hb2.2.2⟩)
    rw [if_neg n3, if_neg n4]; rfl
  by_cases n3 : cIs 3 (.inr t) = true
  · have eh : (hv (fun j => c (t.2.1 + j)) L).toInt = 3500592 := by rw [hsh 3 (by omega) n3]; exact hv_3
    rw [if_pos n3] at hi hr
    refine ⟨fun z => absurd (eh.symm.trans z) (by decide), fun _ => ?_, fun _ z => absurd eh z⟩
    refine xs_equals (i := 3) (s := t.2.1) (by omega) v1 v0 r10 r12 hb1 (fun _ => b11 rfl ?_) (fun z => absurd ((c1 3).1 n3) z)
    unfold wx4_line_j81
    refine ⟨fun _ => ⟨Z, Y, by omega, Nat.le_refl _, by omega, Nat.le_refl _, ?_⟩, fun z => absurd z (by decide), fun z => absurd (by decide) z⟩
    exact xs_ringLine hc b1 (by rw [o80]; exact a7) (by rw [o80]; exact a9) an hps1 (by omega) (by omega) (fun e p he T2 K2 f2 k2 c2 s2 w0 w1 => hi e p he T2 _ f2 (kx_tr k2 (kx_set _ _ _)) rfl rfl w0 w1) (fun t' et' T2 K2 b2 c2 s2 y2 p2 => hr t' et' T2 _ (xb_k b2) rfl rfl y2 p2)
  · by_cases n4 : cIs 4 (.inr t) = true
    · have eh : (hv (fun j => c (t.2.1 + j)) L).toInt = 3446732 := by rw [hsh 4 (by omega) n4]; exact hv_4
      rw [if_neg n3, if_pos n4] at hi hr
      refine ⟨fun _ => ?_, fun z => absurd (eh.symm.trans z) (by decide), fun z => absurd eh z⟩
      refine xs_equals (i := 4) (s := t.2.1) (by omega) v1 v0 r10 r12 hb1 (fun _ => b11 rfl ?_) (fun z => absurd ((c1 4).1 n4) z)
      unfold wx4_line_j81
      refine ⟨fun z => absurd z (by decide), fun _ => ⟨Z, Y, by omega, Nat.le_refl _, by omega, Nat.le_refl _, ?_⟩, fun _ z => absurd (by decide) z⟩
      exact xs_polyLine hc b1 (by rw [o80]; exact a7) (by rw [o80]; exact a9) an hps1 hg (by omega) (by omega) (fun e p he T2 K2 f2 k2 c2 s2 w0 w1 => hi e p he T2 _ f2 (kx_tr k2 (kx_set _ _ _)) rfl rfl w0 w1) (fun t' et' T2 K2 b2 c2 s2 y2 p2 => hr t' et' T2 _ (xb_k b2) rfl rfl y2 p2)
    · refine ⟨fun _ => xs_equals (i := 4) (s := t.2.1) (by omega) v1 v0 r10 r12 hb1 (fun z => absurd ((c1 4).2 z) n4) (fun _ => b01 rfl (jno n3 n4)), fun _ => xs_equals (i := 3) (s := t.2.1) (by omega) v1 v0 r10 r12 hb1 (fun z => absurd ((c1 3).2 z) n3) (fun _ => b01 rfl (jno n3 n4)), fun _ _ => jno n3 n4⟩
/-- how many lines were taken -/
def lnc (ps : PS) : Nat := ps.2.2.2.2.1 + (if 0 < ps.1 then 1 else 0)
theorem pPl_n {c : Nat → Nat} {n : Nat} : ∀ f m ps (x : Cu) (t : Tk), f + m = 13 → m ≤ 12 → (pPl c n f m ps x).1 = .inr t → (pPl c n f m ps x).2.1 = ps.1 ∧ (pPl c n f m ps x).2.2.2.2.2.1 = ps.2.2.2.2.1 + 1 := fun f => by
  induction f with
  | zero => intro m ps x t h1 h2; omega
  | succ f ih =>
    intro m ps x t h1 h2 h
    cases x with
    | inl e => rw [pPl_l] at h; cases h
    | inr t0 =>
      rw [pPl_s] at h ⊢
      by_cases w : t0.1 = 5 ∨ t0.1 = 6
      · rw [if_pos w] at h ⊢
        by_cases w2 : m = 12
        · rw [if_pos w2] at h; exact absurd h (cF_r (e := 5) (x := .inr t0))
        · rw [if_neg w2] at h ⊢
          have := ih (m + 1) _ _ t (by omega) (by omega) h
          rw [pTm_k.1, pTm_k.2] at this
          exact this
      · rw [if_neg w]
        exact ⟨rfl, rfl⟩
theorem lnc_s {c : Nat → Nat} {n : Nat} {ps : PS} {x : Cu} {t : Tk} (h : (pLn c n ps x).1 = .inr t) : lnc (pLn c n ps x).2 = lnc ps + 1 := by
  unfold pLn at h ⊢
  by_cases w : cIs 3 x = true
  · rw [if_pos w] at h ⊢
    obtain ⟨p0, p, hw, u0, u1, h1, h2, h3⟩ := pRg_r h
    have := h1.1
    rw [h3]
    unfold lnc
    rw [if_pos (show 0 < p by omega), if_neg (by omega)]
  · rw [if_neg w] at h ⊢
    by_cases w2 : cIs 4 x = true
    · rw [if_pos w2] at h ⊢
      obtain ⟨less, z, e, hz⟩ := pPy_e c n ps x
      rw [e] at h ⊢
      have := pPl_n 12 1 _ _ t rfl (by omega) h
      rw [pTm_k.1, pTm_k.2] at this
      unfold lnc
      rw [this.1, this.2]
      omega
    · rw [if_neg w2] at h; exact absurd h cF_r
theorem xs_read {c : Nat → Nat} {n Z Y : Nat} {K : XK} {T : XT} {post xpost : XT → XK → Prop} (hc : cds c n) (ht : ∀ j, j < n → (xi T 79 j) &&& 255 = nI (c j)) (h82 : kl K 82 = 5) (hz : 90 ≤ kz K) (hZ : kc K + 1568 ≤ Z) (hY : ks K + 7056 ≤ Y)
    (hi : ∀ e p, (pTx c n).1 = .inl (e, p) → ∀ T' K', ff (kz K) T T' → kx K K' → kc K' = Z → ks K' = Y → xi T' 81 0 = nI e → xi T' 81 1 = nI p → xpost T' K')
    (hr : ∀ t', (pTx c n).1 = .inr t' → ¬ (pTx c n).2.1 = 0 → ∀ T' K', xb c n (kz K) K T K' T' → kc K' = Z → ks K' = Y → xps T' (pTx c n).2 → post T' K') : wx4_read (nI n) K T Z Y post xpost := by
  unfold wx4_read
  intro T1 e1 T2 e2 T3 e3 T4 e4
  have o4 : ∀ k, k ≠ 80 → xi T4 k = xi T k := fun k hk => by
    funext j
    rw [e4, xi_wi, if_neg (by omega), e3, xi_wi, if_neg (by omega), e2, xi_wi, if_neg (by omega), e1, xi_wi, if_neg (by omega)]
  have x6 : xi T4 80 6 = nI n := by rw [e4, xi_wi, if_neg (by omega), e3, xi_wi, if_neg (by omega), e2, xi_wi, if_neg (by omega), e1, xi_wi, if_pos ⟨rfl, rfl⟩]
  have x7 : xi T4 80 7 = nI 0 := by rw [e4, xi_wi, if_neg (by omega), e3, xi_wi, if_neg (by omega), e2, xi_wi, if_pos ⟨rfl, rfl⟩]; rfl
  have x15 : xi T4 80 15 = nI 0 := by rw [e4, xi_wi, if_neg (by omega), e3, xi_wi, if_pos ⟨rfl, rfl⟩]; rfl
  have x13 : xi T4 80 13 = nI 0 := by rw [e4, xi_wi, if_pos ⟨rfl, rfl⟩]; rfl
  have b4 : xb c n (kz K) K T K T4 := ⟨⟨x6, fun j hj => by rw [o4 79 (by omega)]; exact ht j hj⟩, h82, hz, Nat.le_refl _, by rw [e4, e3, e2, e1]; exact xf_tr (xf_tr (xf_tr (xf_wi (by omega)) (xf_wi (by omega))) (xf_wi (by omega))) (xf_wi (by omega)), kx_rfl _⟩
  have p4 : xps T4 ps0 := ⟨by rw [if_neg (show ¬ 0 < ps0.1 by show ¬ 0 < 0; omega)]; exact x15, fun w => absurd w (by show ¬ 0 < 0; omega), x13, fun i hi2 => absurd hi2 (by show ¬ i < 0; omega), fun _ => rfl⟩
  refine xs_go hc b4 x7 (Nat.zero_le _) (by omega) (by omega) (fun T5 K5 b5 f5 k5 c5 s5 y5 => ?_)
  unfold pTx at hi hr
  have p5 := xps_s hz p4 f5
  have hok := fun (t' : Tk) => @pgd_Ln c n ps0 (.inr (tok c n 0)) t' pgd_0
  have hln := fun (t' : Tk) => @lnc_s c n ps0 (.inr (tok c n 0)) t'
  generalize tok c n 0 = t0 at y5 hi hr hok hln
  refine ⟨kc K5 + 194, ks K5 + 873, by omega, by omega, by omega, by omega, ?_⟩
  refine xs_line hc b5 y5 p5 pgd_0 (Nat.le_refl _) (Nat.le_refl _) (fun e p he T6 K6 f6 k6 c6 s6 w0 w1 => hi e p (by rw [he, pAl_l]) T6 _ f6 (kx_tr k6 (kx_set _ _ _)) rfl rfl w0 w1) (fun t6 et6 T6 K6 b6 c6 s6 y6 p6 => ?_)
  have hok := hok t6 et6
  have hln := hln t6 et6
  rw [et6] at hi hr
  generalize (pLn c n ps0 (.inr t0)).2 = ps6 at hi hr hok hln p6
  have hln : lnc ps6 = 1 := hln
  generalize hG : pAl c n 702 ps6 (.inr t6) = G at hi hr
  unfold wx4_read_l28
  refine wl_n (fun m (v : XT × XK) => ∃ ps' ty f, m + lnc ps' = 8 ∧ f + lnc ps' = 703 ∧ lnc ps' ≤ 7 ∧ pgd 0 ps' ∧ pAl c n f ps' (.inr ty) = G ∧ xb c n (kz K) K T v.2 v.1 ∧ xcu c n (kz K) v.2 v.1 ty ∧ xps v.1 ps' ∧ kc v.2 + 196 * (8 - lnc ps') ≤ Z ∧ ks v.2 + 882 * (8 - lnc ps') ≤ Y) 7 ⟨ps6, t6, 702, by omega, by omega, by omega, hok, hG, b6, y6, p6, by show kc K6 + 196 * (8 - lnc ps6) ≤ Z; omega, by show ks K6 + 882 * (8 - lnc ps6) ≤ Y; omega⟩ ?_
  rintro m ⟨T7, K7⟩ ⟨ps7, t7, f, hm, hf, h7, g7, hz7, b7, y7, p7, c7, s7⟩ R hR
  dsimp only at b7 y7 p7 c7 s7 ⊢
  obtain ⟨f, rfl⟩ : ∃ f', f = f' + 1 := ⟨f - 1, by omega⟩
  rw [pAl_s] at hz7
  have k7 := y7.2.2.2.2.2.1
  have bad : ∀ e p T8, G.1 = .inl (e, p) → xbad e p T7 T8 → xpost T8 (kset K7 Z Y) := fun e p T8 hx hb2 => hi e p hx T8 _ (xb_bad b7 hb2) (kx_tr b7.2.2.2.2.2 (kx_set _ _ _)) rfl rfl hb2.2.1 hb2.2.2
  unfold wx4_read_b28
  rw [y7.2.1, li_t4, tkc_e k7 (by omega)]
  refine ⟨fun q => ?_, fun q => ?_⟩
  · rw [if_neg (show ¬ cK (.inr t7) = 4 from q)] at hz7
    rw [li_t1, tkc_e k7 (by omega)]
    refine ⟨fun q2 => xs_must0 y7.2.2.1 (fun T8 hb8 => bad 1 _ T8 ?_ hb8), fun q2 => xs_must1 ?_⟩
    · rw [← hz7, if_neg (show ¬ cK (.inr t7) = 1 from q2)]; rfl
    · rw [if_pos (show cK (.inr t7) = 1 from q2)] at hz7
      dsimp only at hz7
      unfold wx4_read_j64
      rw [p7.1]
      by_cases hp : 0 < ps7.1
      · rw [if_pos hp]
        rw [if_neg (by omega)] at hz7
        rw [← hz7] at hr
        exact xs_good1 (hr t7 rfl (by show ¬ ps7.1 = 0; omega) T7 _ (xb_k b7) rfl rfl p7)
      · rw [if_neg hp]
        rw [if_pos (by omega)] at hz7
        refine xs_good0 li_6 y7.2.2.1 (fun T8 hb8 => bad 6 _ T8 ?_ hb8)
        rw [← hz7]; rfl
  · rw [if_pos (show cK (.inr t7) = 4 from q)] at hz7
    refine xs_go hc b7 y7.1 y7.2.2.2.1 (by omega) (by omega) (fun T8 K8 b8 f8 k8 c8 s8 y8 => ?_)
    have ecn : cN c n (.inr t7) = .inr (tok c n t7.2.2.2) := rfl
    rw [ecn] at hz7
    generalize tok c n t7.2.2.2 = tq at y8 hz7
    refine ⟨kc K8 + 194, ks K8 + 873, by omega, by omega, by omega, by omega, ?_⟩
    refine xs_line hc b8 y8 (xps_s hz p7 f8) g7 (Nat.le_refl _) (Nat.le_refl _) (fun e p he T9 K9 f9 k9 c9 s9 w0 w1 => hi e p (by rw [← hz7, he, pAl_l]) T9 _ f9 (kx_tr k9 (kx_set _ _ _)) rfl rfl w0 w1) (fun t9 et9 T9 K9 b9 c9 s9 y9 p9 => ?_)
    have ok9 := pgd_Ln g7 et9
    have ln9 := lnc_s et9
    rw [et9] at hz7
    have l67 : lnc (pLn c n ps7 (.inr tq)).2 ≤ 7 := by
      have := ok9.2.1
      unfold lnc
      split <;> omega
    refine hR (m - 1) _ (by omega) ⟨_, t9, f, by omega, by omega, l67, ok9, hz7, b9, y9, p9, ?_, ?_⟩
    · show kc K9 + 196 * (8 - lnc (pLn c n ps7 (.inr tq)).2) ≤ Z
      omega
    · show ks K9 + 882 * (8 - lnc (pLn c n ps7 (.inr tq)).2) ≤ Y
      omega
