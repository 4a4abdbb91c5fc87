set_option maxRecDepth 100000
/-! TermDesk: contents, primitive parts -/
/-- one row becomes that by another one, which divides it -/
theorem xs_dividesBy {p : Nat} [NeZero p] {K : XK} {T : XT} {v1 v2 : Nat} {a b : PR (Fin p)} {post : XT → Prop} (hp : pr p) (hc : xcx p K T) (w1 : isw v1) (w2 : isw v2) (h12 : v1 ≠ v2) (h17 : v1 ≠ 77) (h27 : v2 ≠ 77) (ha : rwx T v1 a.1) (hb : rwx T v2 b.1) (hxa : xl a 2304) (hxb : xl b 2304) (hb0 : b ≠ pz) (hdv : dv b a) (hpost : ∀ T' q, xf (fun k => k = v1 ∨ k = 77) T T' → rwx T' v1 q.1 → a = pr_mul q b → post T') : wx1_dividesBy v1 v2 K T post := by
  have h97 := hp.2.1
  have l1 := isw_l hc w1
  have l2 := isw_l hc w2
  have l7 : kl K 77 = 2304 := isw_l hc (Or.inr (by omega))
  have nv : v1 ≠ 0 ∧ v1 ≠ 1 := by unfold isw at w1; omega
  unfold wx1_dividesBy
  refine xs_topw h97 hc w2 hb hxb (fun n hn hh => ?_)
  cases n with
  | zero => exact absurd (hgt_0 hh) hb0
  | succ d =>
    have hd := hgt_xd hh
    rw [hI_s]
    refine xs_fill (by omega) (fun T0 f0 _ z0 _ => ?_)
    have F0 : xf (fun k => k = v1 ∨ k = 77) T T0 := xf_mono f0 fun k hk => Or.inr hk
    have c0 := xcx_t hc F0 (by omega) (by omega)
    have ha0 := rwx_keep ha f0 h17
    have q0 : rwx T0 77 (pz : PR (Fin p)).1 := fun y hy => by rw [z0 y (by omega), pz_i]; exact li_0
    refine xs_topw h97 c0 w1 ha0 hxa (fun n0 hn0 hh0 => ?_)
    unfold wx1_dividesBy_l19
    refine wl_n (fun n v => v.1 = hI n ∧ n ≤ 2304 ∧ xf (fun k => k = v1 ∨ k = 77) T v.2 ∧ ∃ a' q, rwx v.2 v1 a'.1 ∧ rwx v.2 77 q.1 ∧ a = pr_add (pr_mul q b) a' ∧ xl a' n ∧ ∀ i, i < n - d → q.1 i = 0) n0 ⟨rfl, hn0, F0, a, pz, ha0, q0, ?_, hh0.1, fun i _ => pz_i i⟩ ?_
    · have : pr_mul (pz : PR (Fin p)) b = pz := pr_zero b
      rw [this]
      letI := PRr (Fin p)
      show a = 0 + a
      grind
    · rintro n ⟨x4, T1⟩ ⟨hx4, hn', f1, a', q, ha', hq', hq, hxn, hlow⟩ R hR
      dsimp only at hx4 f1 ha' hq'
      subst hx4
      have c1 := xcx_t hc f1 (by omega) (by omega)
      have hb1 := rwx_keep hb f1 (by omega)
      unfold wx1_dividesBy_b19
      dsimp only
      rw [hI_ltn (by omega) (by omega)]
      refine ⟨fun c => ?_, fun c => ?_⟩
      · have hdv' : dv b a' := by
          obtain ⟨q0, e0⟩ := hdv
          refine ⟨pr_add q0 (pr_neg q), ?_⟩
          letI := PRr (Fin p)
          have e0 : a = q0 * b := e0
          have hq : a = q * b + a' := hq
          show a' = (q0 + - q) * b
          grind
        have hz := dv_low (dm_fd (fdp hp)) hdv' hd (xl_mono hxn c)
        refine ⟨0, 0, 2304, rfl, rfl, by rw [l1], by omega, by omega, fun T2 e2 => hpost T2 q ?_ (fun y hy => ?_) ?_⟩
        · rw [e2]
          exact xf_tr f1 (xf_cpy (Or.inl rfl))
        · rw [e2, xi_cpy, if_pos ⟨rfl, by omega, by omega⟩, show 0 + (y - 0) = y by omega]
          exact hq' y hy
        · rw [hq, hz]
          letI := PRr (Fin p)
          show q * b + 0 = q * b
          grind
      · obtain ⟨m, rfl⟩ : ∃ m, n = m + 1 := ⟨n - 1, by omega⟩
        rw [hI_s, pk_sub (by omega)]
        refine ⟨m, by omega, rfl, d, by omega, rfl, (b.1 d).val, by have := (b.1 d).isLt; omega, hb1 d (by omega), by rw [c1.1]; exact n_ne0 hp, fun x5 e5 => ⟨m - d, by omega, rfl, fun T2 e2 => ?_⟩⟩
        rw [c1.1, ha' m (by omega), c1.2.1 _ (fpos hd.1) (b.1 d).isLt, ← fiv_v hp hd.1, nF_mm h97] at e5
        subst e5
        have ht : (a'.1 m * fiv (b.1 d)) * b.1 d = a'.1 m := by
          have := fiv_ok hp hd.1
          have e : a'.1 m * fiv (b.1 d) * b.1 d = a'.1 m * (b.1 d * fiv (b.1 d)) := by grind
          rw [e, this]; grind
        generalize a'.1 m * fiv (b.1 d) = t at ht e2 ⊢
        have f2 : xf (fun k => k = 77) T1 T2 := by rw [e2]; exact xf_wi rfl
        have f12 : xf (fun k => k = v1 ∨ k = 77) T T2 := xf_tr f1 (xf_mono f2 fun k hk => Or.inr hk)
        have wq : rwx T2 77 (pr_add q (pr_mul (pr_c t) (px (m - d)))).1 := fun y hy => by
          have e : (pr_add q (pr_mul (pr_c t) (px (m - d)))).1 y = q.1 y + t * (if y = m - d then 1 else 0) := by
            show q.1 y + (pr_mul (pr_c t) (px (m - d))).1 y = _
            rw [pr_mul_c]
            rfl
          rw [e, e2, xi_wi]
          by_cases w : y = m - d
          · rw [if_pos ⟨rfl, w⟩, if_pos w, w, hlow (m - d) (by omega)]
            congr 2
            grind
          · rw [if_neg (fun z => w z.2), if_neg w, hq' y hy]
            congr 2
            grind
        unfold wx1_dividesBy_l59
        refine wl_up (d + 1) (fun k v => v.1 = nI k ∧ xf (fun k => k = v1 ∨ k = 77) T v.2 ∧ rwx v.2 77 (pr_add q (pr_mul (pr_c t) (px (m - d)))).1 ∧ rwx v.2 v1 (fun i => if m - d ≤ i ∧ i < m - d + k then a'.1 i - t * b.1 (i - (m - d)) else a'.1 i)) 0 (by omega) ⟨rfl, f12, wq, rwx_cg (rwx_keep ha' f2 h17) fun y _ => (if_neg (by omega)).symm⟩ ?_
        rintro k ⟨x6, T3⟩ hk ⟨hx6, f3, q3, r3'⟩ R2' hR2
        dsimp only at hx6 f3 q3 r3'
        subst hx6
        have c3' := xcx_t hc f3 (by omega) (by omega)
        have out : (k = d + 1 ∨ t = 0) → wx1_dividesBy_j106 v1 v2 post (fun x4 T => R (x4, T)) (nI d) (nI m) K T3 := fun ho x e => by
          refine hR m _ (by omega) ⟨e, by omega, f3, tof a' b t (m - d), _, ?_, q3, tof_eq hq, tof_xl hxn hd.2 (by omega) ht, fun i hi => ?_⟩
          · rcases ho with ho | ho
            · subst ho
              exact rwx_cg r3' (fun y _ => tof_part hd.2 y)
            · refine rwx_cg r3' (fun y _ => ?_)
              rw [tof_at, ho]
              by_cases w : m - d ≤ y ∧ y < m - d + k
              · rw [if_pos w]; grind
              · rw [if_neg w]; grind
          · show q.1 i + (pr_mul (pr_c t) (px (m - d))).1 i = 0
            rw [pr_mul_c, hlow i (by omega)]
            have : (px (m - d) : PR (Fin p)).1 i = 0 := if_neg (by omega)
            rw [this]; grind
        unfold wx1_dividesBy_b59
        dsimp only
        rw [nI_ltI (by omega) (by omega), nF_0 _ h97]
        refine ⟨fun c3 => out (Or.inl (by omega)), fun c3 => ⟨fun z => out (Or.inr z), fun z => ?_⟩⟩
        rw [pk_sub (by omega), nI_add]
        refine ⟨m - d + k, by omega, rfl, k, by omega, rfl, ?_⟩
        rw [r3' (m - d + k) (by omega), rwx_keep hb f3 (by omega) k (by omega)]
        dsimp only
        rw [if_neg (by omega)]
        refine xs_red hp c3' ⟨m - d + k, by omega, rfl, fun T4 e4 x6 e6 => ?_⟩
        subst e6
        refine hR2 (by omega) _ ⟨by dsimp only; rw [li_1, nI_add], ?_, ?_, fun y hy => ?_⟩
        · dsimp only
          rw [e4]
          exact xf_tr f3 (xf_wi (Or.inl rfl))
        · dsimp only
          rw [e4]
          exact rwx_keep q3 (xf_wi (P := fun k => k = v1) rfl) (fun w => h17 w.symm)
        · dsimp only
          rw [e4, xi_wi]
          by_cases w : y = m - d + k
          · rw [if_pos ⟨rfl, w⟩, if_pos (by omega), w, show m - d + k - (m - d) = k by omega]
          · rw [if_neg (fun z => w z.2), rwx_at r3' hy]
            by_cases w3 : m - d ≤ y ∧ y < m - d + k
            · rw [if_pos w3, if_pos (by omega)]
            · rw [if_neg w3, if_neg (by omega)]
/-- rows by x -/
def rgx {p : Nat} [NeZero p] (T : XT) (g : Nat) (G : R2 (Fin p)) : Prop := (∀ x, x < 16 → xr T g x = some (g + 1 + x) ∧ rwx T (g + 1 + x) (G.1 x).1) ∧ yl G 2303 ∧ xl2 G 16
theorem rgx_keep {p : Nat} [NeZero p] {T T' : XT} {g : Nat} {G : R2 (Fin p)} {P : Nat → Prop} (h : rgx T g G) (hf : xf P T T') (hg : ∀ x, x < 17 → ¬ P (g + x)) : rgx T' g G := ⟨fun x hx => ⟨by rw [(hf g (hg 0 (by omega))).2]; exact (h.1 x hx).1, rwx_keep (h.1 x hx).2 hf (by have := hg (x + 1) (by omega); rw [show g + 1 + x = g + (x + 1) by omega]; exact this)⟩, h.2⟩
def isg (g : Nat) : Prop := g = 41 ∨ g = 58
theorem isg_l {p : Nat} {K : XK} {T : XT} {g : Nat} (hc : xcx p K T) (h : isg g) : kl K g = 16 := by
  rcases h with e | e
  · rw [e]; exact hc.2.2 41 (by omega)
  · rw [e]; exact hc.2.2 58 (by omega)
theorem isg_w {g x : Nat} (h : isg g) (hx : x < 16) : isw (g + 1 + x) := by unfold isg at h; unfold isw; omega
theorem xs_contentOf {p : Nat} [NeZero p] {K : XK} {T : XT} {g : Nat} {G : R2 (Fin p)} {post : Nat → XT → Prop} (hp : pr p) (hc : xcx p K T) (hg : isg g) (hG : rgx T g G) (hpost : ∀ T' v c, xf (fun k => k = 75 ∨ k = 76) T T' → (v = 75 ∨ v = 76) → rwx T' v c.1 → xl c 2304 → gcr G c → post v T') : wx1_contentOf g K T post := by
  have h97 := hp.2.1
  have l75 : kl K 75 = 2304 := isw_l hc (Or.inr (by omega))
  have l76 : kl K 76 = 2304 := isw_l hc (Or.inr (by omega))
  have lg := isg_l hc hg
  have hg' : g = 41 ∨ g = 58 := hg
  unfold wx1_contentOf
  refine xs_fill (by omega) (fun T0 f0 _ z0 _ x5 e5 => ?_)
  rw [lg] at e5
  subst e5
  have q0 : rwx T0 75 (pz : PR (Fin p)).1 := fun y hy => by rw [z0 y (by omega), pz_i]; exact li_0
  unfold wx1_contentOf_l26
  refine wl_up 16 (fun x v => ((v.1 = 75 ∧ v.2.1 = 76) ∨ (v.1 = 76 ∧ v.2.1 = 75)) ∧ v.2.2.1 = nI x ∧ xf (fun k => k = 75 ∨ k = 76) T v.2.2.2 ∧ ∃ c, rwx v.2.2.2 v.1 c.1 ∧ xl c 2304 ∧ (∀ j, j < x → dv c (G.1 j)) ∧ ∃ s, @sg _ (PRr (Fin p)) (fun j => pr_mul (s j) (G.1 j)) 16 = c) 0 (by omega) ⟨Or.inl ⟨rfl, rfl⟩, rfl, xf_mono f0 fun k hk => Or.inl hk, pz, q0, xl_pz _, fun j hj => absurd hj (by omega), fun _ => pz, @sg_0 _ (PRr (Fin p)) _ _ fun j _ => pr_zero _⟩ ?_
  rintro x ⟨x2, x3, x6, T1⟩ hx ⟨hv, hx6, f1, c, rc, hxc, hdv, s, hs⟩ R hR
  dsimp only at hv hx6 f1 rc
  subst hx6
  have c1 := xcx_t hc f1 (by omega) (by omega)
  have hG1 := rgx_keep hG f1 (fun x hx => by omega)
  have iw2 : isw x2 := by unfold isw; omega
  have iw3 : isw x3 := by unfold isw; omega
  have l2 := isw_l c1 iw2
  have l3 := isw_l c1 iw3
  unfold wx1_contentOf_b26 wx1_contentOf_j114
  dsimp only
  rw [nI_leI (by omega) (by omega)]
  refine ⟨fun c3 => ?_, fun c3 => ?_⟩
  · -- the highest made 1
    have hall : ∀ j, dv c (G.1 j) := fun j => by
      by_cases w : j < 16
      · exact hdv j (by omega)
      · have : G.1 j = pz := hG.2.2 j (by omega)
        rw [this]; exact dv_pz c
    refine xs_topw h97 c1 iw2 rc hxc (fun n hn hh => ?_)
    rw [show (0 : Int32) = nI 0 from li_0, hI_nle (by omega) (by omega)]
    refine ⟨fun c4 => ?_, fun c4 => ?_⟩
    · obtain ⟨d, rfl⟩ : ∃ d, n = d + 1 := ⟨n - 1, by omega⟩
      have hd := hgt_xd hh
      rw [hI_s]
      refine ⟨d, by omega, rfl, (c.1 d).val, by have := (c.1 d).isLt; omega, rc d (by omega), ?_⟩
      rw [c1.2.1 _ (fpos hd.1) (c.1 d).isLt, ← fiv_v hp hd.1]
      unfold wx1_contentOf_l117
      refine wl_up (d + 1) (fun i v => v.1 = nI i ∧ xf (fun k => k = 75 ∨ k = 76) T v.2 ∧ rwx v.2 x2 (fun y => if y < i then c.1 y * fiv (c.1 d) else c.1 y)) 0 (by omega) ⟨rfl, f1, rwx_cg rc fun y _ => (if_neg (by omega)).symm⟩ ?_
      rintro i ⟨x6, T2⟩ hi ⟨hx6, f2, r2⟩ R2' hR2
      dsimp only at hx6 f2 r2
      subst hx6
      have c2' := xcx_t hc f2 (by omega) (by omega)
      unfold wx1_contentOf_b117
      dsimp only
      rw [nI_ltI (by omega) (by omega)]
      refine ⟨fun c5 => ?_, fun c5 => ⟨i, by omega, rfl, by rw [c2'.1]; exact n_ne0 hp, i, by omega, rfl, fun T3 e3 x6 e6 => ?_⟩⟩
      · have e : i = d + 1 := by omega
        subst e
        have hu := fiv_ne hp hd.1
        obtain ⟨w, hw⟩ := (fdp hp).2 _ hu
        have e1 : fiv (c.1 d) * c.1 d = 1 := by
          have := fiv_ok hp hd.1
          rw [← this]; grind
        refine hpost T2 x2 (pr_mul (pr_c (fiv (c.1 d))) c) f2 (by omega) (rwx_cg r2 fun y _ => ?_) (xl_cm hxc) ⟨fun j => ?_, ⟨fun j => pr_mul (pr_c (fiv (c.1 d))) (s j), ?_⟩, Or.inr ⟨d, ⟨?_, xl_cm hd.2⟩, ?_⟩⟩
        · rw [pr_mul_c]
          by_cases w : y < d + 1
          · rw [if_pos w]; grind
          · rw [if_neg w, hd.2 y (by omega)]; grind
        · refine dv_tr ⟨pr_c w, ?_⟩ (hall j)
          rw [← pr_mul_assoc, ← pc_mul]
          have : w * fiv (c.1 d) = 1 := by rw [← hw]; grind
          rw [this, pr_one]
        · have e2 : pr_mul (pr_c (fiv (c.1 d))) (@sg _ (PRr (Fin p)) (fun j => pr_mul (s j) (G.1 j)) 16) = @sg _ (PRr (Fin p)) (fun j => pr_mul (pr_c (fiv (c.1 d))) (pr_mul (s j) (G.1 j))) 16 := (@sg_L _ (PRr (Fin p)) _ _ 16).symm
          rw [hs] at e2
          rw [e2]
          refine @sg_ext _ (PRr (Fin p)) _ _ _ fun j _ => ?_
          exact pr_mul_assoc _ _ _
        · rw [pr_mul_c, e1]
          exact fin_10 hp
        · rw [pr_mul_c, e1]
      · rw [c2'.1, r2 i (by omega)] at e3
        dsimp only at e3
        rw [if_neg (by omega), nF_mm h97] at e3
        subst e6
        refine hR2 (by omega) _ ⟨by dsimp only; rw [li_1, nI_add], ?_, fun y hy => ?_⟩
        · dsimp only
          rw [e3]
          exact xf_tr f2 (xf_wi (by omega))
        · dsimp only
          rw [e3, xi_wi]
          by_cases w : y = i
          · rw [if_pos ⟨rfl, w⟩, if_pos (by omega), w]
          · rw [if_neg (fun z => w z.2), rwx_at r2 hy]
            by_cases w3 : y < i
            · rw [if_pos w3, if_pos (by omega)]
            · rw [if_neg w3, if_neg (by omega)]
    · have n0 : n = 0 := by omega
      subst n0
      have hz := hgt_0 hh
      rw [hI_0]
      unfold wx1_contentOf_l117
      refine wl_n (fun _ v => v = (nI 0, T1)) 0 rfl ?_
      rintro _ v rfl R2' hR2
      unfold wx1_contentOf_b117
      dsimp only
      refine ⟨fun _ => hpost T1 x2 c f1 (by omega) rc hxc ⟨hall, ⟨s, hs⟩, Or.inl hz⟩, fun w => absurd (by decide) w⟩
  · -- one row more
    obtain ⟨g1, g2⟩ := hG1.1 x (by omega)
    have lr := isw_l c1 (isg_w hg (show x < 16 by omega))
    refine ⟨x, by omega, rfl, g + 1 + x, g1, 0, 0, 2304, rfl, rfl, li_2304, by omega, by omega, fun T2 e2 => ?_⟩
    have f2 : xf (fun k => k = x3) T1 T2 := by rw [e2]; exact xf_cpy rfl
    have f12 : xf (fun k => k = 75 ∨ k = 76) T T2 := xf_tr f1 (xf_mono f2 fun k hk => by omega)
    have b2 : rwx T2 x3 (G.1 x).1 := fun y hy => by
      rw [e2, xi_cpy, if_pos ⟨rfl, by omega, by omega⟩, show 0 + (y - 0) = y by omega]
      exact g2 y hy
    have a2' := rwx_keep rc f2 (by omega)
    have hxg := hG.2.1 x
    obtain ⟨n0, hn0⟩ := hgt_ex (G.1 x)
    unfold wx1_contentOf_l51
    refine wl_n (fun n v => ((v.1 = 75 ∧ v.2.1 = 76) ∨ (v.1 = 76 ∧ v.2.1 = 75)) ∧ xf (fun k => k = 75 ∨ k = 76) T v.2.2 ∧ ∃ a' b', rwx v.2.2 v.1 a'.1 ∧ rwx v.2.2 v.2.1 b'.1 ∧ xl a' 2304 ∧ xl b' 2304 ∧ hgt b' n ∧ eqp c (G.1 x) a' b') n0 ⟨hv, f12, c, G.1 x, a2', b2, hxc, hxg, hn0, eqp_rfl _ _⟩ ?_
    rintro n ⟨y2, y3, T3⟩ ⟨hv3, f3, a', b', ra, rb, xa, xb, hb, heq⟩ R2' hR2
    dsimp only at hv3 f3 ra rb
    have c3' := xcx_t hc f3 (by omega) (by omega)
    have jw2 : isw y2 := by unfold isw; omega
    have jw3 : isw y3 := by unfold isw; omega
    unfold wx1_contentOf_b51 wx1_contentOf_j71
    dsimp only
    refine xs_topw h97 c3' jw3 rb xb (fun nb hnb hhb => ?_)
    have := hgt_uni hhb hb
    subst this
    rw [hI_lt0 (by omega)]
    refine ⟨fun c4 x6 e6 => ?_, fun c4 => ?_⟩
    · subst c4 e6
      have hz := hgt_0 hb
      subst hz
      obtain ⟨d1, d2, u, v, hc'⟩ := eqp_end heq
      refine hR (by omega) _ ⟨hv3, by dsimp only; rw [li_1, nI_add], f3, a', ra, xa, fun j hj => ?_, _, (sg_upd s (fun j => G.1 j) u v x (by omega)).trans ?_⟩
      · by_cases w : j = x
        · rw [w]; exact d2
        · exact dv_tr d1 (hdv j (by omega))
      · rw [hs, hc']
    · have hb0 : b' ≠ pz := fun w => c4 (by rw [w] at hb; exact hgt_pz hb)
      refine xs_topw h97 c3' jw2 ra xa (fun na hna hha => ?_)
      rw [hI_lt0 (by omega)]
      refine ⟨fun c5 => ?_, fun c5 => ?_⟩
      · subst c5
        have hz := hgt_0 hha
        refine hR2 0 _ (by omega) ⟨by dsimp only; omega, f3, b', a', rb, ra, xb, xa, hha, eqp_step (q := pz) heq ?_⟩
        have : pr_mul (pz : PR (Fin p)) b' = pz := pr_zero b'
        rw [this]
        letI := PRr (Fin p)
        show a' = 0 + a'
        grind
      · refine xs_leaves2 hp c3' jw2 jw3 (by omega) ra rb xa xb hb0 (fun T4 a'' q d f4 r4 e4 hd hlow => ?_)
        obtain ⟨m, hm⟩ := hgt_ex a''
        have hmd := hgt_le hm hlow
        have hnd := hgt_uni hb (xd_hgt hd)
        refine hR2 m _ (by omega) ⟨by dsimp only; omega, xf_tr f3 (xf_mono f4 fun k hk => by omega), b', a'', rwx_keep rb f4 (by omega), r4, xb, xl_mono hlow (by omega), hm, eqp_step heq e4⟩
