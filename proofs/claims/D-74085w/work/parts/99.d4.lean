set_option maxRecDepth 100000
/-! TermDesk: one becomes what is left of it by another one, without content -/
theorem xs_leaves3 {p : Nat} [NeZero p] {K : XK} {T : XT} {g1 g2 Z Y n1 d m0 m1 : Nat} {X X' one two : R2 (Fin p)} {post : XT → XK → Prop} (hp : pr p) (hc : xcx p K T) (hz : 90 ≤ kz K) (hg : (g1 = 41 ∧ g2 = 58) ∨ (g1 = 58 ∧ g2 = 41)) (r1 : rgx T g1 one) (r2 : rgx T g2 two) (h78 : xi T 78 0 = nI 0) (hm : m0 ≤ 15) (hm1 : m1 ≤ 15) (hX : xd2 X m0) (hX' : xd2 X' m1) (st : mst X X' m0 m1 one two) (ho : hgt2 one n1) (hd : xd2 two d) (hle : d < n1) (hZ : kc K + (n1 - d) ≤ Z) (hY : ks K + 2304 * (n1 - d) ≤ Y)
    (hpost : ∀ T' K' one' n', xf (fun k => (g1 + 1 ≤ k ∧ k ≤ g1 + 16) ∨ (75 ≤ k ∧ k ≤ 77) ∨ kz K ≤ k) T T' → kx K K' → kc K' = Z → ks K' = Y → rgx T' g1 one' → mst X X' m0 m1 one' two → hgt2 one' n' → n' ≤ d → post T' K') : wx1_leaves_3 g1 g2 K T Z Y post := by
  have h97 := hp.2.1
  have hF := fdp hp
  have ig1 : isg g1 := by unfold isg; omega
  have ig2 : isg g2 := by unfold isg; omega
  have htwo := @xd_hgt _ (PRr (Fin p)) _ _ hd
  have hd16 : d < 16 := Classical.byContradiction fun w => hd.1 (r2.2.2 d (by omega))
  have hn16 : n1 ≤ 16 := @hgt_le _ (PRr (Fin p)) _ _ _ ho r1.2.2
  unfold wx1_leaves_3
  refine xs_topRow hp hc ig2 r2 (fun n hn hh => ?_)
  have e := @hgt_uni _ (PRr (Fin p)) _ _ _ hh htwo
  subst e
  rw [hI_s]
  refine xs_topRow hp hc ig1 r1 (fun n hn' hh' => ?_)
  have e := @hgt_uni _ (PRr (Fin p)) _ _ _ hh' ho
  subst e
  unfold wx1_leaves_3_l11
  refine wl_n (fun μ v => ∃ one : R2 (Fin p), v.1 = hI μ ∧ μ ≤ n ∧ xf (fun k => (g1 + 1 ≤ k ∧ k ≤ g1 + 16) ∨ (75 ≤ k ∧ k ≤ 77) ∨ kz K ≤ k) T v.2.1 ∧ kx K v.2.2 ∧ kc v.2.2 + (μ - d) ≤ Z ∧ ks v.2.2 + 2304 * (μ - d) ≤ Y ∧ rgx v.2.1 g1 one ∧ mst X X' m0 m1 one two ∧ hgt2 one μ) n ⟨one, rfl, Nat.le_refl _, xf_rfl _ _, kx_rfl _, hZ, hY, r1, st, ho⟩ ?_
  rintro μ ⟨x4, T1, K1⟩ ⟨one, hx4, hμ, f1, k1, b1, b2, q1, st1, hh1⟩ R hR
  dsimp only at hx4 f1 k1 b1 b2 q1
  subst hx4
  have hz1 := k1.1
  have c1 := xcx_keep hc f1 (by omega) (by omega) k1 hz
  have q2 := rgx_keep r2 f1 (fun x hx => by omega)
  have e78 : xi T1 78 0 = nI 0 := by rw [(f1 78 (by omega)).1]; exact h78
  have l78 : kl K1 78 = 1 := c1.2.2 78 (by omega)
  have lg1 := isg_l c1 ig1
  have lg2 := isg_l c1 ig2
  unfold wx1_leaves_3_b11
  dsimp only
  rw [hI_ltn (by omega) (by omega)]
  refine ⟨fun c => ?_, fun c => ?_⟩
  · exact hpost T1 (kset K1 Z Y) one μ f1 (kx_tr k1 (kx_set _ _ _)) rfl rfl q1 st1 hh1 c
  · have hj : ∃ d1 d2, jv X X' m0 m1 one two d1 d2 ∧ cmb one X X' ∧ cmb two X X' := by
      rcases st1 with ⟨e1, e2, e3⟩ | h | ⟨e1, _⟩ | ⟨e1, _, _⟩
      · exfalso
        subst e1 e2
        have u1 := @hgt_uni _ (PRr (Fin p)) _ _ _ hh1 (@xd_hgt _ (PRr (Fin p)) _ _ hX')
        have u2 := @xd_uni _ (PRr (Fin p)) _ _ _ hd hX
        omega
      · exact h
      · exact absurd e1 (@xd_ne _ (PRr (Fin p)) _ _ hd)
      · exfalso
        rw [e1] at hh1
        have := @hgt_pz _ (PRr (Fin p)) _ hh1
        omega
    obtain ⟨d1, d2, hj, cm1, cm2⟩ := hj
    have u1 := @hgt_uni _ (PRr (Fin p)) _ _ _ hh1 (@xd_hgt _ (PRr (Fin p)) _ _ hj.1)
    have u2 := @xd_uni _ (PRr (Fin p)) _ _ _ hj.2.1 hd
    subst u1 u2
    have hl : d2 ≤ d1 := by omega
    obtain ⟨ya, yb, hya, hyb, hab⟩ := jv_wide' hF hm hm1 hj hl
    rw [hI_s]
    unfold wx1_leaves_3_l20
    refine wl_up d1 (fun i w => w.1 = nI i ∧ xf (fun k => (g1 + 1 ≤ k ∧ k ≤ g1 + 16) ∨ k = 77) T1 w.2 ∧ (∀ j, j < i → rwx w.2 (g1 + 1 + j) (ofr one two d1 d2 j).1) ∧ ∀ j, i ≤ j → j < 16 → rwx w.2 (g1 + 1 + j) (one.1 j).1) 0 (by omega) ⟨rfl, xf_rfl _ _, fun j hj => absurd hj (by omega), fun j _ hj => (q1.1 j hj).2⟩ ?_
    rintro i ⟨x5, T2⟩ hi ⟨hx5, f2, hlo, hhi⟩ R2' hR2
    dsimp only at hx5 f2 hlo hhi
    subst hx5
    have c2' := xcx_t c1 f2 (by omega) (by omega)
    have q2' := rgx_keep q2 f2 (fun x hx => by omega)
    have g12 : ∀ j, j < 16 → xr T2 g1 j = some (g1 + 1 + j) := fun j hj => by rw [(f2 g1 (by omega)).2]; exact (q1.1 j hj).1
    have e782 : xi T2 78 0 = nI 0 := by rw [(f2 78 (by omega)).1]; exact e78
    unfold wx1_leaves_3_b20 wx1_leaves_3_j67
    dsimp only
    rw [nI_leI (by omega) (by omega)]
    refine ⟨fun c3 => ⟨d1, by omega, rfl, g1 + 1 + d1, g12 d1 (by omega), ?_⟩, fun c3 => ?_⟩
    · -- the lead goes, then the content
      have lr := isw_l c2' (isg_w ig1 (show d1 < 16 by omega))
      refine xs_fill (by omega) (fun T3 f3 _ z3 _ => ?_)
      have c3' := xcx_t c2' f3 (by omega) (by omega)
      have hrg : rgx T3 g1 (off one two d1 d2) := by
        refine ⟨fun j hj16 => ⟨by rw [(f3 g1 (by omega)).2]; exact g12 j hj16, ?_⟩, fun j => ?_, fun j hj' => off_low hj.1 hj.2.1 hl j (by omega)⟩
        · rw [off_at]
          by_cases w : j < i
          · exact rwx_keep (hlo j w) f3 (by omega)
          · have z : ofr one two d1 d2 j = pz := by rw [← off_at]; exact off_low hj.1 hj.2.1 hl j (by omega)
            rw [z]
            by_cases w2 : j = d1
            · intro y hy
              rw [w2, z3 y (by omega), pz_i]
              exact li_0
            · have z1 : one.1 j = pz := hj.1.2 j (by omega)
              have := rwx_keep (hhi j (by omega) (by omega)) f3 (by omega)
              rw [z1] at this
              exact this
        · rw [off_at]
          unfold ofr
          refine xl_add (xl_mono (xl_mul (hyb d2) (hya j)) (by omega)) (xl_neg (xl_mono (xl_mul (n := ya + 1) (m := yb) (hya d1) ?_) (by omega)))
          by_cases w : d1 - d2 ≤ j
          · rw [if_pos w]; exact hyb _
          · rw [if_neg w]; exact xl_pz _
      refine ⟨kc K1 + 1, ks K1 + 2304, by omega, by omega, by omega, by omega, xs_primitive hp c3' (by omega) ig1 hrg (Nat.le_refl _) (Nat.le_refl _) (fun T4 K4 G' c n' f4 k4 z4 cc4 s4 r4 hpm _ _ _ _ _ => ?_)⟩
      have f13 : xf (fun k => (g1 + 1 ≤ k ∧ k ≤ g1 + 16) ∨ (75 ≤ k ∧ k ≤ 77) ∨ kz K ≤ k) T T3 := xf_tr f1 (xf_tr (xf_mono f2 fun k hk => by omega) (xf_mono f3 fun k hk => by omega))
      have f14 : xf (fun k => (g1 + 1 ≤ k ∧ k ≤ g1 + 16) ∨ (75 ≤ k ∧ k ≤ 77) ∨ kz K ≤ k) T T4 := xf_tr f13 (xf_mono f4 fun k hk => by omega)
      have k14 := kx_tr k1 k4
      have c4 := xcx_keep hc f14 (by omega) (by omega) k14 hz
      obtain ⟨st4, hlow⟩ := mst_off hF hj cm1 cm2 hl hpm
      refine xs_topRow hp c4 ig1 r4 (fun μ' hμ' hh4 => ?_)
      have := @hgt_le _ (PRr (Fin p)) _ _ _ hh4 hlow
      refine hR μ' _ (by omega) ⟨G', rfl, by omega, f14, k14, ?_, ?_, r4, st4, hh4⟩
      · dsimp only; omega
      · dsimp only; omega
    · -- a row
      have ii : i < 16 := by omega
      obtain ⟨s1, s2⟩ := q2'.1 d2 (by omega)
      have r1' := hhi i (Nat.le_refl _) ii
      have rk := hhi d1 (by omega) (by omega)
      refine ⟨i, by omega, rfl, g1 + 1 + i, g12 i ii, d2, by omega, rfl, g2 + 1 + d2, s1, d1, by omega, rfl, g1 + 1 + d1, g12 d1 (by omega), ?_⟩
      rw [pk_sub (by omega), nI_ltI (by omega) (by omega)]
      have done : ∀ (O : PR (Fin p)) T3, O = (if d1 - d2 ≤ i then two.1 (i - (d1 - d2)) else pz) → xf (fun k => k = g1 + 1 + i ∨ k = 77) T2 T3 → rwx T3 (g1 + 1 + i) (pr_add (pr_mul (one.1 i) (two.1 d2)) (pr_neg (pr_mul (one.1 d1) O))).1 → ∀ x5, x5 = nI i + 1 → R2' (x5, T3) := fun O T3 eO f3 w3 x5 e5 => by
        subst e5
        have k3 : ∀ j, j < 16 → j ≠ i → ∀ h : Nat → Fin p, rwx T2 (g1 + 1 + j) h → rwx T3 (g1 + 1 + j) h := fun j hj hne h hr => rwx_keep hr f3 (by omega)
        refine hR2 (by omega) _ ⟨by dsimp only; rw [li_1, nI_add], xf_tr f2 (xf_mono f3 fun k hk => by omega), fun j hj' => ?_, fun j hj' hj'' => k3 j hj'' (by omega) _ (hhi j (by omega) hj'')⟩
        by_cases w : j = i
        · rw [w]
          unfold ofr
          rw [← eO, pr_mul_comm (two.1 d2)]
          exact w3
        · exact k3 j (by omega) w _ (hlo j (by omega))
      refine ⟨fun c4 => ?_, fun c4 => ?_⟩
      · refine xs_mixes (L4 := 1) (o := pz) hp c2' (isg_w ig1 ii) (isg_w ig2 (by omega)) (isg_w ig1 (by omega)) (by omega) (by omega) (by omega) (by omega) (by omega) (by omega) (by omega) l78 (by omega) r1' s2 rk (fun y hy => by rw [show y = 0 by omega, e782, pz_i]; rfl) (hya i) (hyb d2) (hya d1) (xl_pz _) (xl_pz _) hab (fun T3 f3 w3 => done pz T3 (if_neg (by omega)).symm f3 w3)
      · rw [n_xde (by omega), show i + d2 - d1 = i - (d1 - d2) by omega]
        obtain ⟨t1, t2⟩ := q2'.1 (i - (d1 - d2)) (by omega)
        refine ⟨i - (d1 - d2), by omega, rfl, g2 + 1 + (i - (d1 - d2)), t1, ?_⟩
        refine xs_mixes (L4 := 2304) (o := two.1 (i - (d1 - d2))) hp c2' (isg_w ig1 ii) (isg_w ig2 (by omega)) (isg_w ig1 (by omega)) (by omega) (by omega) (by omega) (by omega) (by omega) (by omega) (by omega) (isw_l c2' (isg_w ig2 (by omega))) (Nat.le_refl _) r1' s2 rk t2 (hya i) (hyb d2) (hya d1) (hyb _) (xl_mono (hyb _) (by omega)) hab (fun T3 f3 w3 => done _ T3 (if_pos (by omega)).symm f3 w3)
noncomputable def cif (P : Prop) (x : Nat) : Nat := @ite _ P (Classical.propDecidable P) x 0
theorem cif_t {P : Prop} {x : Nat} (h : P) : cif P x = x := if_pos h
theorem cif_f {P : Prop} {x : Nat} (h : ¬ P) : cif P x = 0 := if_neg h
/-- a polynomial's rows are laid -/
theorem xs_lays2 {p : Nat} [NeZero p] {o : Nat → Nat} {K : XK} {T : XT} {g v : Nat} {f : Nat → Nat} {post : Nat → XT → Prop} (hp : pr p) (hc : xcx p K T) (hg : isg g) (hr : ∀ x, x < 16 → xr T g x = some (g + 1 + x)) (hv : ply o p K T v f) (ht : ¬ thr f) (hpost : ∀ T', xf (fun k => g + 1 ≤ k ∧ k ≤ g + 16) T T' → rgx T' g (grw f : R2 (Fin p)) → post g T') : wx1_lays_2 v g K T post := by
  obtain ⟨va, vb, n, a, u1, u2, u3, u4, u5, u6, u7, u8, u9, u10, u11⟩ := hv
  have hg' : g = 41 ∨ g = 58 := hg
  have lg := isg_l hc hg
  have hn := isr_cn u6
  have hn4 : n ≤ 4096 := by rw [hn]; exact cn_le _ _
  unfold wx1_lays_2
  intro x4 e4
  rw [lg] at e4
  subst e4
  unfold wx1_lays_2_l9
  refine wl_up 16 (fun x w => w.1 = nI x ∧ xf (fun k => g + 1 ≤ k ∧ k ≤ g + 16) T w.2 ∧ ∀ j, j < x → ∀ y, y < 2304 → xi w.2 (g + 1 + j) y = 0) 0 (by omega) ⟨rfl, xf_rfl _ _, fun j hj => absurd hj (by omega)⟩ ?_
  rintro x ⟨x5, T1⟩ hx ⟨hx5, f1, z1⟩ R hR
  dsimp only at hx5 f1 z1
  subst hx5
  have c1 := xcx_t hc f1 (by omega) (by omega)
  have hr1 : ∀ x, x < 16 → xr T1 g x = some (g + 1 + x) := fun x hx => by rw [(f1 g (by omega)).2]; exact hr x hx
  unfold wx1_lays_2_b9
  dsimp only
  rw [nI_leI (by omega) (by omega)]
  refine ⟨fun c => ?_, fun c => ⟨x, by omega, rfl, g + 1 + x, hr1 x (by omega), ?_⟩⟩
  · unfold wx1_lays_2_l36
    refine wl_up n (fun i w => w.1 = nI i ∧ xf (fun k => g + 1 ≤ k ∧ k ≤ g + 16) T w.2 ∧ ∀ j, j < 16 → ∀ y, y < 2304 → xi w.2 (g + 1 + j) y = nI (cif (y < 16 ∧ ∃ l, l < i ∧ a l = j + 16 * y) (f (j + 16 * y)))) 0 (by omega) ⟨rfl, f1, fun j hj y hy => ?_⟩ ?_
    · dsimp only
      rw [z1 j (by omega) y hy, cif_f fun ⟨_, l, hl, _⟩ => absurd hl (by omega)]
      exact li_0
    · rintro i ⟨x3, T2⟩ hi ⟨hx3, f2, w2⟩ R2' hR2
      dsimp only at hx3 f2 w2
      subst hx3
      have E : ∀ k, 90 ≤ k → xi T2 k = xi T k ∧ xr T2 k = xr T k := fun k hk => f2 k (by omega)
      have Ev := E v u9.1
      have Eva := E va u10.1
      have Evb := E vb u11.1
      unfold wx1_lays_2_b36
      dsimp only
      rw [Ev.1, u3, nI_leI (by omega) (by omega)]
      refine ⟨fun c2' => ?_, fun c2' => ?_⟩
      · have ei : i = n := by omega
        subst ei
        refine hpost T2 f2 ⟨fun j hj => ⟨by rw [(f2 g (by omega)).2]; exact hr j hj, fun y hy => ?_⟩, fun j => xl_mono (grw_y f j) (by omega), mkr_xl _⟩
        rw [w2 j hj y hy]
        by_cases hy16 : y < 16
        · rw [grw_at u8 hj hy16]
          congr 1
          by_cases w : f (j + 16 * y) = 0
          · rw [w]; unfold cif; split <;> rfl
          · obtain ⟨l, hl, el⟩ := u6.2.2 (j + 16 * y) (by omega) w
            exact cif_t ⟨hy16, l, hl, el⟩
        · rw [grw_hi (by omega), cif_f fun z => hy16 z.1]
          rfl
      · obtain ⟨a4, a0⟩ := u6.1 i (by omega)
        have hx2 := thr_0 ht a4 a0
        have hs := ex_sum a4
        have e0 := ex_lt (a i) 0
        have e1 := ex_lt (a i) 1
        obtain ⟨w7, w8⟩ := u7 i (by omega)
        refine ⟨va, by rw [Ev.2]; exact u1, i, by omega, rfl, ?_⟩
        rw [Eva.1, w7, li_0]
        refine xs_exponent (by omega) (by omega) ⟨ex (a i) 0, by omega, rfl, g + 1 + ex (a i) 0, by rw [(f2 g (by omega)).2]; exact hr _ e0, va, by rw [Ev.2]; exact u1, i, by omega, rfl, ?_⟩
        rw [Eva.1, w7, li_1]
        have lr := isw_l hc (isg_w hg e0)
        refine xs_exponent (by omega) (by omega) ⟨vb, by rw [Ev.2]; exact u2, i, by omega, rfl, ex (a i) 1, by omega, rfl, fun T3 e3 x3 ex3 => ?_⟩
        rw [Evb.1, w8] at e3
        subst ex3
        refine hR2 (by omega) _ ⟨by dsimp only; rw [nI_add], ?_, fun j hj y hy => ?_⟩
        · dsimp only
          rw [e3]
          exact xf_tr f2 (xf_wi (by omega))
        · dsimp only
          rw [e3, xi_wi]
          by_cases w : j = ex (a i) 0 ∧ y = ex (a i) 1
          · rw [if_pos (by omega), cif_t ⟨by omega, i, by omega, by omega⟩]
            congr 2
            omega
          · rw [if_neg (by omega), w2 j hj y hy]
            congr 1
            by_cases w3 : y < 16 ∧ ∃ l, l < i ∧ a l = j + 16 * y
            · obtain ⟨q1, l, q2, q3⟩ := w3
              rw [cif_t ⟨q1, l, q2, q3⟩, cif_t ⟨q1, l, by omega, q3⟩]
            · rw [cif_f w3, cif_f]
              rintro ⟨q1, l, q2, q3⟩
              by_cases q4 : l = i
              · rw [q4] at q3
                obtain ⟨z0, z1, _⟩ := ex_mk (z := 0) hj q1 (by omega)
                rw [Nat.mul_zero, Nat.add_zero, ← q3] at z0 z1
                exact w ⟨z0.symm, z1.symm⟩
              · exact w3 ⟨q1, l, by omega, q3⟩
  · have lr := isw_l c1 (isg_w hg (show x < 16 by omega))
    refine xs_fill (by omega) (fun T2 f2 _ z2 _ x5 e5 => ?_)
    subst e5
    refine hR (by omega) _ ⟨by dsimp only; rw [li_1, nI_add], xf_tr f1 (xf_mono f2 fun k hk => by omega), fun j hj y hy => ?_⟩
    dsimp only
    by_cases w : j = x
    · rw [w]; exact z2 y (by omega)
    · rw [(f2 (g + 1 + j) (by omega)).1]; exact z1 j (by omega) y hy
