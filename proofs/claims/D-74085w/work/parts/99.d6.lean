set_option maxRecDepth 100000
/-! TermDesk: common divisors -/
theorem rx_xcx {A : AB} {K : XK} {T : XT} (h : rx (aS A 0 (-1)) K T) (ht : aN A 0 = 1) : xcx (aN A 1) K T := ⟨(h.2.2.2.2.2.2.2.2.1 ht).1, (h.2.2.2.2.2.2.2.2.1 ht).2.2.2.2.2, h.1.1⟩
theorem rx_9 {A : AB} {K : XK} {T T' : XT} {va vb : Nat} (h : rx A K T) (h9 : xr T 0 9 = some va) (h10 : xr T 0 10 = some vb) (e : T' = xwr (xwr T 0 9 (some vb)) 0 10 (some va)) : rx A K T' ∧ xr T' 0 9 = some vb ∧ xr T' 0 10 = some va := by
  have hi : ∀ k, xi T' k = xi T k := fun k => by rw [e, xi_wr, xi_wr]
  have hr : ∀ k j, ¬ (k = 0 ∧ (j = 9 ∨ j = 10)) → xr T' k j = xr T k j := fun k j w => by rw [e, xr_wr, if_neg (by omega), xr_wr, if_neg (by omega)]
  have r9 : xr T' 0 9 = some vb := by rw [e, xr_wr, if_neg (by omega), xr_wr, if_pos ⟨rfl, rfl⟩]
  have r10 : xr T' 0 10 = some va := by rw [e, xr_wr, if_pos ⟨rfl, rfl⟩]
  have hrk : ∀ k, k ≠ 0 → xr T' k = xr T k := fun k hk => funext fun j => hr k j (by omega)
  have hf : xf (fun k => k = 0) T T' := fun k hk => ⟨hi k, hrk k hk⟩
  obtain ⟨q1, q2, q3, q4, q5, q6, q7, q8, q9, g, ga, q10, q11, q12⟩ := h
  have hz := q1.2.1
  have hP : ∀ k, 90 ≤ k → k < kz K → ¬ (k = 0) := fun k a b => by omega
  refine ⟨⟨?_, by rw [hi]; exact q2, by rw [hi]; exact q3, fun z => by rw [hi]; exact q4 z, by rw [hi]; exact q5, by rw [hi]; exact q6, by rw [hi]; exact q7, fun j hj => by rw [hi]; exact q8 j hj, fun ht => ?_, g, ga, by rw [hr 0 18 (by omega)]; exact q10, rgs_keep q11 hf (kx_rfl K) hP (by omega), rxP_keep q12 hf (kx_rfl K) hP (by omega) (by omega) (by omega)⟩, r9, r10⟩
  · obtain ⟨w1, w2, w3, w4, w5, w6, w7⟩ := q1
    refine ⟨w1, w2, ?_, fun i hi' => by rw [hrk 41 (by omega), hrk 58 (by omega)]; exact w4 i hi', by rw [hrk 6 (by omega)]; exact w5, fun d hd => by rw [hrk 7 (by omega)]; exact w6 d hd, by rw [hi]; exact w7⟩
    rw [r9, r10]
    rw [h9, h10] at w3
    rcases w3 with ⟨e1, e2⟩ | ⟨e1, e2⟩
    · exact Or.inr ⟨e2, e1⟩
    · exact Or.inl ⟨e2, e1⟩
  · obtain ⟨w1, w2, w3, w4, ⟨q, w5, w6, w7, w8⟩, w9⟩ := q9 ht
    refine ⟨by rw [hi]; exact w1, by rw [hi]; exact w2, by rw [hi]; exact w3, by rw [hi]; exact w4, ⟨q, by rw [hr 0 4 (by omega)]; exact w5, ?_, w7, w8⟩, fun a h1 h2 => by rw [hi]; exact w9 a h1 h2⟩
    unfold orn at w6 ⊢
    rw [hi]
    exact w6
theorem rx_910 {A : AB} {K : XK} {T : XT} (h : rx A K T) : ∃ ga gb, ((ga = 41 ∧ gb = 58) ∨ (ga = 58 ∧ gb = 41)) ∧ xr T 0 9 = some ga ∧ xr T 0 10 = some gb ∧ (∀ x, x < 16 → xr T ga x = some (ga + 1 + x)) ∧ ∀ x, x < 16 → xr T gb x = some (gb + 1 + x) := by
  obtain ⟨w1, w2, w3, w4, _⟩ := h.1
  rcases w3 with ⟨e1, e2⟩ | ⟨e1, e2⟩
  · exact ⟨41, 58, Or.inl ⟨rfl, rfl⟩, e1, e2, fun x hx => (w4 x hx).1, fun x hx => (w4 x hx).2⟩
  · exact ⟨58, 41, Or.inr ⟨rfl, rfl⟩, e1, e2, fun x hx => (w4 x hx).2, fun x hx => (w4 x hx).1⟩
/-- a content that was told -/
def tld {p : Nat} (K : XK) (T : XT) (w n : Nat) (c : Nat → Fin p) : Prop := 90 ≤ w ∧ w < kz K ∧ kl K w = n ∧ n ≤ 2304 ∧ ∀ y, y < n → xi T w y = nI (c y).val
theorem tld_keep {p : Nat} {K K' : XK} {T T' : XT} {w n : Nat} {c : Nat → Fin p} {P : Nat → Prop} (h : tld K T w n c) (hf : xf P T T') (hP : ∀ k, 90 ≤ k → k < kz K → ¬ P k) (hK : kx K K') : tld K' T' w n c := by
  obtain ⟨h1, h2, h3, h4, h5⟩ := h
  have := hK.1
  exact ⟨h1, by omega, by rw [hK.2 w h2]; exact h3, h4, fun y hy => by rw [(hf w (hP w h1 h2)).1]; exact h5 y hy⟩
theorem gsp_1 {F : Type} [Lean.Grind.CommRing F] (hF : fd F) {X Y two : R2 F} (hd : xd2 two 0) (hc : cmb two X Y) : gsp X Y (c2 (pr_c 1)) := by
  have one : ∀ G : R2 F, G = m2 (c2 (pr_c 1)) G := fun G => (@pr_one _ (PRr F) G).symm
  refine ⟨⟨fun j => pr_c 1, ?_⟩, ⟨X, one X⟩, ⟨Y, one Y⟩, ?_⟩
  · refine (@sg_1 _ (PRr F) _ _ 0 (by omega) (fun i _ hi => ?_)).trans (pr_one _)
    have : (c2 (pr_c 1 : PR F)).1 i = pz := if_neg hi
    show pr_mul (pr_c 1) ((c2 (pr_c 1 : PR F)).1 i) = pz
    rw [this, pz_mul]
  · obtain ⟨c, P, Q, h1, h2⟩ := hc
    have e : two = c2 (two.1 0) := @xl1_c _ (PRr F) _ hd.2
    refine ⟨pr_mul c (two.1 0), P, Q, fun w => ?_, ?_⟩
    · rcases dm_pr (dm_fd hF) _ _ w with z | z
      · exact h1 z
      · exact hd.1 z
    · rw [← h2]
      have q1 : c2 (pr_mul c (two.1 0)) = m2 (c2 c) (c2 (two.1 0)) := @pc_mul _ (PRr F) _ _
      rw [q1, ← e]
      letI := PRr F
      letI := PRr (PR F)
      generalize c2 c = C
      show C * two * (1 : R2 F) = C * two
      grind
theorem xs_cm60 {A : AB} [NeZero (aN A 1)] {K : XK} {T : XT} {p1 p2 Z Y wa wb na nb ga gb m0 m1 n1 n2 Zc Yc : Nat} {a b : PR (Fin (aN A 1))} {X X' one two : R2 (Fin (aN A 1))} {post : Nat → XT → XK → Prop} (h : rx (aS A 0 (-1)) K T) (hw : wf A) (ht : aN A 0 = 1) (hg : (ga = 41 ∧ gb = 58) ∨ (ga = 58 ∧ gb = 41)) (h9 : xr T 0 9 = some ga) (h10 : xr T 0 10 = some gb) (r1 : rgx T ga one) (r2 : rgx T gb two) (ta : tld K T wa na a.1) (tb' : tld K T wb nb b.1) (hX : xd2 X m0) (hX' : xd2 X' m1) (pX : pm X) (pX' : pm X') (yX : yl X 15) (yX' : yl X' 15) (hm : m0 ≤ 15) (hle : m1 ≤ m0) (st : mst X X' m0 m1 one two) (nz : ¬ (one = z2 ∧ two ≠ z2)) (ho : hgt2 one n1) (htw : hgt2 two n2) (hZ : kc K + (n1 + n2) ≤ Zc) (hY : ks K + 2304 * (n1 + n2) ≤ Yc) (hZc : Zc ≤ Z) (hYc : Yc ≤ Y)
    (hpost : ∀ T' K' x5 ga G nG, rx (aS A 0 (-1)) K' T' → tld K' T' wa na a.1 → tld K' T' wb nb b.1 → gsp X X' G → alo T' x5 ga G nG → hgt2 G nG → nG ≤ 16 → kc K' ≤ Zc → ks K' ≤ Yc → wx1_common_2_j139 p1 p2 Z Y post wa wb x5 K' T') : wx1_common_2_l60 p1 p2 Z Y post wa wb K T := by
  have hpr := (hw.2.2.2.2 ht).1
  have h97 := hpr.2.1
  have hF := fdp hpr
  unfold wx1_common_2_l60
  refine wl_n (fun n v => ∃ (ga gb n1 : Nat) (one two : R2 (Fin (aN A 1))), ((ga = 41 ∧ gb = 58) ∨ (ga = 58 ∧ gb = 41)) ∧ rx (aS A 0 (-1)) v.2 v.1 ∧ xr v.1 0 9 = some ga ∧ xr v.1 0 10 = some gb ∧ rgx v.1 ga one ∧ rgx v.1 gb two ∧ tld v.2 v.1 wa na a.1 ∧ tld v.2 v.1 wb nb b.1 ∧ mst X X' m0 m1 one two ∧ ¬ (one = z2 ∧ two ≠ z2) ∧ hgt2 one n1 ∧ hgt2 two n ∧ kc v.2 + (n1 + n) ≤ Zc ∧ ks v.2 + 2304 * (n1 + n) ≤ Yc) n2 ⟨ga, gb, n1, one, two, hg, h, h9, h10, r1, r2, ta, tb', st, nz, ho, htw, hZ, hY⟩ ?_
  rintro n ⟨T1, K1⟩ ⟨ga, gb, n1, one, two, hg, h1, h91, h101, q1, q2, ta1, tb1, st1, nz1, ho1, ht1, bZ, bY⟩ R hR
  dsimp only at h1 h91 h101 q1 q2 ta1 tb1 bZ bY
  have c1 := rx_xcx h1 ht
  have iga : isg ga := by unfold isg; omega
  have igb : isg gb := by unfold isg; omega
  have hzz := h1.1.2.1
  have n16 : n1 ≤ 16 ∧ n ≤ 16 := ⟨@hgt_le _ (PRr (Fin (aN A 1))) _ _ _ ho1 q1.2.2, @hgt_le _ (PRr (Fin (aN A 1))) _ _ _ ht1 q2.2.2⟩
  unfold wx1_common_2_b60
  dsimp only
  refine ⟨gb, h101, xs_topRow hpr c1 igb q2 (fun n' hn' hh => ?_)⟩
  have e := @hgt_uni _ (PRr (Fin (aN A 1))) _ _ _ hh ht1
  subst e
  have e0 : (hI n' ≤ 0) ↔ n' ≤ 1 := by rw [hI_z, z_0, z_le (by omega) (by omega)]; omega
  rw [e0]
  refine ⟨fun c => ⟨gb, h101, xs_topRow hpr c1 igb q2 (fun n'' hn'' hh'' => ?_)⟩, fun c => ?_⟩
  · have e := @hgt_uni _ (PRr (Fin (aN A 1))) _ _ _ hh'' ht1
    subst e
    rw [show (0 : Int32) = nI 0 from li_0, hI_eqn (by omega) (by omega)]
    refine ⟨fun c4 => ?_, fun c4 => ?_⟩
    · -- nothing is left
      have n0 : n'' = 0 := by omega
      subst n0
      have hz : two = z2 := @hgt_0 _ (PRr (Fin (aN A 1))) _ ht1
      rcases st1 with ⟨_, e2, _⟩ | ⟨d1, d2, hj, _⟩ | ⟨_, e2⟩ | ⟨_, e2, _⟩
      · exact absurd (e2.symm.trans hz) (pm_ne hF.1 pX)
      · exact absurd hz (pm_ne hF.1 hj.2.2.2.1)
      · exact hpost T1 K1 (nI 0) ga one n1 h1 ta1 tb1 e2 (Or.inl ⟨rfl, h91, iga, q1, ho1⟩) ho1 n16.1 (by omega) (by omega)
      · exact absurd hz e2
    · -- a number alone
      have n0 : n'' = 1 := by omega
      subst n0
      have hd0 : xd2 two 0 := @hgt_xd _ (PRr (Fin (aN A 1))) _ _ ht1
      have hcm : cmb two X X' := by
        rcases st1 with ⟨_, e2, e3⟩ | ⟨d1, d2, hj, _, cm⟩ | ⟨e2, _⟩ | ⟨e1, e2, _⟩
        · exfalso
          subst e2
          have := @xd_uni _ (PRr (Fin (aN A 1))) _ _ _ hd0 hX
          omega
        · exact cm
        · exact absurd e2 (@xd_ne _ (PRr (Fin (aN A 1))) _ _ hd0)
        · exact absurd ⟨e1, e2⟩ nz1
      have hg1 := gsp_1 hF hd0 hcm
      have hh1 : hgt2 (c2 (pr_c 1) : R2 (Fin (aN A 1))) 1 := ⟨@xl_c _ (PRr (Fin (aN A 1))) _, Or.inr (pr_c_ne hF.1)⟩
      rw [show (1 : Int32) = 1 from rfl]
      exact hpost T1 K1 1 ga (c2 (pr_c 1)) 1 h1 ta1 tb1 hg1 (Or.inr ⟨rfl, rfl, rfl⟩) hh1 (by omega) (by omega) (by omega)
  · obtain ⟨d, rfl⟩ : ∃ d, n' = d + 1 := ⟨n' - 1, by omega⟩
    have hd : xd2 two d := @hgt_xd _ (PRr (Fin (aN A 1))) _ _ ht1
    have tnz : two ≠ z2 := @xd_ne _ (PRr (Fin (aN A 1))) _ _ hd
    refine ⟨ga, h91, xs_topRow hpr c1 iga q1 (fun n'' hn'' hh'' => ?_)⟩
    have e := @hgt_uni _ (PRr (Fin (aN A 1))) _ _ _ hh'' ho1
    subst e
    refine ⟨gb, h101, xs_topRow hpr c1 igb q2 (fun n3 hn3 hh3 => ?_)⟩
    have e := @hgt_uni _ (PRr (Fin (aN A 1))) _ _ _ hh3 ht1
    subst e
    rw [hI_lth (by omega) (by omega)]
    -- they change places
    have swap : ∀ T2 K2 one' n', rx (aS A 0 (-1)) K2 T2 → xr T2 0 9 = some ga → xr T2 0 10 = some gb → rgx T2 ga one' → rgx T2 gb two → tld K2 T2 wa na a.1 → tld K2 T2 wb nb b.1 → mst X X' m0 m1 one' two → hgt2 one' n' → n' ≤ d → kc K2 + (d + 1 + n') ≤ Zc → ks K2 + 2304 * (d + 1 + n') ≤ Yc → wx1_common_2_j99 p1 p2 Z Y post (fun T K => R (T, K)) wa wb K2 T2 := by
      intro T2 K2 one' n' s1 s2 s3 s4 s5 s6 s7 s8 s9 s10 s11 s12
      unfold wx1_common_2_j99
      refine ⟨ga, s2, gb, s3, fun T3 e3 T4 e4 => ?_⟩
      rw [e3] at e4
      obtain ⟨t1, t2, t3⟩ := rx_9 s1 s2 s3 e4
      have hf : xf (fun k => k = 0) T2 T4 := by rw [e4]; exact xf_tr (xf_wr rfl) (xf_wr rfl)
      have hz2 := s1.1.2.1
      refine hR n' _ (by omega) ⟨gb, ga, d + 1, two, one', by omega, t1, t2, t3, rgx_keep s5 hf (fun x hx => by omega), rgx_keep s4 hf (fun x hx => by omega), tld_keep s6 hf (fun k a b => by omega) (kx_rfl _), tld_keep s7 hf (fun k a b => by omega) (kx_rfl _), mst_swap hF hX hX' pX pX' yX yX' hm hle s8 s9 ht1 (by omega), fun w => tnz w.1, ht1, s9, ?_, ?_⟩
      · dsimp only; omega
      · dsimp only; omega
    refine ⟨fun c4 => ?_, fun c4 => ?_⟩
    · exact swap T1 K1 one n'' h1 h91 h101 q1 q2 ta1 tb1 st1 ho1 (by omega) (by omega) (by omega)
    · have h78 : xi T1 78 0 = nI 0 := h1.1.2.2.2.2.2.2
      refine ⟨ga, h91, gb, h101, kc K1 + (n'' - d), ks K1 + 2304 * (n'' - d), by omega, by omega, by omega, by omega, xs_leaves3 hpr c1 hzz (by omega) q1 q2 h78 hm (by omega) hX hX' st1 ho1 hd (by omega) (Nat.le_refl _) (Nat.le_refl _) (fun T2 K2 one' n' f2 k2 cc2 s2 r2' st2 hh2 hle2 => ?_)⟩
      have hx2 : rx (aS A 0 (-1)) K2 T2 := rx_keep h1 (xf_mono f2 fun k hk => by unfold xsc; omega) k2
      have e0 := f2 0 (by omega)
      exact swap T2 K2 one' n' hx2 (by rw [e0.2]; exact h91) (by rw [e0.2]; exact h101) r2' (rgx_keep q2 f2 (fun x hx => by omega)) (tld_keep ta1 f2 (fun k a b => by omega) k2) (tld_keep tb1 f2 (fun k a b => by omega) k2) st2 hh2 hle2 (by omega) (by omega)
