set_option maxRecDepth 100000
/-! the Model: common, content, primitive -/
theorem sp_meetsRows {p : Nat} [NeZero p] {S : St} {P Q : R2 (Fin p)} {post : St → Prop} (hp : pr p) (h5 : S 0 5 = nI p) (hP : rgm S 18 P) (hQ : rgm S 19 Q) (yP : yl P 15) (yQ : yl Q 15) (hpost : ∀ S' W, frb (fun k => 18 ≤ k ∧ k ≤ 24) S S' → rgm S' 18 W → ((Q = z2 ∧ W = P) ∨ (Q ≠ z2 ∧ P = z2 ∧ W = Q) ∨ (P ≠ z2 ∧ Q ≠ z2 ∧ csp P Q W)) → post S') : wp_meetsRows S post := by
  have h97 := hp.2.1
  have hF := fdp hp
  have hd := dm_fd hF
  unfold wp_meetsRows
  refine sp_degreeX h97 hQ (show 36864 ≤ mlen 19 from Nat.le_refl _) (fun n hn hh => ?_)
  rw [hI_eq0 (by omega)]
  refine ⟨fun c => ?_, fun c => ?_⟩
  · have zQ : Q ≠ z2 := fun w => c (by rw [w] at hh; exact @hgt_pz _ (PRr (Fin p)) _ hh)
    refine sp_degreeX h97 hP (show 36864 ≤ mlen 18 from Nat.le_refl _) (fun n' hn' hh' => ?_)
    rw [hI_eq0 (by omega)]
    refine ⟨fun c2' => ?_, fun c2' => ?_⟩
    · have zP : P ≠ z2 := fun w => c2' (by rw [w] at hh'; exact @hgt_pz _ (PRr (Fin p)) _ hh')
      refine sp_contentOf hp h5 (show mok 24 from ⟨by omega, by omega, by omega⟩) (by omega) (by omega) (by omega) (show 36864 ≤ mlen 18 from Nat.le_refl _) (show 2304 ≤ mlen 24 from Nat.le_refl _) hP (fun S1 a f1 w1 hxa ga => ?_)
      have g51 : S1 0 5 = nI p := by rw [f1 0 (by omega)]; exact h5
      refine sp_contentOf hp g51 (show mok 20 from ⟨by omega, by omega, by omega⟩) (by omega) (by omega) (by omega) (show 36864 ≤ mlen 19 from Nat.le_refl _) (show 2304 ≤ mlen 20 from Nat.le_refl _) (rgm_keep hQ f1 (by omega)) (fun S2 b f2 w2 hxb gb => ?_)
      have g52 : S2 0 5 = nI p := by rw [f2 0 (by omega)]; exact g51
      refine sp_meets hp g52 (show mok 24 from ⟨by omega, by omega, by omega⟩) (show mok 20 from ⟨by omega, by omega, by omega⟩) (by omega) (show 2304 ≤ mlen 24 from Nat.le_refl _) (show 2304 ≤ mlen 20 from Nat.le_refl _) (rwm_keep w1 f2 (by omega)) w2 hxa hxb (fun S3 cc f3 w3 hxc hg hmn => ?_)
      have g53 : S3 0 5 = nI p := by rw [f3 0 (by omega)]; exact g52
      have hP3 : rgm S3 18 P := rgm_keep (rgm_keep (rgm_keep hP f1 (by omega)) f2 (by omega)) f3 (by omega)
      have hQ3 : rgm S3 19 Q := rgm_keep (rgm_keep (rgm_keep hQ f1 (by omega)) f2 (by omega)) f3 (by omega)
      refine sp_primitives hp g53 (Or.inl rfl) hP3 (fun S4 A f4 w4 pA => ?_)
      have g54 : S4 0 5 = nI p := by rw [f4 0 (by omega)]; exact g53
      refine sp_primitives hp g54 (Or.inr rfl) (rgm_keep hQ3 f4 (by omega)) (fun S5 B f5 w5 pB => ?_)
      have g55 : S5 0 5 = nI p := by rw [f5 0 (by omega)]; exact g54
      have w45 := rgm_keep w4 f5 (by omega)
      have F5 : frb (fun k => 18 ≤ k ∧ k ≤ 24) S S5 := frb_tr (frb_mono f1 fun k hk => by omega) (frb_tr (frb_mono f2 fun k hk => by omega) (frb_tr (frb_mono f3 fun k hk => by omega) (frb_tr (frb_mono f4 fun k hk => by omega) (frb_mono f5 fun k hk => by omega))))
      have c5 : rwm S5 24 0 cc.1 := rwm_keep (rwm_keep w3 f4 (by omega)) f5 (by omega)
      obtain ⟨mA, a', za, ga', ea⟩ := prm_ne hF pA zP
      obtain ⟨mB, b', zb, gb', eb⟩ := prm_ne hF pB zQ
      have e1 := gcr_uni hF ga' ga
      have e2 := gcr_uni hF gb' gb
      subst e1 e2
      have yA : yl A 15 := yl_div hd za (by rw [ea]; exact yP)
      have yB : yl B 15 := yl_div hd zb (by rw [eb]; exact yQ)
      obtain ⟨n0, xA⟩ := xd2_of (pm_ne hF.1 mA)
      obtain ⟨n1, xB⟩ := xd2_of (pm_ne hF.1 mB)
      have l0 : n0 ≤ 15 := Classical.byContradiction fun w => xA.1 (w4.2.2 n0 (by omega))
      have l1 : n1 ≤ 15 := Classical.byContradiction fun w => xB.1 (w5.2.2 n1 (by omega))
      have fin : ∀ S6 G, frb (fun k => 18 ≤ k ∧ k ≤ 23) S5 S6 → rgm S6 18 G → gsp A B G → wp_heightOf 24 0 S6 (fun r_40 => wp_meetsRows_l199 post r_40 0 S6) := fun S6 G f6 w6 hG => by
        have hcs : csp P Q (m2 (c2 cc) G) := ⟨_, _, A, B, cc, G, ga, gb, ea, eb, hg, hG, rfl⟩
        have hy := (csp_deg hF zP hcs hP.2.2 yP).2.1
        have g56 : S6 0 5 = nI p := by rw [f6 0 (by omega)]; exact g55
        refine sp_meetsRows199 hp g56 w6 (rwm_keep c5 f6 (by omega)) hxc hy (fun S7 f7 w7 => ?_)
        exact hpost S7 _ (frb_tr F5 (frb_tr (frb_mono f6 fun k hk => by omega) (frb_mono f7 fun k hk => by omega))) w7 (Or.inr (Or.inr ⟨zP, zQ, hcs⟩))
      by_cases hle : n1 ≤ n0
      · exact sp_meetsRows102 hp g55 xA xB mA mB yA yB l0 hle (frb_rfl _ _) w45 w5 (Or.inr (Or.inl ⟨n0, n1, jv_0 hF.1 xA xB mA mB yA yB l0 hle, cmb_1 hF A B⟩)) (fun w => pm_ne hF.1 mA w.1) fin
      · exact sp_meetsRows102 hp g55 xB xA mB mA yB yA l1 (by omega) (frb_rfl _ _) w45 w5 (Or.inl ⟨rfl, rfl, by omega⟩) (fun w => pm_ne hF.1 mA w.1) (fun S6 G f6 w6 hG => fin S6 G f6 w6 (gsp_swap hG))
    · subst c2'
      have zP : P = z2 := @hgt_0 _ (PRr (Fin p)) _ hh'
      unfold wp_meetsRows_l25
      refine wl_up 36864 (fun i v => v.1 = nI i ∧ frb (fun k => 18 ≤ k ∧ k ≤ 24) S v.2 ∧ (∀ y, v.2 19 y = S 19 y) ∧ ∀ y, y < i → v.2 18 y = S 19 y) 0 (by omega) ⟨rfl, frb_rfl _ _, fun y => rfl, fun y hy => absurd hy (by omega)⟩ ?_
      rintro i ⟨x1, S1⟩ hi ⟨hx1, f1, k1, w1⟩ R hR
      dsimp only at hx1 f1 k1 w1
      subst hx1
      unfold wp_meetsRows_b25
      dsimp only
      rw [li_36864, nI_leI (by omega) (by omega)]
      refine ⟨fun c3 => ?_, fun c3 => ⟨i, by omega, rfl, i, by omega, rfl, fun S2 e2 x1 e1 => ?_⟩⟩
      · exact hpost S1 Q f1 ⟨fun x hx y hy => by rw [w1 _ (by omega)]; exact hQ.1 x hx y hy, hQ.2⟩ (Or.inr (Or.inl ⟨zQ, zP, rfl⟩))
      · subst e1
        rw [k1] at e2
        refine hR (by omega) _ ⟨by rw [li_1, nI_add], ?_, fun y => ?_, fun y hy => ?_⟩
        · dsimp only
          rw [e2]
          exact frb_tr f1 (frb_bw (by omega))
        · dsimp only
          rw [e2, bw_at, if_neg (by omega)]
          exact k1 y
        · dsimp only
          rw [e2, bw_at]
          by_cases w : y = i
          · rw [if_pos ⟨rfl, w⟩, w]
          · rw [if_neg (fun z => w z.2)]; exact w1 y (by omega)
  · subst c
    exact hpost S P (frb_rfl _ _) hP (Or.inl ⟨@hgt_0 _ (PRr (Fin p)) _ hh, rfl⟩)
theorem frb_sc {S S' : St} (h : frb (fun k => 18 ≤ k ∧ k ≤ 24) S S') : sc S S' := fun k i hp => h k (by unfold pers at hp; omega) i
/-- with z -/
def thr (f : Nat → Nat) : Prop := ¬ mx (fun k => ex k 2) f 4096 ≤ 0
theorem thr_0 {f : Nat → Nat} (h : ¬ thr f) {k : Nat} (hk : k < 4096) (hf : f k ≠ 0) : ex k 2 = 0 := by
  have h1 := mx_le (g := fun k => ex k 2) hk hf
  have h1 : (ex k 2 : Int) ≤ mx (fun k => ex k 2) f 4096 := h1
  have h2 : mx (fun k => ex k 2) f 4096 ≤ 0 := Classical.byContradiction h
  omega
theorem sp_hasThird {r : Nat} {f : Nat → Nat} {S : St} {post : Int32 → Prop} (hr : r < 8) (ht : tb S r f) (h0 : ¬ thr f → post 0) (h1 : thr f → post 1) : wp_hasThird (nI r) S post := by
  have B := mx_b (g := fun k => ex k 2) (f := f) (B := 15) (fun k => Nat.le_of_lt_succ (ex_lt k 2)) 4096
  unfold wp_hasThird
  rw [show (2 : Int32) = nI 2 from li_2]
  refine sp_degreeBy hr (by omega) ht ?_
  rw [z_le0 (by omega)]
  exact ⟨fun c => h0 fun w => w c, fun c => h1 c⟩
theorem wtb_grw {p : Nat} [NeZero p] {f : Nat → Nat} (hf : ∀ k, k < 4096 → f k < p) (h : ¬ thr f) {m : Nat} (hm : m < 4096) : wtb (grw f : R2 (Fin p)) m = f m := by
  have hs := ex_sum hm
  unfold wtb
  by_cases w : ex m 2 = 0
  · rw [if_pos w, grw_at hf (ex_lt _ _) (ex_lt _ _)]
    congr 1
    omega
  · rw [if_neg w]
    exact (Classical.byContradiction fun z => w (thr_0 h hm z) : f m = 0).symm
theorem grw_z {p : Nat} [NeZero p] {f : Nat → Nat} (hf : ∀ k, k < 4096 → f k < p) (h : ¬ thr f) : (grw f : R2 (Fin p)) = z2 ↔ cn f 4096 = 0 := by
  constructor
  · intro e
    refine cn_z fun k hk => ?_
    rw [← wtb_grw hf h hk, e]
    unfold wtb
    have : ((z2 : R2 (Fin p)).1 (ex k 0)) = pz := @pz_i _ (PRr (Fin p)) _
    rw [this, pz_i]
    split <;> rfl
  · intro e
    refine @pr_ext _ (PRr (Fin p)) _ _ fun x => ?_
    have hz : (z2 : R2 (Fin p)).1 x = pz := @pz_i _ (PRr (Fin p)) x
    rw [hz]
    refine pr_ext fun y => ?_
    rw [pz_i]
    by_cases hx : x < 16
    · by_cases hy : y < 16
      · exact Fin.ext (by rw [grw_at hf hx hy]; exact cn_0 e _ (by omega))
      · exact grw_hi (by omega)
    · have : (grw f : R2 (Fin p)).1 x = pz := if_neg hx
      rw [this, pz_i]
theorem ldk_cg {o w w' : Nat → Nat} (h : ∀ k, k < 4096 → (w k = 0 ↔ w' k = 0)) : ldk o w = ldk o w' := by
  unfold ldk
  congr 1
  funext k
  apply propext
  unfold led
  constructor
  · rintro ⟨a, b, c⟩
    exact ⟨a, fun z => b ((h k a).2 z), fun l hl hz hne => c l hl (fun z => hz ((h l hl).1 z)) hne⟩
  · rintro ⟨a, b, c⟩
    exact ⟨a, fun z => b ((h k a).1 z), fun l hl hz hne => c l hl (fun z => hz ((h l hl).2 z)) hne⟩
theorem ldk_led {o w : Nat → Nat} (h : ∃ k, led o w k) : led o w (ldk o w) := by
  obtain ⟨k, hk⟩ := h
  rw [ldk_of hk]; exact hk
theorem mnw_cg {p : Nat} {o w w' : Nat → Nat} (hl : cn w 4096 ≠ 0 → ∃ k, led o w k) (h : ∀ k, k < 4096 → w k = w' k) {k : Nat} (hk : k < 4096) : mnw p o w k = mnw p o w' k := by
  have e1 : cn w 4096 = cn w' 4096 := cn_ext fun i hi => by rw [h i hi]
  have e2 : ldk o w = ldk o w' := ldk_cg fun k hk => by rw [h k hk]
  unfold mnw
  by_cases c : cn w 4096 = 0
  · rw [if_pos c, if_pos (e1 ▸ c)]; exact h k hk
  · rw [if_neg c, if_neg (fun z => c (e1.trans z))]
    have h4 := (ldk_led (hl c)).1
    show w k * iv p (w (ldk o w)) % p = w' k * iv p (w' (ldk o w')) % p
    rw [← e2, ← h k hk, ← h _ h4]
/-- a number more or less is nothing to a lead made 1 -/
theorem mnw_u {p : Nat} [NeZero p] (hp : pr p) {o : Nat → Nat} {W W' : R2 (Fin p)} {u : Fin p} (hu : u ≠ 0) (he : W' = m2 (c2 (pr_c u)) W) (hl : cn (wtb W) 4096 ≠ 0 → ∃ k, led o (wtb W) k) {k : Nat} (hk : k < 4096) : mnw p o (wtb W') k = mnw p o (wtb W) k := by
  have hF := fdp hp
  have hat : ∀ x y, (W'.1 x).1 y = u * (W.1 x).1 y := fun x y => by
    rw [he, c2_at, pr_mul_c]
  have hz : ∀ k, wtb W' k = 0 ↔ wtb W k = 0 := fun k => by
    unfold wtb
    by_cases c : ex k 2 = 0
    · rw [if_pos c, if_pos c, hat]
      constructor
      · intro z
        have z2 : u * (W.1 (ex k 0)).1 (ex k 1) = 0 := Fin.ext z
        rcases dm_fd hF _ _ z2 with q | q
        · exact absurd q hu
        · rw [q]; rfl
      · intro z
        have z2 : (W.1 (ex k 0)).1 (ex k 1) = 0 := Fin.ext z
        rw [z2]
        have : u * 0 = 0 := by grind
        rw [this]; rfl
    · rw [if_neg c, if_neg c]
  have e1 : cn (wtb W') 4096 = cn (wtb W) 4096 := cn_ext fun i _ => hz i
  have e2 : ldk o (wtb W') = ldk o (wtb W) := ldk_cg fun k _ => hz k
  unfold mnw
  by_cases c : cn (wtb W) 4096 = 0
  · rw [if_pos c, if_pos (e1.trans c)]
    have a1 := cn_0 c k hk
    rw [a1, (hz k).2 a1]
  · rw [if_neg c, if_neg (fun z => c (e1.symm.trans z))]
    have hld := ldk_led (hl c)
    show wtb W' k * iv p (wtb W' (ldk o (wtb W'))) % p = wtb W k * iv p (wtb W (ldk o (wtb W))) % p
    rw [e2]
    have hn := hld.2.1
    generalize ldk o (wtb W) = l at hn ⊢
    unfold wtb at hn ⊢
    by_cases cl : ex l 2 = 0
    · rw [if_pos cl] at hn ⊢
      rw [if_pos cl, hat (ex l 0) (ex l 1)]
      have hy : (W.1 (ex l 0)).1 (ex l 1) ≠ 0 := fun z => hn (by rw [z]; rfl)
      generalize (W.1 (ex l 0)).1 (ex l 1) = y at hy ⊢
      have huy : u * y ≠ 0 := fun z => by
        rcases dm_fd hF _ _ z with q | q
        · exact hu q
        · exact hy q
      by_cases ck : ex k 2 = 0
      · rw [if_pos ck, if_pos ck, hat (ex k 0) (ex k 1)]
        generalize (W.1 (ex k 0)).1 (ex k 1) = x
        rw [← fiv_v hp huy, ← fiv_v hp hy, ← Fin.val_mul, ← Fin.val_mul]
        congr 1
        have q1 := fiv_ok hp huy
        have q2 := fiv_ok hp hy
        generalize fiv (u * y) = a at q1 ⊢
        generalize fiv y = b at q2 ⊢
        grind
      · rw [if_neg ck, if_neg ck, Nat.zero_mul, Nat.zero_mul]
    · rw [if_neg cl] at hn
      exact absurd rfl hn
/-- what two registers have in common -/
noncomputable def cmt (p : Nat) [NeZero p] (o f g : Nat → Nat) : Nat → Nat := if cn g 4096 = 0 then mnw p o f else if cn f 4096 = 0 then mnw p o g else mnw p o (wtb (@Classical.epsilon (R2 (Fin p)) ⟨z2⟩ (fun W => csp (grw f) (grw g) W)))
noncomputable def cmw (A : AB) (r q : Nat) : Nat → Nat := if h : aN A 1 = 0 then (fun _ => 0) else @cmt (aN A 1) ⟨h⟩ (aOk A) (aR A r) (aR A q)
/-- a content, a primitive part as tables -/
def wct {p : Nat} [NeZero p] (c : PR (Fin p)) (m : Nat) : Nat := if ex m 0 = 0 ∧ ex m 2 = 0 then (c.1 (ex m 1)).val else 0
noncomputable def ctt (p : Nat) [NeZero p] (f : Nat → Nat) : Nat → Nat := wct (@Classical.epsilon (PR (Fin p)) ⟨pz⟩ (fun c => gcr (grw f) c))
noncomputable def ctw (A : AB) (r : Nat) : Nat → Nat := if h : aN A 1 = 0 then (fun _ => 0) else @ctt (aN A 1) ⟨h⟩ (aR A r)
noncomputable def pmt (p : Nat) [NeZero p] (f : Nat → Nat) : Nat → Nat := wtb (@Classical.epsilon (R2 (Fin p)) ⟨z2⟩ (fun G => prm (grw f) G))
noncomputable def pmw (A : AB) (r : Nat) : Nat → Nat := if h : aN A 1 = 0 then (fun _ => 0) else @pmt (aN A 1) ⟨h⟩ (aR A r)
theorem cmw_eq {A : AB} [NeZero (aN A 1)] (r q : Nat) : cmw A r q = cmt (aN A 1) (aOk A) (aR A r) (aR A q) := dif_neg (NeZero.ne (aN A 1))
theorem ctw_eq {A : AB} [NeZero (aN A 1)] (r : Nat) : ctw A r = ctt (aN A 1) (aR A r) := dif_neg (NeZero.ne (aN A 1))
theorem pmw_eq {A : AB} [NeZero (aN A 1)] (r : Nat) : pmw A r = pmt (aN A 1) (aR A r) := dif_neg (NeZero.ne (aN A 1))
theorem ctt_of {p : Nat} [NeZero p] (hp : pr p) {f : Nat → Nat} {c : PR (Fin p)} (h : gcr (grw f) c) : ctt p f = wct c := by
  unfold ctt
  rw [gcr_uni (fdp hp) (Classical.epsilon_spec (p := fun c : PR (Fin p) => gcr (grw f) c) ⟨c, h⟩) h]
theorem pmt_of {p : Nat} [NeZero p] (hp : pr p) {f : Nat → Nat} {G : R2 (Fin p)} (h : prm (grw f) G) : pmt p f = wtb G := by
  unfold pmt
  rw [prm_uni (fdp hp) (Classical.epsilon_spec (p := fun G : R2 (Fin p) => prm (grw f) G) ⟨G, h⟩) h]
/-- leads are there -/
def lds (o : Nat → Nat) : Prop := ∀ w : Nat → Nat, cn w 4096 ≠ 0 → ∃ k, led o w k
theorem cmt_of {p : Nat} [NeZero p] (hp : pr p) {o f g : Nat → Nat} (ho : lds o) (hf : ∀ k, k < 4096 → f k < p) (hg : ∀ k, k < 4096 → g k < p) (tf : ¬ thr f) (tg : ¬ thr g) {W : R2 (Fin p)} (h : ((grw g : R2 (Fin p)) = z2 ∧ W = grw f) ∨ ((grw g : R2 (Fin p)) ≠ z2 ∧ (grw f : R2 (Fin p)) = z2 ∧ W = grw g) ∨ ((grw f : R2 (Fin p)) ≠ z2 ∧ (grw g : R2 (Fin p)) ≠ z2 ∧ csp (grw f) (grw g) W)) {k : Nat} (hk : k < 4096) : mnw p o (wtb W) k = cmt p o f g k := by
  have zf := grw_z (p := p) hf tf
  have zg := grw_z (p := p) hg tg
  unfold cmt
  rcases h with ⟨h1, h2⟩ | ⟨h1, h2, h3⟩ | ⟨h1, h2, h3⟩
  · rw [if_pos (zg.1 h1), h2]
    exact mnw_cg (ho _) (fun k hk => wtb_grw hf tf hk) hk
  · rw [if_neg (fun w => h1 (zg.2 w)), if_pos (zf.1 h2), h3]
    exact mnw_cg (ho _) (fun k hk => wtb_grw hg tg hk) hk
  · rw [if_neg (fun w => h2 (zg.2 w)), if_neg (fun w => h1 (zf.2 w))]
    obtain ⟨u, hu, e⟩ := csp_uni (fdp hp) h1 h2 (Classical.epsilon_spec (p := fun W : R2 (Fin p) => csp (grw f) (grw g) W) ⟨W, h3⟩) h3
    exact mnw_u hp hu e (ho _) hk
theorem mc_common {A : AB} {S : St} {x y z : Int32} {post : Int32 → St → Prop} (h : rm A S) (hw : wf A) (h0 : ¬ (aN A 0 = 1 ∧ inr x 7 ∧ inr y 7 ∧ inr z 7) → ∀ S', rm (aS A 1 (-1)) S' → post (-1) S') (h5 : aN A 0 = 1 → inr z 7 → ∀ r q, r < 8 → q < 8 → x = nI r → y = nI q → (thr (aR A r) ∨ thr (aR A q)) → ∀ S', rm (aS A 5 (-1)) S' → post (-1) S')
    (h1 : aN A 0 = 1 → ∀ r q k, r < 8 → q < 8 → k < 8 → x = nI r → y = nI q → z = nI k → ¬ thr (aR A r) → ¬ thr (aR A q) → lyd A k (cmw A r q) True post) : wp_common x y z S post := by
  unfold wp_common wp_common_j37
  intro S1 e1
  have g : rm A S1 := by rw [e1]; exact rm_0 h
  refine sp_areRegs g hw (fun c => b02 rfl (sp_refused g (sc_rfl _) (h0 c))) (fun ht r q k hr hq hk er eq ek => b12 rfl ?_)
  have f5 := h5 ht ⟨k, by omega, ek⟩ r q hr hq er eq
  have f1 := h1 ht r q k hr hq hk er eq ek
  subst er eq ek
  have hW := hw.2.2.2.2 ht
  have hp := hW.1
  haveI : NeZero (aN A 1) := ⟨by have := hp.1; omega⟩
  refine sp_hasThird hr (rm_tb g hw ht hr) (fun tr' => b02 rfl ?_) (fun tr' => b12 rfl (sp_refused g (sc_rfl _) (f5 (Or.inl tr'))))
  refine sp_hasThird hq (rm_tb g hw ht hq) (fun tq => b01 rfl ?_) (fun tq => b11 rfl (sp_refused g (sc_rfl _) (f5 (Or.inr tq))))
  have fin := f1 tr' tq
  rw [cmw_eq] at fin
  have hfr : ∀ k, k < 4096 → aR A r k < aN A 1 := fun k hk => rm_tab hw ht hr hk
  have hfq : ∀ k, k < 4096 → aR A q k < aN A 1 := fun k hk => rm_tab hw ht hq hk
  refine sp_laysRows hp.2.1 hr (Or.inl rfl) (rm_tb g hw ht hr) hfr (fun S2 k2 w2 => ?_)
  have s2 : sc S1 S2 := frb_sc (frb_mono k2 fun k hk => by omega)
  refine sp_laysRows hp.2.1 hq (Or.inr rfl) (tb_any g s2 hw ht hq) hfq (fun S3 k3 w3 => ?_)
  have s3 : sc S1 S3 := sc_tr s2 (frb_sc (frb_mono k3 fun k hk => by omega))
  refine sp_meetsRows hp (f5_any g s3 ht) (rgm_keep w2 k3 (by omega)) w3 (grw_y _) (grw_y _) (fun S4 W k4 w4 hcs => ?_)
  have s4 : sc S1 S4 := sc_tr s3 (frb_sc k4)
  refine sp_laysWork (Or.inl rfl) w4 (fun S5 k5 w5 r5 => ?_)
  have s5 : sc S1 S5 := sc_tr s4 (fr6_sc k5)
  obtain ⟨al, hal⟩ := al_any g s5 ht
  refine sp_monicWork hp (f5_any g s5 ht) hal w5 (fun S6 k6 r6 w6 => ?_)
  refine sp_lyd g hw ht (sc_tr s5 (fr6_sc k6)) hk w6 (fun _ m hm => ?_) (fun w => absurd trivial w) (fun _ => r6.trans r5) fin
  exact cmt_of hp (fun w hw0 => led_of hal (cn_ne hw0)) hfr hfq tr' tq hcs hm
theorem mc_primitive {A : AB} {S : St} {x z : Int32} {post : Int32 → St → Prop} (h : rm A S) (hw : wf A) (h0 : ¬ (aN A 0 = 1 ∧ inr x 7 ∧ inr z 7) → ∀ S', rm (aS A 1 (-1)) S' → post (-1) S') (h5 : aN A 0 = 1 → inr z 7 → ∀ r, r < 8 → x = nI r → thr (aR A r) → ∀ S', rm (aS A 5 (-1)) S' → post (-1) S')
    (h1 : aN A 0 = 1 → ∀ r k, r < 8 → k < 8 → x = nI r → z = nI k → ¬ thr (aR A r) → lyd A k (pmw A r) True post) : wp_primitive x z S post := by
  unfold wp_primitive wp_primitive_j21
  intro S1 e1
  have g : rm A S1 := by rw [e1]; exact rm_0 h
  refine sp_isReg g hw (fun c => b01 rfl (sp_refused g (sc_rfl _) (h0 fun w => c ⟨w.1, w.2.1⟩))) (fun ht r hr er => b11 rfl ?_)
  refine sp_isReg g hw (fun c => b02 rfl (sp_refused g (sc_rfl _) (h0 fun w => c ⟨w.1, w.2.2⟩))) (fun _ k hk ek => b12 rfl ?_)
  have f5 := h5 ht ⟨k, by omega, ek⟩ r hr er
  have f1 := h1 ht r k hr hk er ek
  subst er ek
  have hW := hw.2.2.2.2 ht
  have hp := hW.1
  haveI : NeZero (aN A 1) := ⟨by have := hp.1; omega⟩
  refine sp_hasThird hr (rm_tb g hw ht hr) (fun tr' => b01 rfl ?_) (fun tr' => b11 rfl (sp_refused g (sc_rfl _) (f5 tr')))
  have fin := f1 tr'
  rw [pmw_eq] at fin
  have hfr : ∀ k, k < 4096 → aR A r k < aN A 1 := fun k hk => rm_tab hw ht hr hk
  refine sp_laysRows hp.2.1 hr (Or.inl rfl) (rm_tb g hw ht hr) hfr (fun S2 k2 w2 => ?_)
  have s2 : sc S1 S2 := frb_sc (frb_mono k2 fun k hk => by omega)
  refine sp_primitives hp (f5_any g s2 ht) (Or.inl rfl) w2 (fun S3 G k3 w3 hpm => ?_)
  have s3 : sc S1 S3 := sc_tr s2 (frb_sc (frb_mono k3 fun k hk => by omega))
  refine sp_laysWork (Or.inl rfl) w3 (fun S5 k5 w5 r5 => ?_)
  refine sp_lyd g hw ht (sc_tr s3 (fr6_sc k5)) hk w5 (fun _ m hm => ?_) (fun w => absurd trivial w) (fun _ => r5) fin
  rw [pmt_of hp hpm]
theorem mc_content {A : AB} {S : St} {x z : Int32} {post : Int32 → St → Prop} (h : rm A S) (hw : wf A) (h0 : ¬ (aN A 0 = 1 ∧ inr x 7 ∧ inr z 7) → ∀ S', rm (aS A 1 (-1)) S' → post (-1) S') (h5 : aN A 0 = 1 → inr z 7 → ∀ r, r < 8 → x = nI r → thr (aR A r) → ∀ S', rm (aS A 5 (-1)) S' → post (-1) S')
    (h1 : aN A 0 = 1 → ∀ r k, r < 8 → k < 8 → x = nI r → z = nI k → ¬ thr (aR A r) → lyd A k (ctw A r) True post) : wp_content x z S post := by
  unfold wp_content wp_content_j21
  intro S1 e1
  have g : rm A S1 := by rw [e1]; exact rm_0 h
  refine sp_isReg g hw (fun c => b01 rfl (sp_refused g (sc_rfl _) (h0 fun w => c ⟨w.1, w.2.1⟩))) (fun ht r hr er => b11 rfl ?_)
  refine sp_isReg g hw (fun c => b02 rfl (sp_refused g (sc_rfl _) (h0 fun w => c ⟨w.1, w.2.2⟩))) (fun _ k hk ek => b12 rfl ?_)
  have f5 := h5 ht ⟨k, by omega, ek⟩ r hr er
  have f1 := h1 ht r k hr hk er ek
  subst er ek
  have hW := hw.2.2.2.2 ht
  have hp := hW.1
  haveI : NeZero (aN A 1) := ⟨by have := hp.1; omega⟩
  refine sp_hasThird hr (rm_tb g hw ht hr) (fun tr' => b01 rfl ?_) (fun tr' => b11 rfl (sp_refused g (sc_rfl _) (f5 tr')))
  have fin := f1 tr'
  rw [ctw_eq] at fin
  have hfr : ∀ k, k < 4096 → aR A r k < aN A 1 := fun k hk => rm_tab hw ht hr hk
  refine sp_laysRows hp.2.1 hr (Or.inl rfl) (rm_tb g hw ht hr) hfr (fun S2 k2 w2 => ?_)
  have s2 : sc S1 S2 := frb_sc (frb_mono k2 fun k hk => by omega)
  refine sp_contentOf hp (f5_any g s2 ht) (show mok 21 from ⟨by omega, by omega, by omega⟩) (by omega) (by omega) (by omega) (show 36864 ≤ mlen 18 from Nat.le_refl _) (show 2304 ≤ mlen 21 from Nat.le_refl _) w2 (fun S3 c k3 w3 hxc hgc => ?_)
  have s3 : sc S1 S3 := sc_tr s2 (frb_sc (frb_mono k3 fun k hk => by omega))
  rw [ctt_of hp hgc] at fin
  refine sp_clears (fun S4 k4 z4 r4 => ?_)
  have hp0 : 0 < aN A 1 := by have := hp.1; omega
  unfold wp_content_l68
  refine wl_up 16 (fun y v => v.1 = nI y ∧ fr6 S3 v.2 ∧ v.2 0 29 = 1 ∧ ∀ m, m < 4096 → v.2 6 m = nI (if ex m 1 < y then wct c m else 0)) 0 (by omega) ⟨rfl, k4, r4, fun m hm => by rw [if_neg (by omega)]; exact z4 m hm⟩ ?_
  rintro y ⟨x3, S5⟩ hy ⟨hx3, k5, r5, w5⟩ R hR
  dsimp only at hx3 k5 r5 w5
  subst hx3
  unfold wp_content_b68
  dsimp only
  rw [li_16, nI_leI (by omega) (by omega)]
  refine ⟨fun c2' => ?_, fun c2' => ?_⟩
  · refine sp_lyd g hw ht (sc_tr s3 (fr6_sc k5)) hk (fun m hm => ⟨?_, ?_⟩) (fun _ m _ => rfl) (fun w => absurd trivial w) (fun _ => r5) fin
    · rw [w5 m hm, if_pos (by have := ex_lt m 1; omega)]
    · unfold wct
      split
      · exact Fin.isLt _
      · exact hp0
  · rw [li_0]
    refine sp_keyOf (by omega) (by omega) (by omega) ⟨y, by omega, rfl, 0 + 16 * y + 256 * 0, by omega, rfl, fun S6 e6 x3 e3 => ?_⟩
    rw [k5 21 y (by omega) (by omega), rwm_at w3 (by omega)] at e6
    subst e3
    refine hR (by omega) _ ⟨by rw [li_1, nI_add], fun a b h1 h2 => ?_, ?_, fun m hm => ?_⟩
    · dsimp only
      rw [e6, bw_at, if_neg (fun z => h1 z.1)]
      exact k5 a b h1 h2
    · dsimp only
      rw [e6, bw_at, if_neg (by omega)]
      exact r5
    · dsimp only
      rw [e6, bw_at]
      obtain ⟨q0, q1, q2⟩ := ex_mk (x := 0) (z := 0) (show 0 < 16 by omega) (show y < 16 by omega) (by omega)
      by_cases w : m = 0 + 16 * y + 256 * 0
      · rw [if_pos ⟨rfl, w⟩, w, if_pos (by omega)]
        unfold wct
        rw [if_pos ⟨q0, q2⟩, q1]
      · rw [if_neg (fun z => w z.2), w5 m hm]
        by_cases w1 : ex m 1 < y
        · rw [if_pos w1, if_pos (by omega)]
        · rw [if_neg w1]
          by_cases w2 : ex m 1 < y + 1
          · rw [if_pos w2]
            have hs := ex_sum hm
            unfold wct
            rw [if_neg (fun z => w (by omega))]
          · rw [if_neg w2]
