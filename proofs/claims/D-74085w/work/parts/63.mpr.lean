set_option maxRecDepth 100000
/-! pairs -/
def mxk (l q : Nat) : Nat := max (ex l 0) (ex q 0) + 16 * max (ex l 1) (ex q 1) + 256 * max (ex l 2) (ex q 2)
theorem mxk_ex (l q : Nat) : mxk l q < 4096 ∧ ∀ u, u < 3 → ex (mxk l q) u = max (ex l u) (ex q u) := by
  have a0 := ex_lt l 0
  have a1 := ex_lt l 1
  have a2 := ex_lt l 2
  have b0 := ex_lt q 0
  have b1 := ex_lt q 1
  have b2 := ex_lt q 2
  obtain ⟨q0, q1, q2⟩ := ex_mk (x := max (ex l 0) (ex q 0)) (y := max (ex l 1) (ex q 1)) (z := max (ex l 2) (ex q 2)) (by omega) (by omega) (by omega)
  refine ⟨by unfold mxk; omega, fun u hu => ?_⟩
  have : u = 0 ∨ u = 1 ∨ u = 2 := by omega
  rcases this with e | e | e <;> subst e
  · exact q0
  · exact q1
  · exact q2
theorem mxk_gi (l q : Nat) : gi l (mxk l q) ∧ gi q (mxk l q) := ⟨fun u hu => by rw [(mxk_ex l q).2 u hu]; omega, fun u hu => by rw [(mxk_ex l q).2 u hu]; omega⟩
noncomputable def prt (p : Nat) (f g : Nat → Nat) (l q m : Nat) : Nat := ((0 + iv p (f l) * sh f (mxk l q - l) m) % p + (p - iv p (g q)) * sh g (mxk l q - q) m) % p
def prr (f g : Nat → Nat) (l q : Nat) : Prop := ¬ ovf f 1 (mxk l q - l) ∧ ¬ ovf g 1 (mxk l q - q)
theorem ovf_c {f : Nat → Nat} {c t : Nat} (hc : c ≠ 0) : ovf f c t ↔ ovf f 1 t := ⟨fun q => ⟨by omega, q.2⟩, fun q => ⟨hc, q.2⟩⟩
theorem sp_laysPair {A : AB} {S0 S : St} {r q l m : Nat} {post : Int32 → St → Prop} (h : rm A S0) (hs : sc S0 S) (hw : wf A) (ht : aN A 0 = 1) (hr : r < 8) (hq : q < 8) (hl : led (aOk A) (aR A r) l) (hm : led (aOk A) (aR A q) m) (h0 : ¬ (prr (aR A r) (aR A q) l m ∧ cn (prt (aN A 1) (aR A r) (aR A q) l m) 4096 ≤ 60) → ∀ S', sc S0 S' → post 0 S') (h1 : prr (aR A r) (aR A q) l m → cn (prt (aN A 1) (aR A r) (aR A q) l m) 4096 ≤ 60 → ∀ S', sc S0 S' → wk S' (aN A 1) (prt (aN A 1) (aR A r) (aR A q) l m) → S' 0 29 = 1 → post 1 S') : wp_laysPair (nI r) (nI q) S post := by
  have hp := (hw.2.2.2.2 ht).1
  have hp2 := hp.1
  have hp97 := hp.2.1
  obtain ⟨al, hal⟩ := al_any h hs ht
  unfold wp_laysPair
  refine sp_leadOf hr (tb_any h hs hw ht hr) hal (fun z => absurd (z l hl.1) hl.2.1) (fun l' hl' => ?_)
  have e1 := led_uni hl' hl
  subst e1
  refine sp_leadOf hq (tb_any h hs hw ht hq) hal (fun z => absurd (z m hm.1) hm.2.1) (fun m' hm' => ?_)
  have e1 := led_uni hm' hm
  subst e1
  obtain ⟨x1, x2⟩ := mxk_ex l' m'
  obtain ⟨g1, g2⟩ := mxk_gi l' m'
  have hl4 := hl.1
  have hm4 := hm.1
  obtain ⟨y1, _, _⟩ := gi_sub hl4 x1 g1
  obtain ⟨y2, _, _⟩ := gi_sub hm4 x1 g2
  unfold wp_laysPair_l19
  refine wl_up 3 (fun u v => v = (nI (mxk l' m' % 16 ^ u), nI u)) 0 (by omega) (by rw [Nat.pow_zero, Nat.mod_one]; rfl) ?_
  rintro u v hu rfl R hR
  unfold wp_laysPair_b19 wp_laysPair_j59
  dsimp only
  rw [li_3, nI_leI (by omega) (by omega)]
  refine ⟨fun c => ?_, fun c => sp_exponent (by omega) (by omega) (sp_exponent (by omega) (by omega) ?_)⟩
  · have eu : mxk l' m' % 16 ^ u = mxk l' m' := by
      rw [show u = 3 by omega]
      exact Nat.mod_eq_of_lt x1
    rw [eu]
    refine sp_clears (fun S1 f1 z1 r1 => ?_)
    have s1 := sc_tr hs (fr6_sc f1)
    refine sp_coef hr hl4 ?_
    have t1 := tb_any h s1 hw ht hr
    rw [(t1 l' hl4).1]
    have hfl := rm_tab hw ht hr hl4
    have hfp : 0 < aR A r l' := Nat.pos_of_ne_zero hl.2.1
    obtain ⟨i1, i2, i3⟩ := iv_ok hp hfp hfl
    refine sp_inverse hp (f5_any h s1 ht) hfp hfl ?_
    rw [pk_sub y1]
    refine sp_puts hp (f5_any h s1 ht) hr t1 i2 (by omega) (tab_wk (w := fun _ => 0) hp z1) (fun S2 f2 w2 o2 n2 => ?_)
    have s2 := sc_tr s1 (fr6_sc f2)
    refine sp_coef hq hm4 ?_
    have t2 := tb_any h s2 hw ht hq
    rw [(t2 m' hm4).1]
    have hgl := rm_tab hw ht hq hm4
    have hgp : 0 < aR A q m' := Nat.pos_of_ne_zero hm.2.1
    obtain ⟨j1, j2, j3⟩ := iv_ok hp hgp hgl
    refine sp_inverse hp (f5_any h s2 ht) hgp hgl ?_
    rw [f5_any h s2 ht, pk_sub (by omega), pk_sub y2]
    refine sp_puts hp (f5_any h s2 ht) hq t2 (by omega) (by omega) w2 (fun S3 f3 w3 o3 n3 => ?_)
    have s3 := sc_tr s2 (fr6_sc f3)
    rw [ovf_c (by omega)] at o2 n2 o3 n3
    have w3 : wk S3 (aN A 1) (prt (aN A 1) (aR A r) (aR A q) l' m') := w3
    have hbad : ¬ prr (aR A r) (aR A q) l' m' → S3 0 29 = 0 := fun z => by
      by_cases za : ovf (aR A q) 1 (mxk l' m' - m')
      · exact o3 za
      · rw [n3 za]
        exact o2 (Classical.byContradiction fun zb => z ⟨zb, za⟩)
    have hgood : prr (aR A r) (aR A q) l' m' → S3 0 29 = 1 := fun z => by rw [n3 z.2, n2 z.1]; exact r1
    refine ⟨fun z => h0 (fun w => ?_) S3 s3, fun z => sp_workTerms hp w3 ?_⟩
    · rw [hgood w.1] at z
      exact absurd z (by decide)
    · have hcn := cn_le (prt (aN A 1) (aR A r) (aR A q) l' m') 4096
      have hpr : prr (aR A r) (aR A q) l' m' := Classical.byContradiction fun w => z (hbad w)
      rw [li_60, nI_ltI (by omega) (by omega)]
      exact ⟨fun w => h0 (fun w2 => by omega) S3 s3, fun w => h1 hpr (by omega) S3 s3 w3 (hgood hpr)⟩
  · have a1 := ex_lt l' u
    have a2 := ex_lt m' u
    have hp16 : 0 < 16 ^ u := Nat.pow_pos (by omega)
    have step : ∀ v, v = ex (mxk l' m') u → ∀ x5, x5 = (nI (mxk l' m' % 16 ^ u) ||| (jshl (nI v) (4 * nI u))) → ∀ x6, x6 = nI u + 1 → R (x5, x6) := fun v ev x5 e5 x6 e6 => by
      subst ev e5 e6
      refine hR (by omega) _ ?_
      rw [n_shl16 (ex_lt _ _) (by omega), n_or, ← pow16 u, n_or_add (by rw [pow16]; exact Nat.mod_lt _ hp16), pow16, ← mod_s, li_1, nI_add]
    rw [nI_leI (by omega) (by omega)]
    refine ⟨fun z => sp_exponent (by omega) (by omega) (fun x5 e5 => step _ ?_ x5 e5), fun z => sp_exponent (by omega) (by omega) (fun x5 e5 => step _ ?_ x5 e5)⟩
    · rw [x2 u (by omega)]; omega
    · rw [x2 u (by omega)]; omega
theorem mc_pair {A : AB} {S : St} {x y z : Int32} {post : Int32 → St → Prop} (h : rm A S) (hw : wf A) (h0 : ¬ (aN A 0 = 1 ∧ inr x 7 ∧ inr y 7 ∧ inr z 7 ∧ x ≠ y) → ∀ S', rm (aS A 1 (-1)) S' → post (-1) S') (h5 : aN A 0 = 1 → inr z 7 → ∀ r q, r < 8 → q < 8 → r ≠ q → x = nI r → y = nI q → (cn (aR A r) 4096 = 0 ∨ cn (aR A q) 4096 = 0) → ∀ S', rm (aS A 5 (-1)) S' → post (-1) S')
    (h1 : aN A 0 = 1 → ∀ r q k l m, r < 8 → q < 8 → k < 8 → r ≠ q → x = nI r → y = nI q → z = nI k → led (aOk A) (aR A r) l → led (aOk A) (aR A q) m → lyd A k (prt (aN A 1) (aR A r) (aR A q) l m) (prr (aR A r) (aR A q) l m) post) : wp_pair x y z S post := by
  unfold wp_pair wp_pair_j20 wp_pair_j42
  intro S1 e1
  have g : rm A S1 := by rw [e1]; exact rm_0 h
  refine sp_areRegs g hw (fun c => b01 rfl (sp_refused g (sc_rfl _) (h0 fun q => c ⟨q.1, q.2.1, q.2.2.1, q.2.2.2.1⟩))) (fun ht r q k hr hq hk er eq ek => b11 rfl ?_)
  refine ⟨fun hne => ?_, fun he => sp_refused g (sc_rfl _) (h0 fun w => w.2.2.2.2 he)⟩
  have hrq : r ≠ q := fun w => hne (by rw [er, eq, w])
  have f5 := h5 ht ⟨k, by omega, ek⟩ r q hr hq hrq er eq
  have f1 := fun l m => h1 ht r q k l m hr hq hk hrq er eq ek
  subst er eq ek
  refine sp_isZero hr (rm_tb g hw ht hr) (fun zr => b02 rfl ?_) (fun zr => b12 rfl (sp_refused g (sc_rfl _) (f5 (Or.inl zr))))
  refine sp_isZero hq (rm_tb g hw ht hq) (fun zq => b01 rfl ?_) (fun zq => b11 rfl (sp_refused g (sc_rfl _) (f5 (Or.inr zq))))
  obtain ⟨al, hal⟩ := al_any g (sc_rfl _) ht
  obtain ⟨l, hl⟩ := led_of (f := aR A r) hal (cn_ne zr)
  obtain ⟨m, hm⟩ := led_of (f := aR A q) hal (cn_ne zq)
  have fin := f1 l m hl hm
  refine sp_laysPair g (sc_rfl _) hw ht hr hq hl hm (fun w S2 k2 => b01 rfl (sp_refused g k2 (fin.1 ?_))) (fun w1 w2 S2 k2 wk2 r2 => b11 rfl ?_)
  · rw [cn_tr]
    by_cases z : prr (aR A r) (aR A q) l m
    · right
      exact Nat.lt_of_not_le fun z2 => w ⟨z, z2⟩
    · exact Or.inl z
  · exact sp_lyd g hw ht k2 hk wk2 (fun _ m _ => rfl) (fun w => absurd w1 w) (fun _ => r2) fin
/-- pairs of a set, by their numbers -/
def act (s i : Nat) : Prop := i / 8 < i % 8 ∧ bit s (i / 8) ∧ bit s (i % 8)
noncomputable def pwt (A : AB) (i : Nat) : Nat → Nat := prt (aN A 1) (aR A (i / 8)) (aR A (i % 8)) (ldk (aOk A) (aR A (i / 8))) (ldk (aOk A) (aR A (i % 8)))
def pok (A : AB) (i : Nat) : Prop := prr (aR A (i / 8)) (aR A (i % 8)) (ldk (aOk A) (aR A (i / 8))) (ldk (aOk A) (aR A (i % 8))) ∧ cn (pwt A i) 4096 ≤ 60
noncomputable def pdv (A : AB) (s i : Nat) : Option DS := drun (aN A 1) (aOk A) (aR A) s 502 (ds0 (pwt A i))
def pbad (A : AB) (s i : Nat) : Prop := act s i ∧ (¬ pok A i ∨ pdv A s i = none)
def pgot (A : AB) (s i : Nat) (D : DS) : Prop := act s i ∧ pok A i ∧ pdv A s i = some D
def pzr (A : AB) (s i : Nat) : Prop := ¬ act s i ∨ ∃ D, pgot A s i D ∧ cn (dR D) 4096 = 0
def pnz (A : AB) (s i : Nat) : Prop := ∃ D, pgot A s i D ∧ cn (dR D) 4096 ≠ 0
theorem sp_firstMissing {A : AB} {S0 S : St} {s i0 : Nat} {post : Int32 → St → Prop} (h : rm A S0) (hs : sc S0 S) (hw : wf A) (ht : aN A 0 = 1) (hs2 : s < 256) (hn : ¬ hzr A s) (hi0 : i0 ≤ 64) (h3 : ∀ i, i0 ≤ i → i < 64 → pbad A s i → (∀ j, i0 ≤ j → j < i → pzr A s j) → ∀ S', sc S0 S' → post (-3) S') (h1 : ∀ i D, i0 ≤ i → i < 64 → pgot A s i D → cn (dR D) 4096 ≠ 0 → dinv (aN A 1) (aOk A) (aR A) s D → (∀ j, i0 ≤ j → j < i → pzr A s j) → ∀ S', sc S0 S' → mdv D S' → post (nI i) S') (hno : (∀ j, i0 ≤ j → j < 64 → pzr A s j) → ∀ S', sc S0 S' → post (-1) S') : wp_firstMissing (nI s) (nI i0) S post := by
  have hW := hw.2.2.2.2 ht
  unfold wp_firstMissing wp_firstMissing_l2
  refine wl_up 64 (fun i v => v.1 = nI i ∧ i0 ≤ i ∧ sc S0 v.2 ∧ ∀ j, i0 ≤ j → j < i → pzr A s j) i0 hi0 ⟨rfl, Nat.le_refl _, hs, fun j q1 q2 => absurd q2 (by omega)⟩ ?_
  rintro i ⟨x3, S1⟩ hi ⟨hx3, hii, s1, hz⟩ R hR
  dsimp only at hx3 s1
  subst hx3
  unfold wp_firstMissing_b2 wp_firstMissing_j79 wp_firstMissing_j67
  dsimp only
  rw [li_64, nI_leI (by omega) (by omega)]
  refine ⟨fun c => hno (fun j q1 q2 => hz j q1 (by omega)) S1 s1, fun c x4 e4 x5 e5 => ?_⟩
  rw [li_8, n_div (by omega) (by omega) (by omega)] at e4
  rw [li_8, n_rem (by omega) (by omega) (by omega)] at e5
  subst e4 e5
  have hr8 : i / 8 < 8 := by omega
  have hq8 : i % 8 < 8 := by omega
  have next : ∀ S2, sc S0 S2 → pzr A s i → ∀ x, x = nI i + 1 → R (x, S2) := fun S2 s2 hzi x ex => by
    subst ex
    refine hR (by omega) _ ⟨by rw [li_1, nI_add], by omega, s2, fun j q1 q2 => ?_⟩
    by_cases q : j = i
    · rw [q]; exact hzi
    · exact hz j q1 (by omega)
  rw [nI_leI (by omega) (by omega), n_bit0 hs2 hr8, n_bit0 hs2 hq8]
  refine ⟨fun d => next S1 s1 (Or.inl fun w => by have := w.1; omega), fun d => ⟨fun d1 => next S1 s1 (Or.inl fun w => d1 w.2.1), fun d1 => ⟨fun d2 => ?_, fun d2 => next S1 s1 (Or.inl fun w => d2 w.2.2)⟩⟩⟩
  have b1 : bit s (i / 8) := Classical.byContradiction d1
  have b2 : bit s (i % 8) := Classical.byContradiction d2
  have ha : act s i := ⟨by omega, b1, b2⟩
  have hv := dvs_of h hw ht hn
  have l1 := (hv (i / 8) hr8).2 b1
  have l2 := (hv (i % 8) hq8).2 b2
  refine sp_laysPair h s1 hw ht hr8 hq8 l1 l2 (fun w S2 s2 => b01 rfl (h3 i hii (by omega) ⟨ha, Or.inl w⟩ hz S2 s2)) (fun w1 w2 S2 s2 wk2 r2 => b11 rfl ?_)
  have hok : pok A i := ⟨w1, w2⟩
  obtain ⟨al, hal⟩ := al_any h s2 ht
  refine sp_dividesBy hW.1 hW.2.1 hs2 (f5_any h s2 ht) (fun d hd => tb_any h s2 hw ht hd) hal hv wk2 w2 (fun w S3 f3 => b02 rfl (h3 i hii (by omega) ⟨ha, Or.inr w⟩ hz S3 (sc_tr s2 (frd_sc f3)))) (fun D w hid S3 f3 m3 => b12 rfl ?_)
  have s3 := sc_tr s2 (frd_sc f3)
  have hi5 := hid.2.2.2.2.1
  have hg : pgot A s i D := ⟨ha, hok, w⟩
  rw [m3.2.2.2.1, li_0, nI_leI (by omega) (by omega)]
  exact ⟨fun z => next S3 s3 (Or.inr ⟨D, hg, by omega⟩), fun z => h1 i D hii (by omega) hg (by omega) hid hz S3 s3 m3⟩
theorem pz_not {A : AB} {s i : Nat} (h : pzr A s i) : ¬ pnz A s i ∧ ¬ pbad A s i := by
  refine ⟨fun ⟨D, g, z⟩ => ?_, fun ⟨a, b⟩ => ?_⟩
  · rcases h with h | ⟨D', g', z'⟩
    · exact h g.1
    · have := g.2.2.symm.trans g'.2.2
      injection this with this
      rw [this] at z
      exact z z'
  · rcases h with h | ⟨D', g', z'⟩
    · exact h a
    · rcases b with b | b
      · exact b g'.2.1
      · rw [g'.2.2] at b
        cases b
noncomputable def pnn (A : AB) (s i : Nat) : Nat := @ite _ (pnz A s i) (Classical.propDecidable _) 1 0
theorem mc_missing {A : AB} {S : St} {x : Int32} {post : Int32 → St → Prop} (h : rm A S) (hw : wf A) (h0 : ¬ aN A 0 = 1 → ∀ S', rm (aS A 1 (-1)) S' → post (-1) S') (h2 : aN A 0 = 1 → ¬ (∃ s, iset x s) → ∀ S', rm (aS A 2 (-1)) S' → post (-1) S') (h5 : aN A 0 = 1 → ∀ s, iset x s → hzr A s → ∀ S', rm (aS A 5 (-1)) S' → post (-1) S')
    (h1 : aN A 0 = 1 → ∀ s, iset x s → ¬ hzr A s → ((∃ i, i < 64 ∧ pbad A s i) → ∀ S', rm (aS A 3 (-1)) S' → post (-1) S') ∧ ((∀ i, i < 64 → ¬ pbad A s i) → ∀ S', rm (aS A 0 (-1)) S' → post (nI (ns (pnn A s) 64)) S')) : wp_missing x S post := by
  unfold wp_missing
  intro S1 e1
  have g : rm A S1 := by rw [e1]; exact rm_0 h
  have hlt := hw.1
  rw [g.2.2.2.1, li_0, nI_eq (by omega) (by omega)]
  refine ⟨fun c => ?_, fun c => sp_refused g (sc_rfl _) (h0 (by omega))⟩
  have ht : aN A 0 = 1 := by omega
  refine sp_refusesSet g (sc_rfl _) hw ht (fun c => ⟨fun q => absurd q (by decide), fun _ => sp_refused g (sc_rfl _) (h2 ht c)⟩) (fun s hse hz => ⟨fun q => absurd q (by decide), fun _ => sp_refused g (sc_rfl _) (h5 ht s hse hz)⟩) (fun s hse hz => ⟨fun _ => ?_, fun q => absurd (by decide) q⟩)
  obtain ⟨f3, f1⟩ := h1 ht s hse hz
  obtain ⟨s1, s2, rfl⟩ := hse
  -- what a search from i0 on has come to
  let out : Nat → Int32 → Prop := fun i0 y => (y = -3 ∧ ∃ i, i < 64 ∧ pbad A s i) ∨ (y = -1 ∧ ∀ j, i0 ≤ j → j < 64 → pzr A s j) ∨ ∃ i, i0 ≤ i ∧ i < 64 ∧ y = nI i ∧ pnz A s i ∧ ∀ j, i0 ≤ j → j < i → pzr A s j
  have search : ∀ i0, i0 ≤ 64 → ∀ S2, sc S1 S2 → ∀ post2 : Int32 → St → Prop, (∀ y S3, sc S1 S3 → out i0 y → post2 y S3) → wp_firstMissing (nI s) (nI i0) S2 post2 := fun i0 hi0 S2 k2 post2 hp2 => sp_firstMissing g k2 hw ht s2 hz hi0 (fun i q1 q2 q3 _ S3 k3 => hp2 _ S3 k3 (Or.inl ⟨rfl, i, q2, q3⟩)) (fun i D q1 q2 q3 q4 _ q5 S3 k3 _ => hp2 _ S3 k3 (Or.inr (Or.inr ⟨i, q1, q2, rfl, ⟨D, q3, q4⟩, q5⟩))) (fun q S3 k3 => hp2 _ S3 k3 (Or.inr (Or.inl ⟨rfl, q⟩)))
  refine search 0 (by omega) S1 (sc_rfl _) _ (fun y S3 k3 ho => ?_)
  unfold wp_missing_l44
  refine wl_n (fun n v => ∃ i0, i0 ≤ 64 ∧ n = 64 - i0 ∧ v.1 = nI (ns (pnn A s) i0) ∧ (∀ j, j < i0 → ¬ pbad A s j) ∧ sc S1 v.2.2 ∧ out i0 v.2.1) 64 ⟨0, by omega, rfl, rfl, fun j hj => absurd hj (by omega), k3, ho⟩ ?_
  rintro n ⟨x3, x4, S4⟩ ⟨i0, hi0, hn, hx3, hnb, k4, ho⟩ R hR
  dsimp only at hx3 k4 ho
  subst hx3
  unfold wp_missing_b44
  dsimp only
  rcases ho with ⟨e4, hbd⟩ | ⟨e4, hall⟩ | ⟨i, q1, q2, e4, q3, q4⟩
  · subst e4
    exact ⟨fun _ => ⟨fun w => absurd rfl w, fun _ => sp_refused g k4 (f3 hbd)⟩, fun w => absurd (by decide) w⟩
  · subst e4
    refine ⟨fun _ => ⟨fun _ => sp_good g k4 ?_, fun w => absurd w (by decide)⟩, fun w => absurd (by decide) w⟩
    have e : ns (pnn A s) i0 = ns (pnn A s) 64 := by
      have key : ∀ k, i0 ≤ k → k ≤ 64 → ns (pnn A s) i0 = ns (pnn A s) k := fun k => by
        induction k with
        | zero => intro z1 z2; rw [show i0 = 0 by omega]
        | succ k ih =>
          intro z1 z2
          by_cases e : i0 = k + 1
          · rw [e]
          · rw [ns_s, ← ih (by omega) (by omega)]
            have : pnn A s k = 0 := if_neg (pz_not (hall k (by omega) (by omega))).1
            rw [this]; rfl
      exact key 64 (by omega) (by omega)
    rw [e]
    exact f1 fun j hj => by
      by_cases z : j < i0
      · exact hnb j z
      · exact (pz_not (hall j (by omega) hj)).2
  · subst e4
    refine ⟨fun w => absurd w (nI_pos (by omega)), fun _ x3 e3 => ?_⟩
    subst e3
    rw [li_1, nI_add, nI_add]
    refine search (i + 1) (by omega) S4 k4 _ (fun y S5 k5 ho5 => ?_)
    refine hR (64 - (i + 1)) _ (by omega) ⟨i + 1, by omega, rfl, ?_, fun j hj => ?_, k5, ho5⟩
    · have key : ∀ k, i0 ≤ k → k ≤ i → ns (pnn A s) i0 = ns (pnn A s) k := fun k => by
        induction k with
        | zero => intro z1 z2; rw [show i0 = 0 by omega]
        | succ k ih =>
          intro z1 z2
          by_cases e : i0 = k + 1
          · rw [e]
          · rw [ns_s, ← ih (by omega) (by omega)]
            have : pnn A s k = 0 := if_neg (pz_not (q4 k (by omega) (by omega))).1
            rw [this]; rfl
      have e2 : pnn A s i = 1 := if_pos q3
      rw [ns_s, e2, ← key i q1 (Nat.le_refl _)]
    · by_cases z : j < i0
      · exact hnb j z
      · by_cases z2 : j = i
        · subst z2
          obtain ⟨D, g1, g2⟩ := q3
          exact fun ⟨w1, w2⟩ => by
            rcases w2 with w2 | w2
            · exact w2 g1.2.1
            · rw [g1.2.2] at w2
              cases w2
        · exact (pz_not (q4 j (by omega) (by omega))).2
