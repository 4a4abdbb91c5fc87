set_option maxRecDepth 100000
/-! the Model's acts: sums, products, derivatives .. -/
/-- a table of 4096 -/
def tr (w : Nat → Nat) (m : Nat) : Nat := if m < 4096 then w m else 0
theorem tr_lt {w : Nat → Nat} {m : Nat} (h : m < 4096) : tr w m = w m := if_pos h
theorem tr_eq {w v : Nat → Nat} (h : ∀ m, m < 4096 → w m = v m) : tr w = tr v := by
  funext m
  unfold tr
  by_cases q : m < 4096
  · rw [if_pos q, if_pos q, h m q]
  · rw [if_neg q, if_neg q]
theorem cn_tr (w : Nat → Nat) : cn (tr w) 4096 = cn w 4096 := cn_ext fun i hi => by rw [tr_lt hi]
theorem wk_cg {S : St} {p : Nat} {w v : Nat → Nat} (h : wk S p w) (he : ∀ m, m < 4096 → w m = v m) : wk S p v := fun k hk => by rw [← he k hk]; exact h k hk
/-- what an act that lays a table comes to -/
def lyd (A : AB) (k : Nat) (w : Nat → Nat) (P : Prop) (post : Int32 → St → Prop) : Prop := ((¬ P ∨ 60 < cn (tr w) 4096) → ∀ S', rm (aS A 3 (-1)) S' → post (-1) S') ∧ (P → cn (tr w) 4096 ≤ 60 → ∀ S', rm (aL A k (tr w)) S' → post (nI (cn (tr w) 4096)) S')
theorem sp_lyd {A : AB} {S S0 : St} {q : Nat} {w v : Nat → Nat} {P : Prop} {post : Int32 → St → Prop} (h : rm A S0) (hw : wf A) (ht : aN A 0 = 1) (hs : sc S0 S) (hq : q < 8) (hwk : wk S (aN A 1) v) (he : P → ∀ m, m < 4096 → v m = w m) (h0 : ¬ P → S 0 29 = 0) (h1 : P → S 0 29 = 1) (hl : lyd A q w P post) : wp_lays (nI q) S post := by
  have hwk2 : wk S (aN A 1) (tr v) := wk_cg hwk (fun m hm => (tr_lt hm).symm)
  by_cases hP : P
  · have e : tr v = tr w := tr_eq (he hP)
    rw [e] at hwk2
    refine sp_lays h hw ht hs hq hwk2 (fun c => ?_) (fun _ c => hl.2 hP c)
    rcases c with c | c
    · rw [h1 hP] at c; exact absurd c (by decide)
    · exact hl.1 (Or.inr c)
  · exact sp_lays h hw ht hs hq hwk2 (fun _ => hl.1 (Or.inl hP)) (fun c => absurd (h0 hP) c)
theorem tab_wk {A : AB} {S : St} {w : Nat → Nat} (hp : pr (aN A 1)) (hz : ∀ k, k < 4096 → S 6 k = nI 0) : wk S (aN A 1) (fun _ => 0) := fun k hk => ⟨hz k hk, by have := hp.1; show 0 < aN A 1; omega⟩
theorem sp_areRegs {A : AB} {S : St} {x y z : Int32} {post : Int32 → Prop} (h : rm A S) (hw : wf A) (h0 : ¬ (aN A 0 = 1 ∧ inr x 7 ∧ inr y 7 ∧ inr z 7) → post 0) (h1 : aN A 0 = 1 → ∀ r q k, r < 8 → q < 8 → k < 8 → x = nI r → y = nI q → z = nI k → post 1) : wp_areRegs x y z S post := by
  unfold wp_areRegs
  refine sp_isReg h hw (fun c => b01 rfl (h0 fun q => c ⟨q.1, q.2.1⟩)) (fun ht r hr er => b11 rfl ?_)
  refine sp_isReg h hw (fun c => b01 rfl (h0 fun q => c ⟨q.1, q.2.2.1⟩)) (fun ht q hq eq => b11 rfl ?_)
  exact sp_isReg h hw (fun c => b01 rfl (h0 fun q => c ⟨q.1, q.2.2.2⟩)) (fun ht k hk ek => b11 rfl (h1 ht r q k hr hq hk er eq ek))
/-- a sum -/
noncomputable def sm (p : Nat) (f g : Nat → Nat) (c t m : Nat) : Nat := (f m + c * sh g t m) % p
theorem rm_tab {A : AB} (hw : wf A) (ht : aN A 0 = 1) {r k : Nat} (hr : r < 8) (hk : k < 4096) : aR A r k < aN A 1 := ((hw.2.2.2.2 ht).2.2.1 r hr).1 k hk
theorem tb_any {A : AB} {S0 S : St} (h : rm A S0) (hs : sc S0 S) (hw : wf A) (ht : aN A 0 = 1) {r : Nat} (hr : r < 8) : tb S r (aR A r) := tb_fr (rm_tb h hw ht hr) (fun i => hs 1 i (by unfold pers; omega))
theorem f5_any {A : AB} {S0 S : St} (h : rm A S0) (hs : sc S0 S) (ht : aN A 0 = 1) : S 0 5 = nI (aN A 1) := by
  rw [hs 0 5 (by unfold pers; omega)]
  exact (h.2.2.2.2.2.2 ht).1
theorem al_any {A : AB} {S0 S : St} (h : rm A S0) (hs : sc S0 S) (ht : aN A 0 = 1) : ∃ al, alg (ok (aN A 2) (aN A 3) (aN A 4)) S al := by
  obtain ⟨al, ha⟩ := (h.2.2.2.2.2.2 ht).2.2.2.2.2.2.1
  exact ⟨al, alg_cg ha (fun i => hs 4 i (by unfold pers; omega))⟩
theorem no_ovf {f : Nat → Nat} {c : Nat} : ¬ ovf f c 0 := fun ⟨_, k, _, _, hg⟩ => hg (gs_0 k)
theorem mod_1 {p a : Nat} (h : a < p) : (0 + 1 * a) % p = a := by rw [Nat.zero_add, Nat.one_mul, Nat.mod_eq_of_lt h]
theorem mc_add {A : AB} {S : St} {x y z : Int32} {post : Int32 → St → Prop} (h : rm A S) (hw : wf A) (h0 : ¬ (aN A 0 = 1 ∧ inr x 7 ∧ inr y 7 ∧ inr z 7) → ∀ S', rm (aS A 1 (-1)) S' → post (-1) S') (h1 : aN A 0 = 1 → ∀ r q k, r < 8 → q < 8 → k < 8 → x = nI r → y = nI q → z = nI k → lyd A k (sm (aN A 1) (aR A r) (aR A q) 1 0) True post) : wp_add x y z S post := by
  unfold wp_add
  intro S1 e1
  have g : rm A S1 := by rw [e1]; exact rm_0 h
  refine sp_areRegs g hw (fun c => b02 rfl (sp_refused g (sc_rfl _) (h0 c))) (fun ht r q k hr hq hk er eq ek => b12 rfl ?_)
  have hl := h1 ht r q k hr hq hk er eq ek
  subst er eq ek
  have hp := (hw.2.2.2.2 ht).1
  have h2 := hp.1
  refine sp_clears (fun S2 f2 z2 r2 => ?_)
  have s2 := fr6_sc f2
  rw [li_1, li_0]
  refine sp_puts hp (f5_any g s2 ht) hr (tb_any g s2 hw ht hr) (by omega) (by omega) (tab_wk (w := fun _ => 0) hp z2) (fun S3 f3 w3 o3 n3 => ?_)
  have s3 := sc_tr s2 (fr6_sc f3)
  refine sp_puts hp (f5_any g s3 ht) hq (tb_any g s3 hw ht hq) (by omega) (by omega) w3 (fun S4 f4 w4 o4 n4 => ?_)
  refine sp_lyd g hw ht (sc_tr s3 (fr6_sc f4)) hk w4 (fun _ m hm => ?_) (fun q => absurd trivial q) (fun _ => by rw [n4 no_ovf, n3 no_ovf]; exact r2) hl
  show ((0 + 1 * sh (aR A r) 0 m) % aN A 1 + 1 * sh (aR A q) 0 m) % aN A 1 = (aR A r m + 1 * sh (aR A q) 0 m) % aN A 1
  rw [sh_0, mod_1 (rm_tab hw ht hr hm)]
theorem mc_less {A : AB} {S : St} {x y z : Int32} {post : Int32 → St → Prop} (h : rm A S) (hw : wf A) (h0 : ¬ (aN A 0 = 1 ∧ inr x 7 ∧ inr y 7 ∧ inr z 7) → ∀ S', rm (aS A 1 (-1)) S' → post (-1) S') (h1 : aN A 0 = 1 → ∀ r q k, r < 8 → q < 8 → k < 8 → x = nI r → y = nI q → z = nI k → lyd A k (sm (aN A 1) (aR A r) (aR A q) (aN A 1 - 1) 0) True post) : wp_less x y z S post := by
  unfold wp_less
  intro S1 e1
  have g : rm A S1 := by rw [e1]; exact rm_0 h
  refine sp_areRegs g hw (fun c => b02 rfl (sp_refused g (sc_rfl _) (h0 c))) (fun ht r q k hr hq hk er eq ek => b12 rfl ?_)
  have hl := h1 ht r q k hr hq hk er eq ek
  subst er eq ek
  have hp := (hw.2.2.2.2 ht).1
  have h2 := hp.1
  refine sp_clears (fun S2 f2 z2 r2 => ?_)
  have s2 := fr6_sc f2
  rw [li_1, li_0]
  refine sp_puts hp (f5_any g s2 ht) hr (tb_any g s2 hw ht hr) (by omega) (by omega) (tab_wk (w := fun _ => 0) hp z2) (fun S3 f3 w3 o3 n3 => ?_)
  have s3 := sc_tr s2 (fr6_sc f3)
  rw [f5_any g s3 ht, pk_sub (by omega)]
  refine sp_puts hp (f5_any g s3 ht) hq (tb_any g s3 hw ht hq) (by omega) (by omega) w3 (fun S4 f4 w4 o4 n4 => ?_)
  refine sp_lyd g hw ht (sc_tr s3 (fr6_sc f4)) hk w4 (fun _ m hm => ?_) (fun q => absurd trivial q) (fun _ => by rw [n4 no_ovf, n3 no_ovf]; exact r2) hl
  show ((0 + 1 * sh (aR A r) 0 m) % aN A 1 + (aN A 1 - 1) * sh (aR A q) 0 m) % aN A 1 = (aR A r m + (aN A 1 - 1) * sh (aR A q) 0 m) % aN A 1
  rw [sh_0, mod_1 (rm_tab hw ht hr hm)]
/-- a product -/
noncomputable def tm (p : Nat) (f g : Nat → Nat) (n m : Nat) : Nat := ns (fun j => g j * sh f j m) n % p
def tov (f g : Nat → Nat) (n : Nat) : Prop := ∃ j, j < n ∧ ovf f (g j) j
theorem mc_times {A : AB} {S : St} {x y z : Int32} {post : Int32 → St → Prop} (h : rm A S) (hw : wf A) (h0 : ¬ (aN A 0 = 1 ∧ inr x 7 ∧ inr y 7 ∧ inr z 7) → ∀ S', rm (aS A 1 (-1)) S' → post (-1) S') (h1 : aN A 0 = 1 → ∀ r q k, r < 8 → q < 8 → k < 8 → x = nI r → y = nI q → z = nI k → lyd A k (tm (aN A 1) (aR A r) (aR A q) 4096) (¬ tov (aR A r) (aR A q) 4096) post) : wp_times x y z S post := by
  unfold wp_times
  intro S1 e1
  have g : rm A S1 := by rw [e1]; exact rm_0 h
  refine sp_areRegs g hw (fun c => b02 rfl (sp_refused g (sc_rfl _) (h0 c))) (fun ht r q k hr hq hk er eq ek => b12 rfl ?_)
  have hl := h1 ht r q k hr hq hk er eq ek
  subst er eq ek
  have hp := (hw.2.2.2.2 ht).1
  have h2 := hp.1
  have h97 := hp.2.1
  refine sp_clears (fun S2 f2 z2 r2 => ?_)
  unfold wp_times_l28
  refine wl_up 4096 (fun i v => v.1 = nI i ∧ sc S1 v.2 ∧ wk v.2 (aN A 1) (tm (aN A 1) (aR A r) (aR A q) i) ∧ (tov (aR A r) (aR A q) i → v.2 0 29 = 0) ∧ (¬ tov (aR A r) (aR A q) i → v.2 0 29 = 1)) 0 (by omega) ⟨rfl, fr6_sc f2, fun m hm => ⟨by rw [show tm (aN A 1) (aR A r) (aR A q) 0 m = 0 from Nat.zero_mod _]; exact z2 m hm, Nat.mod_lt _ (by omega)⟩, fun ⟨j, hj, _⟩ => absurd hj (by omega), fun _ => r2⟩ ?_
  rintro i ⟨x4, S3⟩ hi ⟨hx4, s3, w3, o3, n3⟩ R hR
  dsimp only at hx4 s3 w3 o3 n3
  subst hx4
  unfold wp_times_b28 wp_times_j60
  dsimp only
  rw [li_4096, nI_leI (by omega) (by omega)]
  refine ⟨fun c => ?_, fun c => ?_⟩
  · have hi4 : i = 4096 := by omega
    subst hi4
    exact sp_lyd g hw ht s3 hk w3 (fun _ m _ => rfl) (fun q => o3 (Classical.byContradiction q)) n3 hl
  · have htb := tb_any g s3 hw ht hq
    obtain ⟨e, hb⟩ := htb i (by omega)
    have hbp := rm_tab hw ht hq (show i < 4096 by omega)
    refine sp_coef hq (by omega) ?_
    rw [e, li_0, nI_eq (by omega) (by omega)]
    refine ⟨fun d x4 ex4 => ?_, fun d => sp_coef hq (by omega) ?_⟩
    · subst ex4
      refine hR (by omega) _ ⟨by rw [li_1, nI_add], s3, wk_cg w3 (fun m hm => ?_), fun ⟨j, hj, ho⟩ => ?_, fun hn => ?_⟩
      · show tm (aN A 1) (aR A r) (aR A q) i m = (ns _ i + aR A q i * sh (aR A r) i m) % aN A 1
        rw [d, Nat.zero_mul, Nat.add_zero]
        rfl
      · refine o3 ⟨j, ?_, ho⟩
        by_cases z : j = i
        · rw [z] at ho; exact absurd d ho.1
        · omega
      · exact n3 fun ⟨j, hj, ho⟩ => hn ⟨j, by omega, ho⟩
    · rw [e]
      refine sp_puts hp (f5_any g s3 ht) hr (tb_any g s3 hw ht hr) hbp (by omega) w3 (fun S4 f4 w4 o4 n4 x4 ex4 => ?_)
      subst ex4
      refine hR (by omega) _ ⟨by rw [li_1, nI_add], sc_tr s3 (fr6_sc f4), wk_cg w4 (fun m hm => ?_), fun ⟨j, hj, ho⟩ => ?_, fun hn => ?_⟩
      · show (ns _ i % aN A 1 + aR A q i * sh (aR A r) i m) % aN A 1 = (ns _ i + aR A q i * sh (aR A r) i m) % aN A 1
        rw [Nat.mod_add_mod]
      · by_cases z : ovf (aR A r) (aR A q i) i
        · exact o4 z
        · show S4 0 29 = 0
          rw [n4 z]
          refine o3 ⟨j, ?_, ho⟩
          by_cases z2 : j = i
          · rw [z2] at ho; exact absurd ho z
          · omega
      · show S4 0 29 = 1
        rw [n4 (fun z => hn ⟨i, by omega, z⟩)]
        exact n3 fun ⟨j, hj, ho⟩ => hn ⟨j, by omega, ho⟩
theorem mc_scale {A : AB} {S : St} {x c0 a b d z : Int32} {post : Int32 → St → Prop} (h : rm A S) (hw : wf A) (h0 : ¬ (aN A 0 = 1 ∧ inr x 7 ∧ inr z 7) → ∀ S', rm (aS A 1 (-1)) S' → post (-1) S') (h2 : aN A 0 = 1 → inr x 7 → inr z 7 → ¬ (inr c0 (aN A 1 - 1) ∧ inr a 15 ∧ inr b 15 ∧ inr d 15) → ∀ S', rm (aS A 2 (-1)) S' → post (-1) S')
    (h1 : aN A 0 = 1 → ∀ r k c i j l, r < 8 → k < 8 → c < aN A 1 → i < 16 → j < 16 → l < 16 → x = nI r → z = nI k → c0 = nI c → a = nI i → b = nI j → d = nI l → lyd A k (sm (aN A 1) (fun _ => 0) (aR A r) c (i + 16 * j + 256 * l)) (¬ ovf (aR A r) c (i + 16 * j + 256 * l)) post) : wp_scale x c0 a b d z S post := by
  unfold wp_scale wp_scale_j22 wp_scale_j59
  intro S1 e1
  have g : rm A S1 := by rw [e1]; exact rm_0 h
  refine sp_isReg g hw (fun c => b01 rfl (sp_refused g (sc_rfl _) (h0 fun q => c ⟨q.1, q.2.1⟩))) (fun ht r hr er => b11 rfl ?_)
  refine sp_isReg g hw (fun c => b02 rfl (sp_refused g (sc_rfl _) (h0 fun q => c ⟨q.1, q.2.2⟩))) (fun _ k hk ek => b12 rfl ?_)
  have i1 : inr x 7 := ⟨r, by omega, er⟩
  have i2 : inr z 7 := ⟨k, by omega, ek⟩
  have hp := (hw.2.2.2.2 ht).1
  have h2' := hp.1
  refine sp_isValue hp (f5_any g (sc_rfl _) ht) (fun d => b01 rfl (sp_refused g (sc_rfl _) (h2 ht i1 i2 fun q => d q.1))) (fun c hc ec => b11 rfl ?_)
  refine sp_isExponent (fun d => b01 rfl (sp_refused g (sc_rfl _) (h2 ht i1 i2 fun q => d q.2.1))) (fun i hi ei => b11 rfl ?_)
  refine sp_isExponent (fun d => b01 rfl (sp_refused g (sc_rfl _) (h2 ht i1 i2 fun q => d q.2.2.1))) (fun j hj ej => b11 rfl ?_)
  refine sp_isExponent (fun d => b02 rfl (sp_refused g (sc_rfl _) (h2 ht i1 i2 fun q => d q.2.2.2))) (fun l hl el => b12 rfl ?_)
  have hly := h1 ht r k c i j l hr hk hc hi hj hl er ek ec ei ej el
  subst er ek ec ei ej el
  refine sp_clears (fun S2 f2 z2 r2 => ?_)
  have s2 := fr6_sc f2
  refine sp_keyOf hi hj hl ?_
  refine sp_puts hp (f5_any g s2 ht) hr (tb_any g s2 hw ht hr) hc (by omega) (tab_wk (w := fun _ => 0) hp z2) (fun S3 f3 w3 o3 n3 => ?_)
  exact sp_lyd g hw ht (sc_tr s2 (fr6_sc f3)) hk w3 (fun _ m hm => rfl) (fun q => o3 (Classical.byContradiction q)) (fun q => by rw [n3 q]; exact r2) hly
theorem led_of {o f : Nat → Nat} {al : Nat → Nat} {S : St} (ha : alg o S al) (h : ∃ k, k < 4096 ∧ f k ≠ 0) : ∃ k, led o f k := by
  obtain ⟨k, hk, hf⟩ := h
  obtain ⟨i, hi, rfl⟩ := ha.2.2 k hk
  obtain ⟨j, h1, h2⟩ := nat_min (P := fun j => j < 4096 ∧ f (al j) ≠ 0) ⟨i, hi, hf⟩
  exact ⟨al j, alg_led ha h1.1 (fun l hl => Classical.byContradiction fun q => h2 l hl ⟨by omega, q⟩) h1.2⟩
theorem cn_ne {f : Nat → Nat} {n : Nat} (h : cn f n ≠ 0) : ∃ k, k < n ∧ f k ≠ 0 := Classical.byContradiction fun hc => h (cn_z fun i hi => Classical.byContradiction fun q => hc ⟨i, hi, q⟩)
theorem mc_monic {A : AB} {S : St} {x z : Int32} {post : Int32 → St → Prop} (h : rm A S) (hw : wf A) (h0 : ¬ (aN A 0 = 1 ∧ inr x 7 ∧ inr z 7) → ∀ S', rm (aS A 1 (-1)) S' → post (-1) S')
    (h1 : aN A 0 = 1 → ∀ r k, r < 8 → k < 8 → x = nI r → z = nI k → (cn (aR A r) 4096 = 0 → lyd A k (fun _ => 0) True post) ∧ ∀ l, led (ok (aN A 2) (aN A 3) (aN A 4)) (aR A r) l → lyd A k (sm (aN A 1) (fun _ => 0) (aR A r) (iv (aN A 1) (aR A r l)) 0) True post) : wp_monic x z S post := by
  unfold wp_monic wp_monic_j21 wp_monic_j59
  intro S1 e1
  have g : rm A S1 := by rw [e1]; exact rm_0 h
  refine sp_isReg g hw (fun c => b01 rfl (sp_refused g (sc_rfl _) (h0 fun q => c ⟨q.1, q.2.1⟩))) (fun ht r hr er => b11 rfl ?_)
  refine sp_isReg g hw (fun c => b02 rfl (sp_refused g (sc_rfl _) (h0 fun q => c ⟨q.1, q.2.2⟩))) (fun _ k hk ek => b12 rfl ?_)
  obtain ⟨l0, l1⟩ := h1 ht r k hr hk er ek
  subst er ek
  have hp := (hw.2.2.2.2 ht).1
  have h2' := hp.1
  refine sp_clears (fun S2 f2 z2 r2 => ?_)
  have s2 := fr6_sc f2
  have t2 := tb_any g s2 hw ht hr
  refine sp_isZero hr t2 (fun c => b02 rfl ?_) (fun c => b12 rfl ?_)
  · obtain ⟨al, hal⟩ := al_any g s2 ht
    refine sp_leadOf hr t2 hal (fun hz => ?_) (fun l hl => ?_)
    · obtain ⟨j, hj, hf⟩ := cn_ne c
      exact absurd (hz j hj) hf
    · have hly := l1 l hl
      refine sp_coef hr hl.1 ?_
      rw [(t2 l hl.1).1]
      have hlt := rm_tab hw ht hr hl.1
      have hpos : 0 < aR A r l := Nat.pos_of_ne_zero hl.2.1
      refine sp_inverse hp (f5_any g s2 ht) hpos hlt ?_
      rw [li_0]
      refine sp_puts hp (f5_any g s2 ht) hr t2 (iv_ok hp hpos hlt).2.1 (by omega) (tab_wk (w := fun _ => 0) hp z2) (fun S3 f3 w3 o3 n3 => ?_)
      exact sp_lyd g hw ht (sc_tr s2 (fr6_sc f3)) hk w3 (fun _ m hm => rfl) (fun q => absurd trivial q) (fun _ => by rw [n3 no_ovf]; exact r2) hly
  · exact sp_lyd g hw ht s2 hk (tab_wk (w := fun _ => 0) hp z2) (fun _ m hm => rfl) (fun q => absurd trivial q) (fun _ => r2) (l0 c)
