set_option maxRecDepth 100000
/-! the Model's rows -/
def frb (P : Nat → Prop) (S S' : St) : Prop := ∀ k, ¬ P k → ∀ i, S' k i = S k i
theorem frb_rfl (P : Nat → Prop) (S : St) : frb P S S := fun _ _ _ => rfl
theorem frb_tr {P : Nat → Prop} {S S' S'' : St} (h1 : frb P S S') (h2 : frb P S' S'') : frb P S S'' := fun k hk i => (h2 k hk i).trans (h1 k hk i)
theorem frb_mono {P Q : Nat → Prop} {S S' : St} (h : frb P S S') (hPQ : ∀ k, P k → Q k) : frb Q S S' := fun k hk i => h k (fun q => hk (hPQ k q)) i
theorem frb_bw {P : Nat → Prop} {S : St} {k i : Nat} {v : Int32} (hk : P k) : frb P S (bw S k i v) := fun k' hk' i' => by
  rw [bw_at, if_neg]
  rintro ⟨rfl, _⟩
  exact hk' hk
/-- a row lies in a bank from a place on -/
def rwm {p : Nat} (S : St) (k o : Nat) (h : Nat → Fin p) : Prop := ∀ y, y < 2304 → S k (o + y) = nI (h y).val
theorem rwm_keep {p : Nat} {S S' : St} {k o : Nat} {h : Nat → Fin p} {P : Nat → Prop} (hr : rwm S k o h) (hf : frb P S S') (hk : ¬ P k) : rwm S' k o h := fun y hy => by rw [hf k hk]; exact hr y hy
theorem rwm_cg {p : Nat} {S : St} {k o : Nat} {h h' : Nat → Fin p} (hr : rwm S k o h) (he : ∀ y, y < 2304 → h y = h' y) : rwm S k o h' := fun y hy => by rw [← he y hy]; exact hr y hy
theorem rwm_at {p : Nat} {S : St} {k : Nat} {h : Nat → Fin p} (hr : rwm S k 0 h) {y : Nat} (hy : y < 2304) : S k y = nI (h y).val := by
  have := hr y hy
  rw [Nat.zero_add] at this
  exact this
theorem sp_heightOf {p : Nat} [NeZero p] {S : St} {k o : Nat} {r : PR (Fin p)} {post : Int32 → Prop} (hp : p ≤ 97) (h : rwm S k o r.1) (hx : xl r 2304) (hm : o + 2304 ≤ mlen k) (ho : o < 100000) (hpost : ∀ n, n ≤ 2304 → hgt r n → post (hI n)) : wp_heightOf k (nI o) S post := by
  unfold wp_heightOf wp_heightOf_l4
  refine wl_n (fun n v => v = hI n ∧ n ≤ 2304 ∧ xl r n) 2304 ⟨by decide, by omega, hx⟩ ?_
  rintro n v ⟨rfl, hn, hxn⟩ R hR
  unfold wp_heightOf_b4
  rw [hI_lt0 (by omega)]
  refine ⟨fun c => ?_, fun c => ?_⟩
  · have := hpost n hn ⟨hxn, Or.inl c⟩
    rw [c, hI_0] at this
    exact this
  · obtain ⟨m, rfl⟩ : ∃ m, n = m + 1 := ⟨n - 1, by omega⟩
    rw [hI_s, nI_add]
    refine ⟨o + m, by omega, rfl, ?_⟩
    rw [h m (by omega), nF_0 _ hp]
    refine ⟨fun z x e => ?_, fun z => ?_⟩
    · refine hR m _ (by omega) ⟨e, by omega, fun i hi => ?_⟩
      by_cases w : i = m
      · rw [w]; exact z
      · exact hxn i (by omega)
    · have := hpost (m + 1) hn ⟨hxn, Or.inr z⟩
      rw [hI_s] at this
      exact this
/-- rows by x -/
def rgm {p : Nat} [NeZero p] (S : St) (k : Nat) (G : R2 (Fin p)) : Prop := (∀ x, x < 16 → rwm S k (2304 * x) (G.1 x).1) ∧ yl G 2303 ∧ xl2 G 16
theorem rgm_keep {p : Nat} [NeZero p] {S S' : St} {k : Nat} {G : R2 (Fin p)} {P : Nat → Prop} (h : rgm S k G) (hf : frb P S S') (hk : ¬ P k) : rgm S' k G := ⟨fun x hx => rwm_keep (h.1 x hx) hf hk, h.2⟩
abbrev hgt2 {F : Type} [Lean.Grind.CommRing F] (G : R2 F) (n : Nat) : Prop := @hgt _ (PRr F) G n
theorem hgt2_ex {F : Type} [Lean.Grind.CommRing F] (G : R2 F) : ∃ n, hgt2 G n := @hgt_ex _ (PRr F) G
theorem sp_degreeX {p : Nat} [NeZero p] {S : St} {k : Nat} {G : R2 (Fin p)} {post : Int32 → Prop} (hp : p ≤ 97) (h : rgm S k G) (hm : 36864 ≤ mlen k) (hpost : ∀ n, n ≤ 16 → hgt2 G n → post (hI n)) : wp_degreeX k S post := by
  unfold wp_degreeX wp_degreeX_l3
  refine wl_n (fun n v => v = hI n ∧ n ≤ 16 ∧ xl2 G n) 16 ⟨by decide, by omega, h.2.2⟩ ?_
  rintro n v ⟨rfl, hn, hxn⟩ R hR
  unfold wp_degreeX_b3
  rw [hI_lt0 (by omega)]
  refine ⟨fun c => ?_, fun c => ?_⟩
  · have := hpost n hn ⟨hxn, Or.inl c⟩
    rw [c, hI_0] at this
    exact this
  · obtain ⟨m, rfl⟩ : ∃ m, n = m + 1 := ⟨n - 1, by omega⟩
    rw [hI_s, li_2304, pk_mul]
    refine sp_heightOf hp (h.1 m (by omega)) (h.2.1 m) (by omega) (by omega) (fun e he hh => ?_)
    rw [hI_eq0 (by omega)]
    refine ⟨fun z x ex => ?_, fun z => ?_⟩
    · subst z
      refine hR m _ (by omega) ⟨ex, by omega, fun i hi => ?_⟩
      by_cases w : i = m
      · rw [w]; exact hgt_0 hh
      · exact hxn i (by omega)
    · have := hpost (m + 1) hn ⟨hxn, Or.inr fun w => z (by
        rw [show m + 1 - 1 = m by omega] at w
        have w : G.1 m = pz := w
        rw [w] at hh
        exact hgt_pz hh)⟩
      rw [hI_s] at this
      exact this
theorem sp_copies {p : Nat} {S : St} {k t o : Nat} {h : Nat → Fin p} {post : St → Prop} (hr : rwm S k o h) (hm : o + 2304 ≤ mlen k) (ho : o < 100000) (ht : 2304 ≤ mlen t) (hkt : k ≠ t) (hp : ∀ S', frb (fun b => b = t) S S' → rwm S' t 0 h → post S') : wp_copies k (nI o) t S post := by
  unfold wp_copies wp_copies_l2
  refine wl_up 2304 (fun i v => v.1 = nI i ∧ frb (fun b => b = t) S v.2 ∧ ∀ y, y < i → v.2 t y = nI (h y).val) 0 (by omega) ⟨rfl, frb_rfl _ _, fun y hy => absurd hy (by omega)⟩ ?_
  rintro i ⟨x3, S1⟩ hi ⟨hx3, f1, w1⟩ R hR
  dsimp only at hx3 f1 w1
  subst hx3
  unfold wp_copies_b2
  dsimp only
  rw [li_2304, nI_leI (by omega) (by omega), nI_add]
  refine ⟨fun c => hp S1 f1 fun y hy => by rw [Nat.zero_add]; exact w1 y (by omega), fun c => ⟨o + i, by omega, rfl, i, by omega, rfl, fun S2 e2 x3 ex => ?_⟩⟩
  rw [f1 k hkt, hr i (by omega)] at e2
  subst ex
  refine hR (by omega) _ ⟨by rw [li_1, nI_add], ?_, fun y hy => ?_⟩
  · dsimp only
    rw [e2]
    exact frb_tr f1 (frb_bw rfl)
  · dsimp only
    rw [e2, bw_at]
    by_cases q : y = i
    · rw [if_pos ⟨rfl, q⟩, q]
    · rw [if_neg (fun z => q z.2)]; exact w1 y (by omega)
/-- how high what is left is -/
theorem sp_leaves118 {p : Nat} [NeZero p] {S : St} {k1 k2 s : Nat} {x y : Int32} {a : PR (Fin p)} {post : Int32 → St → Prop} (hp : p ≤ 97) (hm : 2304 ≤ mlen k1) (h : rwm S k1 0 a.1) (hx : xl a s) (hs : s ≤ 2304) (hpost : ∀ n, n ≤ s → hgt a n → post (hI n) S) : wp_leaves_l118 k1 x k2 y post (hI s) S := by
  unfold wp_leaves_l118
  refine wl_n (fun n v => v = hI n ∧ n ≤ s ∧ xl a n) s ⟨rfl, by omega, hx⟩ ?_
  rintro n v ⟨rfl, hn, hxn⟩ R hR
  unfold wp_leaves_b118
  rw [hI_lt0 (by omega)]
  refine ⟨fun c => hpost n hn ⟨hxn, Or.inl c⟩, fun c => ?_⟩
  obtain ⟨m, rfl⟩ : ∃ m, n = m + 1 := ⟨n - 1, by omega⟩
  rw [hI_s]
  refine ⟨m, by omega, rfl, ?_⟩
  rw [rwm_at h (by omega), nF_0 _ hp]
  refine ⟨fun z => ?_, fun z x e => hR m _ (by omega) ⟨e, by omega, fun i hi => ?_⟩⟩
  · have := hpost (m + 1) hn ⟨hxn, Or.inr z⟩
    rw [hI_s] at this
    exact this
  · by_cases w : i = m
    · rw [w]; exact z
    · exact hxn i (by omega)
/-- a row by another one: what is left -/
theorem sp_leaves {p : Nat} [NeZero p] {S : St} {k1 k2 n0 d : Nat} {a b : PR (Fin p)} {post : Int32 → St → Prop} (hp : pr p) (h5 : S 0 5 = nI p) (hk1 : k1 ≠ 0) (hk2 : k2 ≠ 0) (h12 : k1 ≠ k2) (hm1 : 2304 ≤ mlen k1) (hm2 : 2304 ≤ mlen k2) (ha : rwm S k1 0 a.1) (hb : rwm S k2 0 b.1) (hxa : xl a n0) (hn0 : n0 ≤ 2304) (hd : xd b d) (hd4 : d < 2304) (hpost : ∀ S' a' q n, frb (fun k => k = k1) S S' → rwm S' k1 0 a'.1 → a = pr_add (pr_mul q b) a' → n ≤ d → hgt a' n → post (hI n) S') : wp_leaves k1 (hI n0) k2 (nI d) S post := by
  have h97 := hp.2.1
  unfold wp_leaves
  refine ⟨d, by omega, rfl, ?_⟩
  rw [rwm_at hb hd4]
  refine sp_inverse hp h5 (fpos hd.1) (b.1 d).isLt ?_
  rw [← fiv_v hp hd.1]
  unfold wp_leaves_l13
  refine wl_n (fun n v => v.1 = hI n ∧ n ≤ n0 ∧ frb (fun k => k = k1) S v.2 ∧ ∃ a' q, rwm v.2 k1 0 a'.1 ∧ a = pr_add (pr_mul q b) a' ∧ xl a' n) n0 ⟨rfl, by omega, frb_rfl _ _, a, pz, ha, ?_, hxa⟩ ?_
  · have : pr_mul (pz : PR (Fin p)) b = pz := pr_zero b
    rw [this]
    letI := PRr (Fin p)
    show a = 0 + a
    grind
  · rintro n ⟨x6, S1⟩ ⟨hx6, hn, f1, a', q, ha', hq, hxn⟩ R hR
    dsimp only at hx6 f1 ha'
    subst hx6
    have g5 : S1 0 5 = nI p := by rw [f1 0 (fun w => hk1 w.symm)]; exact h5
    unfold wp_leaves_b13 wp_leaves_j96
    dsimp only
    rw [hI_ltn (by omega) (by omega), hI_nle (by omega) (by omega)]
    refine ⟨fun c => ⟨fun c2 x e => ?_, fun c2 => ?_⟩, fun c => ?_⟩
    · have e2 : nI d - 1 = hI d := by rw [z_nI, show (1 : Int32) = zI 1 from rfl, z_sub, hI_z]
      rw [e, e2]
      exact sp_leaves118 h97 hm1 ha' (xl_mono hxn c) (by omega) (fun e he hh => hpost S1 a' q e f1 ha' hq he hh)
    · have hxd : xl a' n0 := xl_mono hxn hn
      exact sp_leaves118 h97 hm1 ha' hxd (by omega) (fun e he hh => hpost S1 a' q e f1 ha' hq (by omega) hh)
    · obtain ⟨m, rfl⟩ : ∃ m, n = m + 1 := ⟨n - 1, by omega⟩
      rw [hI_s]
      refine ⟨m, by omega, rfl, by rw [g5]; exact n_ne0 hp, fun x7 e7 => ?_⟩
      rw [g5, rwm_at ha' (by omega), nF_mm h97] at e7
      subst e7
      rw [nF_0 _ h97]
      have ht : (a'.1 m * fiv (b.1 d)) * b.1 d = a'.1 m := by
        have := fiv_ok hp hd.1
        have e : a'.1 m * fiv (b.1 d) * b.1 d = a'.1 m * (b.1 d * fiv (b.1 d)) := by grind
        rw [e, this]; grind
      refine ⟨fun hz => ?_, fun hz x e => ?_⟩
      · generalize a'.1 m * fiv (b.1 d) = t at ht hz ⊢
        unfold wp_leaves_l45
        refine wl_up (d + 1) (fun k v => v.1 = nI k ∧ frb (fun k => k = k1) S v.2 ∧ rwm v.2 k1 0 (fun i => if m - d ≤ i ∧ i < m - d + k then a'.1 i - t * b.1 (i - (m - d)) else a'.1 i)) 0 (by omega) ⟨rfl, f1, rwm_cg ha' fun y _ => (if_neg (by omega)).symm⟩ ?_
        rintro k ⟨x8, S2⟩ hk ⟨hx8, f2, w2⟩ R2 hR2
        dsimp only at hx8 f2 w2
        subst hx8
        have g52 : S2 0 5 = nI p := by rw [f2 0 (fun w => hk1 w.symm)]; exact h5
        unfold wp_leaves_b45 wp_leaves_j96
        dsimp only
        rw [nI_ltI (by omega) (by omega)]
        refine ⟨fun c3 x e => ?_, fun c3 => ?_⟩
        · have ek : k = d + 1 := by omega
          subst ek
          exact hR m _ (by omega) ⟨e, by omega, f2, tof a' b t (m - d), _, rwm_cg w2 (fun y _ => tof_part hd.2 y), tof_eq hq, tof_xl hxn hd.2 (by omega) ht⟩
        · rw [pk_sub (by omega), nI_add]
          refine ⟨m - d + k, by omega, rfl, k, by omega, rfl, by rw [g52]; exact n_ne0 hp, m - d + k, by omega, rfl, fun S3 e3 x8 e8 => ?_⟩
          rw [g52, rwm_at w2 (show m - d + k < 2304 by omega), rwm_at (rwm_keep hb f2 (fun w => h12 w.symm)) (show k < 2304 by omega)] at e3
          rw [if_neg (by omega), nF_ms h97] at e3
          subst e8
          refine hR2 (by omega) _ ⟨by rw [li_1, nI_add], ?_, fun y hy => ?_⟩
          · dsimp only
            rw [e3]
            exact frb_tr f2 (frb_bw rfl)
          · dsimp only
            rw [e3, bw_at, Nat.zero_add]
            by_cases w : y = m - d + k
            · rw [if_pos ⟨rfl, w⟩, if_pos (by omega), w, show m - d + k - (m - d) = k by omega]
            · rw [if_neg (fun z => w z.2), rwm_at w2 hy]
              by_cases w3 : m - d ≤ y ∧ y < m - d + k
              · rw [if_pos w3, if_pos (by omega)]
              · rw [if_neg w3, if_neg (by omega)]
      · refine hR m _ (by omega) ⟨e, by omega, f1, a', q, ha', hq, fun i hi => ?_⟩
        by_cases w : i = m
        · rw [w, ← ht, hz]; grind
        · exact hxn i (by omega)
