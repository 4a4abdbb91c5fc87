set_option maxRecDepth 100000
/-! polynomials over a field: division, common divisors, Gauss -/
def dv {α : Type} [Lean.Grind.CommRing α] (a b : PR α) : Prop := ∃ q : PR α, b = pr_mul q a
theorem dv_rfl {α : Type} [Lean.Grind.CommRing α] (a : PR α) : dv a a := ⟨pr_c 1, (pr_one a).symm⟩
theorem dv_pz {α : Type} [Lean.Grind.CommRing α] (a : PR α) : dv a pz := ⟨pz, (pr_zero a).symm⟩
theorem dv_tr {α : Type} [Lean.Grind.CommRing α] {a b c : PR α} (h1 : dv a b) (h2 : dv b c) : dv a c := by
  obtain ⟨q, hq⟩ := h1
  obtain ⟨r, hr⟩ := h2
  exact ⟨pr_mul r q, by rw [hr, hq, pr_mul_assoc]⟩
theorem dv_add {α : Type} [Lean.Grind.CommRing α] {a b c : PR α} (h1 : dv a b) (h2 : dv a c) : dv a (pr_add b c) := by
  obtain ⟨q, hq⟩ := h1
  obtain ⟨r, hr⟩ := h2
  refine ⟨pr_add q r, ?_⟩
  rw [hq, hr]
  letI := PRr α
  show q * a + r * a = (q + r) * a
  grind
theorem dv_mulL {α : Type} [Lean.Grind.CommRing α] {a b : PR α} (h : dv a b) (c : PR α) : dv a (pr_mul c b) := by
  obtain ⟨q, hq⟩ := h
  exact ⟨pr_mul c q, by rw [hq, pr_mul_assoc]⟩
theorem dv_neg {α : Type} [Lean.Grind.CommRing α] {a b : PR α} (h : dv a b) : dv a (pr_neg b) := by
  obtain ⟨q, hq⟩ := h
  refine ⟨pr_neg q, ?_⟩
  rw [hq]
  letI := PRr α
  show - (q * a) = - q * a
  grind
theorem dv_sg {α : Type} [Lean.Grind.CommRing α] {a : PR α} {f : Nat → PR α} {n : Nat} (h : ∀ i, i < n → dv a (f i)) : dv a (@sg _ (PRr α) f n) := by
  induction n with
  | zero => exact dv_pz a
  | succ n ih => exact dv_add (ih (fun i hi => h i (by omega))) (h n (by omega))
theorem dv_one {α : Type} [Lean.Grind.CommRing α] {a : PR α} {f : Nat → PR α} {n k : Nat} (hk : k < n) (h : ∀ i, i < n → i ≠ k → dv a (f i)) (hs : dv a (@sg _ (PRr α) f n)) : dv a (f k) := by
  induction n with
  | zero => omega
  | succ n ih =>
    have hs : dv a (pr_add (@sg _ (PRr α) f n) (f n)) := hs
    have sub : ∀ x y : PR α, dv a (pr_add x y) → dv a y → dv a x := fun x y h1 h2 => by
      have := dv_add h1 (dv_neg h2)
      have e : pr_add (pr_add x y) (pr_neg y) = x := by
        letI := PRr α
        show x + y + - y = x
        grind
      rw [e] at this
      exact this
    by_cases e : k = n
    · subst e
      have h1 : dv a (@sg _ (PRr α) f k) := dv_sg (fun i hi => h i (by omega) (by omega))
      have e2 : pr_add (@sg _ (PRr α) f k) (f k) = pr_add (f k) (@sg _ (PRr α) f k) := (PRr α).add_comm _ _
      rw [e2] at hs
      exact sub _ _ hs h1
    · exact ih (by omega) (fun i hi hn => h i (by omega) hn) (sub _ _ hs (h n (by omega) (by omega)))
/-- division with a rest -/
theorem dv_ex {F : Type} [Lean.Grind.CommRing F] (hF : fd F) {b : PR F} {e : Nat} (hb : xd b e) (n : Nat) : ∀ a : PR F, xl a n → ∃ q r : PR F, a = pr_add (pr_mul q b) r ∧ xl r e := by
  induction n with
  | zero =>
    intro a ha
    refine ⟨pz, a, ?_, xl_mono ha (by omega)⟩
    have : pr_mul (pz : PR F) b = pz := pr_zero b
    rw [this]
    letI := PRr F
    show a = (0 : PR F) + a
    grind
  | succ n ih =>
    intro a ha
    by_cases hn : n + 1 ≤ e
    · refine ⟨pz, a, ?_, xl_mono ha hn⟩
      have : pr_mul (pz : PR F) b = pz := pr_zero b
      rw [this]
      letI := PRr F
      show a = (0 : PR F) + a
      grind
    · obtain ⟨w, hw⟩ := hF.2 _ hb.1
      obtain ⟨q, r, h1, h2⟩ := ih (pr_add a (pr_neg (pr_mul (pr_mul (pr_c (a.1 n * w)) (px (n - e))) b))) (fun i hi => by
        show a.1 i + - (pr_mul (pr_mul (pr_c (a.1 n * w)) (px (n - e))) b).1 i = 0
        rw [pr_mul_assoc, pr_mul_c, px_mul, if_pos (by omega)]
        by_cases hin : i = n
        · subst hin
          rw [show i - (i - e) = e by omega]
          grind
        · rw [ha i (by omega), hb.2 (i - (n - e)) (by omega)]
          grind)
      refine ⟨pr_add q (pr_mul (pr_c (a.1 n * w)) (px (n - e))), r, ?_, h2⟩
      generalize pr_mul (pr_c (a.1 n * w)) (px (n - e)) = z at *
      letI := PRr F
      have h1 : a + - (z * b) = q * b + r := h1
      show a = (q + z) * b + r
      grind
theorem gcd2 {F : Type} [Lean.Grind.CommRing F] (hF : fd F) (n : Nat) : ∀ a b : PR F, xl b n → ∃ g s t : PR F, g = pr_add (pr_mul s a) (pr_mul t b) ∧ dv g a ∧ dv g b := by
  induction n using Nat.strongRecOn with
  | ind n ih =>
    intro a b hb
    by_cases hz : b = pz
    · refine ⟨a, pr_c 1, pz, ?_, dv_rfl a, by rw [hz]; exact dv_pz a⟩
      letI := PRr F
      show a = 1 * a + 0 * b
      grind
    · obtain ⟨j, hj⟩ := ne_pz hz
      obtain ⟨e, hje, he⟩ := xd_of hj
      have hen : e < n := Nat.lt_of_not_le fun q => he.1 (hb e q)
      obtain ⟨k, hk⟩ := a.2
      obtain ⟨q, r, h1, h2⟩ := dv_ex hF he k a hk
      obtain ⟨g, s, t, h3, h4, h5⟩ := ih e hen b r h2
      refine ⟨g, t, pr_add s (pr_neg (pr_mul t q)), ?_, ?_, h4⟩
      · letI := PRr F
        have h1 : a = q * b + r := h1
        have h3 : g = s * b + t * r := h3
        show g = t * a + (s + - (t * q)) * b
        grind
      · rw [h1]
        exact dv_add (dv_mulL h4 q) h5
theorem nat_min {P : Nat → Prop} (h : ∃ n, P n) : ∃ n, P n ∧ ∀ m, m < n → ¬ P m := by
  obtain ⟨n, hn⟩ := h
  induction n using Nat.strongRecOn with
  | ind n ih =>
    by_cases hc : ∃ m, m < n ∧ P m
    · obtain ⟨m, hm, hp⟩ := hc
      exact ih m hm hp
    · exact ⟨n, hn, fun m hm hp => hc ⟨m, hm, hp⟩⟩
theorem nat_max {P : Nat → Prop} {B : Nat} (h : ∃ n, P n) (hB : ∀ n, P n → n ≤ B) : ∃ n, P n ∧ ∀ m, n < m → ¬ P m := by
  obtain ⟨k, h1, h2⟩ := nat_min (P := fun k => ∃ n, P n ∧ B - n = k) (by obtain ⟨n, hn⟩ := h; exact ⟨B - n, n, hn, rfl⟩)
  obtain ⟨n, hn, hk⟩ := h1
  refine ⟨n, hn, fun m hm hp => h2 (B - m) ?_ ⟨m, hp, rfl⟩⟩
  have := hB m hp
  omega
theorem pi_ex {F : Type} [Lean.Grind.CommRing F] (hF : fd F) {c : PR F} {d : Nat} (hc : xd c d) (hd : 0 < d) : ∃ (w c' : PR F) (e : Nat), c = pr_mul w c' ∧ xd w e ∧ 0 < e ∧ ∀ a : PR F, dv w a ∨ ∃ s t : PR F, pr_add (pr_mul s a) (pr_mul t w) = pr_c 1 := by
  obtain ⟨e, ⟨w, c', h1, h2, h3⟩, hmin⟩ := nat_min (P := fun e => ∃ w c' : PR F, c = pr_mul w c' ∧ xd w e ∧ 0 < e) ⟨d, c, pr_c 1, by rw [pr_mul_comm, pr_one], hc, hd⟩
  refine ⟨w, c', e, h1, h2, h3, fun a => ?_⟩
  obtain ⟨k, hk⟩ := w.2
  obtain ⟨g, s, t, hg, hga, hgw⟩ := gcd2 hF k a w hk
  obtain ⟨z, hz⟩ := hgw
  have hgn : g ≠ pz := fun q => xd_ne h2 (by rw [hz, q, pr_mul_comm]; exact pr_zero z)
  obtain ⟨j, hj⟩ := ne_pz hgn
  obtain ⟨e', _, he'⟩ := xd_of hj
  by_cases h0 : e' = 0
  · right
    subst h0
    have hgc := xl1_c he'.2
    obtain ⟨u, hu⟩ := hF.2 _ he'.1
    refine ⟨pr_mul (pr_c u) s, pr_mul (pr_c u) t, ?_⟩
    have e1 : pr_add (pr_mul (pr_mul (pr_c u) s) a) (pr_mul (pr_mul (pr_c u) t) w) = pr_mul (pr_c u) g := by
      rw [hg]
      generalize (pr_c u : PR F) = x
      letI := PRr F
      show x * s * a + x * t * w = x * (s * a + t * w)
      grind
    rw [e1, hgc]
    refine pr_ext fun i => ?_
    rw [pr_mul_c]
    show u * (if i = 0 then g.1 0 else 0) = if i = 0 then 1 else 0
    split
    · rw [← hu]; grind
    · grind
  · left
    have hzn : z ≠ pz := fun q => xd_ne h2 (by rw [hz, q]; exact pr_zero g)
    obtain ⟨j2, hj2⟩ := ne_pz hzn
    obtain ⟨e2, _, he2⟩ := xd_of hj2
    have hdeg : e = e2 + e' := xd_uni h2 (by rw [hz]; exact xd_mul (dm_fd hF) he2 he')
    have hle : ¬ e' < e := fun q => hmin e' q ⟨g, pr_mul z c', by rw [h1, hz, pr_mul_comm z g, pr_mul_assoc], he', by omega⟩
    have h20 : e2 = 0 := by omega
    subst h20
    have hzc := xl1_c he2.2
    obtain ⟨u, hu⟩ := hF.2 _ he2.1
    refine dv_tr ⟨pr_c u, ?_⟩ hga
    rw [hz, ← pr_mul_assoc, hzc]
    refine pr_ext fun i => ?_
    have e5 : pr_mul (pr_c u) (pr_c (z.1 0)) = (pr_c 1 : PR F) := pr_ext fun i => by
      rw [pr_mul_c]
      show u * (if i = 0 then z.1 0 else 0) = if i = 0 then 1 else 0
      split
      · rw [← hu]; grind
      · grind
    rw [e5, pr_one]
theorem pc_mul {α : Type} [Lean.Grind.CommRing α] (a b : α) : (pr_c (a * b) : PR α) = pr_mul (pr_c a) (pr_c b) := pr_ext fun k => by
  rw [pr_mul_c]
  show (if k = 0 then a * b else 0) = a * (if k = 0 then b else 0)
  split
  · rfl
  · grind
theorem gauss {F : Type} [Lean.Grind.CommRing F] (hF : fd F) (d : Nat) : ∀ (c : PR F) (G R H : @PR (PR F) (PRr F)) (s : Nat → PR F) (N : Nat), xd c d → @sg _ (PRr F) (fun j => pr_mul (s j) (G.1 j)) N = pr_c 1 → @pr_mul _ (PRr F) (@pr_c _ (PRr F) c) R = @pr_mul _ (PRr F) G H → ∃ H', R = @pr_mul _ (PRr F) G H' := by
  induction d using Nat.strongRecOn with
  | ind d ih =>
    intro c G R H s N hc hs h
    by_cases hd : d = 0
    · subst hd
      have hcc := xl1_c hc.2
      obtain ⟨u, hu⟩ := hF.2 _ hc.1
      refine ⟨@pr_mul _ (PRr F) (@pr_c _ (PRr F) (pr_c u)) H, ?_⟩
      have e5 : pr_mul (pr_c u) c = (pr_c 1 : PR F) := by
        rw [hcc]
        refine pr_ext fun i => ?_
        rw [pr_mul_c]
        show u * (if i = 0 then c.1 0 else 0) = if i = 0 then 1 else 0
        split
        · rw [← hu]; grind
        · grind
      have e6 : @pr_mul _ (PRr F) (@pr_c _ (PRr F) (pr_c u)) (@pr_mul _ (PRr F) (@pr_c _ (PRr F) c) R) = R := by
        rw [← @pr_mul_assoc _ (PRr F), ← @pc_mul _ (PRr F)]
        have : (@HMul.hMul (PR F) (PR F) (PR F) (@instHMul _ (PRr F).toMul) (pr_c u) c) = pr_c 1 := e5
        rw [this]
        exact @pr_one _ (PRr F) R
      rw [← e6, h]
      rw [← @pr_mul_assoc _ (PRr F), ← @pr_mul_assoc _ (PRr F), @pr_mul_comm _ (PRr F) G]
    · obtain ⟨w, c', e, h1, h2, h3, h4⟩ := pi_ex hF hc (by omega)
      have hwn := xd_ne h2
      -- not all of G go by w
      have hG : ∃ i, ¬ dv w (G.1 i) := Classical.byContradiction fun hn => by
        have hall : ∀ i, dv w (G.1 i) := fun i => Classical.byContradiction fun q => hn ⟨i, q⟩
        have : dv w (pr_c 1) := by
          rw [← hs]
          exact dv_sg (fun i _ => dv_mulL (hall i) (s i))
        obtain ⟨z, hz⟩ := this
        have hzn : z ≠ pz := fun q => by
          rw [q] at hz
          have : pr_mul (pz : PR F) w = pz := pr_zero w
          rw [this] at hz
          exact pr_c_ne hF.1 hz
        obtain ⟨j2, hj2⟩ := ne_pz hzn
        obtain ⟨e2, _, he2⟩ := xd_of hj2
        have hx := xd_mul (dm_fd hF) he2 h2
        rw [← hz] at hx
        exact hx.1 (if_neg (by omega))
      obtain ⟨i0, hi0, hi1⟩ := nat_min hG
      have hH : ∀ j, dv w (H.1 j) := Classical.byContradiction fun hn => by
        have hn : ∃ j, ¬ dv w (H.1 j) := Classical.byContradiction fun q => hn fun j => Classical.byContradiction fun q2 => q ⟨j, q2⟩
        obtain ⟨j0, hj0, hj1⟩ := nat_min hn
        have hdv : dv w ((@pr_mul _ (PRr F) G H).1 (i0 + j0)) := by
          rw [← h]
          have := @pr_mul_c _ (PRr F) c R (i0 + j0)
          rw [this]
          show dv w (pr_mul c (R.1 (i0 + j0)))
          rw [pr_mul_comm c]
          exact dv_mulL ⟨c', by rw [h1, pr_mul_comm]⟩ _
        have hone : dv w (pr_mul (G.1 i0) (H.1 (i0 + j0 - i0))) := dv_one (f := fun a => pr_mul (G.1 a) (H.1 (i0 + j0 - a))) (k := i0) (n := i0 + j0 + 1) (by omega) (fun i hi hne => by
          by_cases hlt : i < i0
          · have hg : dv w (G.1 i) := Classical.byContradiction fun q => hi1 i hlt q
            show dv w (pr_mul (G.1 i) (H.1 (i0 + j0 - i)))
            rw [pr_mul_comm]
            exact dv_mulL hg _
          · have hh : dv w (H.1 (i0 + j0 - i)) := Classical.byContradiction fun q => hj1 _ (by omega) q
            exact dv_mulL hh _) hdv
        rw [show i0 + j0 - i0 = j0 by omega] at hone
        rcases h4 (G.1 i0) with z | ⟨s2, t2, hst⟩
        · exact hi0 z
        · refine hj0 ?_
          have e7 : H.1 j0 = pr_add (pr_mul s2 (pr_mul (G.1 i0) (H.1 j0))) (pr_mul (pr_mul t2 (H.1 j0)) w) := by
            have : H.1 j0 = pr_mul (pr_c 1) (H.1 j0) := (pr_one _).symm
            rw [← hst] at this
            generalize G.1 i0 = x at *
            generalize H.1 j0 = y at *
            have this2 := this
            letI := PRr F
            have this : y = (s2 * x + t2 * w) * y := this2
            show y = s2 * (x * y) + t2 * y * w
            grind
          rw [e7]
          exact dv_add (dv_mulL hone s2) ⟨_, rfl⟩
      obtain ⟨n, hn⟩ := H.2
      have hch : ∀ j, ∃ q : PR F, (n ≤ j → q = pz) ∧ H.1 j = pr_mul q w := fun j => by
        by_cases hj : n ≤ j
        · exact ⟨pz, fun _ => rfl, by rw [hn j hj]; exact (pr_zero w).symm⟩
        · obtain ⟨q, hq⟩ := hH j
          exact ⟨q, fun z => absurd z hj, hq⟩
      obtain ⟨f, hf⟩ := Classical.axiomOfChoice hch
      let H1 : @PR (PR F) (PRr F) := ⟨f, n, fun i hi => (hf i).1 hi⟩
      have hHe : H = @pr_mul _ (PRr F) (@pr_c _ (PRr F) w) H1 := @pr_ext _ (PRr F) _ _ fun j => by
        rw [@pr_mul_c _ (PRr F), (hf j).2]
        exact pr_mul_comm _ _
      have hc'n : c' ≠ pz := fun q => xd_ne hc (by rw [h1, q, pr_mul_comm]; exact pr_zero w)
      obtain ⟨j3, hj3⟩ := ne_pz hc'n
      obtain ⟨e3, _, he3⟩ := xd_of hj3
      have hdeg : d = e + e3 := xd_uni hc (by rw [h1]; exact xd_mul (dm_fd hF) h2 he3)
      refine ih e3 (by omega) c' G R H1 s N he3 hs ?_
      have hcan : @pr_mul _ (PRr F) (@pr_c _ (PRr F) w) (@pr_mul _ (PRr F) (@pr_c _ (PRr F) c') R) = @pr_mul _ (PRr F) (@pr_c _ (PRr F) w) (@pr_mul _ (PRr F) G H1) := by
        have e8 : @pr_c _ (PRr F) c = @pr_mul _ (PRr F) (@pr_c _ (PRr F) w) (@pr_c _ (PRr F) c') := by
          rw [h1]
          exact @pc_mul _ (PRr F) w c'
        rw [← @pr_mul_assoc _ (PRr F), ← e8, h, hHe, ← @pr_mul_assoc _ (PRr F), ← @pr_mul_assoc _ (PRr F), @pr_mul_comm _ (PRr F) G]
      exact @pr_can _ (PRr F) (dm_PR (dm_fd hF)) _ (@pr_c_ne _ (PRr F) _ hwn) _ _ hcan
/-- degrees in y of a factor -/
theorem yd_max {F : Type} [Lean.Grind.CommRing F] (G : @PR (PR F) (PRr F)) (hG : ∃ i b, (G.1 i).1 b ≠ 0) : ∃ m, (∃ i, (G.1 i).1 m ≠ 0) ∧ ∀ i, xl (G.1 i) (m + 1) := by
  obtain ⟨n, hn⟩ := G.2
  have hb : ∀ k, ∃ B, ∀ i, i < k → xl (G.1 i) B := fun k => by
    induction k with
    | zero => exact ⟨0, fun i hi => absurd hi (by omega)⟩
    | succ k ih =>
      obtain ⟨B, hB⟩ := ih
      obtain ⟨C, hC⟩ := (G.1 k).2
      refine ⟨B + C, fun i hi => ?_⟩
      by_cases e : i = k
      · subst e
        exact fun j hj => hC j (by omega)
      · exact xl_mono (hB i (by omega)) (by omega)
  obtain ⟨B, hB⟩ := hb n
  have hall : ∀ i b, (G.1 i).1 b ≠ 0 → b ≤ B := fun i b h => Classical.byContradiction fun q => h (by
    by_cases hi : n ≤ i
    · have := hn i hi
      rw [this]
      exact pz_i b
    · exact hB i (by omega) b (by omega))
  obtain ⟨m, ⟨i, hi⟩, hm⟩ := nat_max (P := fun b => ∃ i, (G.1 i).1 b ≠ 0) (B := B) (by obtain ⟨i, b, h⟩ := hG; exact ⟨b, i, h⟩) (fun b ⟨i, h⟩ => hall i b h)
  exact ⟨m, ⟨i, hi⟩, fun i b hb => Classical.byContradiction fun q => hm b (by omega) ⟨i, q⟩⟩
theorem yd_fac {F : Type} [Lean.Grind.CommRing F] (hF : dm F) (G H : @PR (PR F) (PRr F)) (hH : H ≠ @pz _ (PRr F)) {q : Nat} (h : ∀ j, xl ((@pr_mul _ (PRr F) G H).1 j) (q + 1)) (j : Nat) : xl (G.1 j) (q + 1) := fun b hb => Classical.byContradiction fun hc => by
  obtain ⟨m, ⟨i, hi⟩, hm⟩ := yd_max G ⟨j, b, hc⟩
  obtain ⟨k, hk⟩ := @ne_pz _ (PRr F) _ hH
  obtain ⟨b2, hb2⟩ := ne_pz hk
  obtain ⟨m2, ⟨i2, hi2⟩, hm2⟩ := yd_max H ⟨k, b2, hb2⟩
  have hbm : b ≤ m := Nat.le_of_not_lt fun z => hc (hm j b (by omega))
  obtain ⟨n1, hn1⟩ := G.2
  obtain ⟨n2, hn2⟩ := H.2
  let tG : PR F := ⟨fun i => (G.1 i).1 m, n1, fun i hi => by have := hn1 i hi; show (G.1 i).1 m = 0; rw [this]; exact pz_i m⟩
  let tH : PR F := ⟨fun i => (H.1 i).1 m2, n2, fun i hi => by have := hn2 i hi; show (H.1 i).1 m2 = 0; rw [this]; exact pz_i m2⟩
  have hp : pr_mul tG tH = pz := pr_ext fun l => by
    rw [pz_i]
    have := h l (m + m2) (by omega)
    refine Eq.trans ?_ this
    show _ = (@sg (PR F) (PRr F) (fun a => pr_mul (G.1 a) (H.1 (l - a))) (l + 1)).1 (m + m2)
    rw [sg_co]
    show sg (fun a => (G.1 a).1 m * (H.1 (l - a)).1 m2) (l + 1) = _
    exact sg_ext (fun a _ => (lead_mul (hm a) (hm2 (l - a))).symm)
  rcases dm_pr hF _ _ hp with z | z
  · exact hi (by
      have := congrArg (fun f : PR F => f.1 i) z
      exact this.trans (pz_i i))
  · exact hi2 (by
      have := congrArg (fun f : PR F => f.1 i2) z
      exact this.trans (pz_i i2))
