set_option maxRecDepth 100000
/-! the Model: rows of a register, and back -/
/-- a register's rows -/
def grr {p : Nat} [NeZero p] (f : Nat → Nat) (x : Nat) : PR (Fin p) := ⟨fun y => if y < 16 then Fin.ofNat p (f (x + 16 * y)) else 0, 16, fun i hi => if_neg (by omega)⟩
def grw {p : Nat} [NeZero p] (f : Nat → Nat) : R2 (Fin p) := mkr (grr f)
theorem grw_y {p : Nat} [NeZero p] (f : Nat → Nat) : yl (grw f : R2 (Fin p)) 15 := fun j => by
  by_cases w : j < 16
  · have : (grw f : R2 (Fin p)).1 j = grr f j := if_pos w
    rw [this]
    exact fun i hi => if_neg (by omega)
  · have : (grw f : R2 (Fin p)).1 j = pz := if_neg w
    rw [this]; exact xl_pz _
theorem grw_at {p : Nat} [NeZero p] {f : Nat → Nat} (hf : ∀ k, k < 4096 → f k < p) {x y : Nat} (hx : x < 16) (hy : y < 16) : (((grw f : R2 (Fin p)).1 x).1 y).val = f (x + 16 * y) := by
  have e1 : (grw f : R2 (Fin p)).1 x = grr f x := if_pos hx
  rw [e1]
  have e2 : (grr f x : PR (Fin p)).1 y = Fin.ofNat p (f (x + 16 * y)) := if_pos hy
  rw [e2]
  exact Nat.mod_eq_of_lt (hf _ (by omega))
theorem grw_hi {p : Nat} [NeZero p] {f : Nat → Nat} {x y : Nat} (hy : 16 ≤ y) : ((grw f : R2 (Fin p)).1 x).1 y = 0 := grw_y f x y (by omega)
theorem sp_laysRows {p : Nat} [NeZero p] {S : St} {r k : Nat} {f : Nat → Nat} {post : St → Prop} (hp : p ≤ 97) (hr : r < 8) (hk : k = 18 ∨ k = 19) (ht : tb S r f) (hf : ∀ k, k < 4096 → f k < p) (hpost : ∀ S', frb (fun b => b = k) S S' → rgm S' k (grw f : R2 (Fin p)) → post S') : wp_laysRows (nI r) k S post := by
  have hm : mlen k = 36864 := by
    rcases hk with e | e
    · rw [e]; rfl
    · rw [e]; rfl
  unfold wp_laysRows wp_laysRows_l2
  refine wl_up 36864 (fun i v => v.1 = nI i ∧ frb (fun b => b = k) S v.2 ∧ ∀ y, y < i → v.2 k y = 0) 0 (by omega) ⟨rfl, frb_rfl _ _, fun y hy => absurd hy (by omega)⟩ ?_
  rintro i ⟨x3, S1⟩ hi ⟨hx3, f1, z1⟩ R hR
  dsimp only at hx3 f1 z1
  subst hx3
  unfold wp_laysRows_b2
  dsimp only
  rw [li_36864, nI_leI (by omega) (by omega)]
  refine ⟨fun c => ?_, fun c => ⟨i, by omega, rfl, fun S2 e2 x3 e3 => ?_⟩⟩
  · unfold wp_laysRows_l20
    refine wl_up 16 (fun x v => v.1 = nI x ∧ frb (fun b => b = k) S v.2 ∧ (∀ j, j < x → rwm v.2 k (2304 * j) ((grw f : R2 (Fin p)).1 j).1) ∧ ∀ y, 2304 * x ≤ y → y < 36864 → v.2 k y = 0) 0 (by omega) ⟨rfl, f1, fun j hj => absurd hj (by omega), fun y _ hy => z1 y (by omega)⟩ ?_
    rintro x ⟨x3, S2⟩ hx ⟨hx3, f2, w2, z2⟩ Rb hRb
    dsimp only at hx3 f2 w2 z2
    subst hx3
    unfold wp_laysRows_b20
    dsimp only
    rw [li_16, nI_leI (by omega) (by omega)]
    refine ⟨fun c2 => hpost S2 f2 ⟨fun j hj => w2 j (by omega), fun j => xl_mono (grw_y f j) (by omega), mkr_xl _⟩, fun c2 => ?_⟩
    unfold wp_laysRows_l29
    refine wl_up 16 (fun y v => v.1 = nI y ∧ frb (fun b => b = k) S v.2 ∧ (∀ j, j < x → rwm v.2 k (2304 * j) ((grw f : R2 (Fin p)).1 j).1) ∧ (∀ z, z < y → v.2 k (2304 * x + z) = nI (((grw f : R2 (Fin p)).1 x).1 z).val) ∧ ∀ z, 2304 * x + y ≤ z → z < 36864 → v.2 k z = 0) 0 (by omega) ⟨rfl, f2, w2, fun z hz => absurd hz (by omega), fun z h1 h2 => z2 z (by omega) h2⟩ ?_
    rintro y ⟨x4, S3⟩ hy ⟨hx4, f3, w3, c3, z3⟩ R3 hR3
    dsimp only at hx4 f3 w3 c3 z3
    subst hx4
    unfold wp_laysRows_b29
    dsimp only
    rw [li_16, nI_leI (by omega) (by omega)]
    refine ⟨fun c4 x3 e3 => ?_, fun c4 => ?_⟩
    · subst e3
      refine hRb (by omega) _ ⟨by rw [li_1, nI_add], f3, fun j hj => ?_, fun z h1 h2 => z3 z (by omega) h2⟩
      by_cases w : j = x
      · rw [w]
        intro z hz
        dsimp only
        by_cases w4 : z < y
        · exact c3 z w4
        · rw [z3 _ (by omega) (by omega), grw_hi (by omega)]
          exact li_0
      · exact w3 j (by omega)
    · rw [li_0]
      refine sp_keyOf (by omega) (by omega) (by omega) (sp_coef hr (by omega) ?_)
      rw [li_2304, pk_mul, nI_add]
      refine ⟨2304 * x + y, by omega, rfl, fun S4 e4 x4 ex4 => ?_⟩
      have ev : S3 1 (4096 * r + (x + 16 * y + 256 * 0)) = nI (((grw f : R2 (Fin p)).1 x).1 y).val := by
        rw [f3 1 (by omega), (ht (x + 16 * y + 256 * 0) (by omega)).1, grw_at hf (by omega) (by omega)]
        rfl
      rw [ev] at e4
      subst ex4
      refine hR3 (by omega) _ ⟨by rw [li_1, nI_add], ?_, fun j hj z hz => ?_, fun z hz => ?_, fun z h1 h2 => ?_⟩
      · dsimp only
        rw [e4]
        exact frb_tr f3 (frb_bw rfl)
      · dsimp only
        rw [e4, bw_at, if_neg (fun q => by have := q.2; omega)]
        exact w3 j hj z hz
      · dsimp only
        rw [e4, bw_at]
        by_cases w : z = y
        · rw [if_pos ⟨rfl, by omega⟩, w]
        · rw [if_neg (fun q => by have := q.2; omega)]; exact c3 z (by omega)
      · dsimp only
        rw [e4, bw_at, if_neg (fun q => by have := q.2; omega)]
        exact z3 z (by omega) h2
  · subst e3
    refine hR (by omega) _ ⟨by rw [li_1, nI_add], ?_, fun y hy => ?_⟩
    · dsimp only
      rw [e2]
      exact frb_tr f1 (frb_bw rfl)
    · dsimp only
      rw [e2, bw_at]
      by_cases w : y = i
      · rw [if_pos ⟨rfl, w⟩]
      · rw [if_neg (fun z => w z.2)]; exact z1 y (by omega)
/-- rows as a table -/
def wtb {p : Nat} [NeZero p] (W : R2 (Fin p)) (m : Nat) : Nat := if ex m 2 = 0 then ((W.1 (ex m 0)).1 (ex m 1)).val else 0
theorem wtb_lt {p : Nat} [NeZero p] (W : R2 (Fin p)) (m : Nat) : wtb W m < p := by
  unfold wtb
  split
  · exact Fin.isLt _
  · exact Nat.pos_of_ne_zero (NeZero.ne p)
theorem wtb_xy {p : Nat} [NeZero p] (W : R2 (Fin p)) {x y : Nat} (hx : x < 16) (hy : y < 16) : wtb W (x + 16 * y) = ((W.1 x).1 y).val := by
  obtain ⟨e0, e1, e2⟩ := ex_mk (z := 0) hx hy (by omega)
  rw [Nat.mul_zero, Nat.add_zero] at e0 e1 e2
  unfold wtb
  rw [if_pos e2, e0, e1]
theorem sp_laysWork {p : Nat} [NeZero p] {S : St} {k : Nat} {W : R2 (Fin p)} {post : St → Prop} (hk : k = 18 ∨ k = 19) (hW : rgm S k W) (hpost : ∀ S', fr6 S S' → wk S' p (wtb W) → S' 0 29 = 1 → post S') : wp_laysWork k S post := by
  have hm : mlen k = 36864 := by
    rcases hk with e | e
    · rw [e]; rfl
    · rw [e]; rfl
  unfold wp_laysWork
  refine sp_clears (fun S1 f1 z1 r1 => ?_)
  unfold wp_laysWork_l6
  refine wl_up 16 (fun x v => v.1 = nI x ∧ fr6 S v.2 ∧ v.2 0 29 = 1 ∧ ∀ m, m < 4096 → v.2 6 m = nI (if ex m 0 < x then wtb W m else 0)) 0 (by omega) ⟨rfl, f1, r1, fun m hm' => by rw [if_neg (by omega)]; exact z1 m hm'⟩ ?_
  rintro x ⟨x2, S2⟩ hx ⟨hx2, f2, r2, w2⟩ R hR
  dsimp only at hx2 f2 r2 w2
  subst hx2
  unfold wp_laysWork_b6
  dsimp only
  rw [li_16, nI_leI (by omega) (by omega)]
  refine ⟨fun c => hpost S2 f2 (fun m hm' => ⟨by rw [w2 m hm', if_pos (by have := ex_lt m 0; omega)], wtb_lt W m⟩) r2, fun c => ?_⟩
  unfold wp_laysWork_l14
  refine wl_up 16 (fun y v => v.1 = nI y ∧ fr6 S v.2 ∧ v.2 0 29 = 1 ∧ ∀ m, m < 4096 → v.2 6 m = nI (if ex m 0 < x ∨ (ex m 0 = x ∧ ex m 1 < y) then wtb W m else 0)) 0 (by omega) ⟨rfl, f2, r2, fun m hm' => ?_⟩ ?_
  · dsimp only
    rw [w2 m hm']
    by_cases w : ex m 0 < x
    · rw [if_pos w, if_pos (Or.inl w)]
    · rw [if_neg w, if_neg (by omega)]
  rintro y ⟨x3, S3⟩ hy ⟨hx3, f3, r3, w3⟩ Rb hRb
  dsimp only at hx3 f3 r3 w3
  subst hx3
  unfold wp_laysWork_b14
  dsimp only
  rw [li_16, nI_leI (by omega) (by omega)]
  refine ⟨fun c2 x2 e2 => ?_, fun c2 => ?_⟩
  · subst e2
    refine hR (by omega) _ ⟨by rw [li_1, nI_add], f3, r3, fun m hm' => ?_⟩
    dsimp only
    have l1 := ex_lt m 1
    rw [w3 m hm']
    by_cases w : ex m 0 < x + 1
    · rw [if_pos w, if_pos (by omega)]
    · rw [if_neg w, if_neg (by omega)]
  · rw [li_0]
    refine sp_keyOf (by omega) (by omega) (by omega) ?_
    rw [li_2304, pk_mul, nI_add]
    refine ⟨2304 * x + y, by omega, rfl, x + 16 * y + 256 * 0, by omega, rfl, fun S4 e4 x3 e3 => ?_⟩
    have hk6 : k ≠ 6 ∧ k ≠ 0 := by omega
    rw [f3 k _ hk6.1 (fun z => hk6.2 z.1), hW.1 x (by omega) y (by omega)] at e4
    subst e3
    refine hRb (by omega) _ ⟨by rw [li_1, nI_add], fun a b h1 h2 => ?_, ?_, fun m hm' => ?_⟩
    · dsimp only
      rw [e4, bw_at, if_neg (fun z => h1 z.1)]
      exact f3 a b h1 h2
    · dsimp only
      rw [e4, bw_at, if_neg (by omega)]
      exact r3
    · dsimp only
      rw [e4, bw_at]
      by_cases w : m = x + 16 * y + 256 * 0
      · rw [if_pos ⟨rfl, w⟩, w]
        obtain ⟨e0, e1, e2⟩ := ex_mk (z := 0) (show x < 16 by omega) (show y < 16 by omega) (by omega)
        rw [if_pos (by omega), show x + 16 * y + 256 * 0 = x + 16 * y by omega, wtb_xy W (by omega) (by omega)]
      · rw [if_neg (fun z => w z.2), w3 m hm']
        by_cases w5 : ex m 0 < x ∨ (ex m 0 = x ∧ ex m 1 < y)
        · rw [if_pos w5, if_pos (by omega)]
        · rw [if_neg w5]
          by_cases w6 : ex m 0 < x ∨ (ex m 0 = x ∧ ex m 1 < y + 1)
          · rw [if_pos w6]
            have hs := ex_sum hm'
            have h2 : ex m 2 ≠ 0 := fun z => w (by omega)
            unfold wtb
            rw [if_neg h2]
          · rw [if_neg w6]
/-- what is worked out, its lead made 1 -/
noncomputable def mnw (p : Nat) (o w : Nat → Nat) : Nat → Nat := @ite _ (cn w 4096 = 0) _ w (fun k => w k * iv p (w (ldk o w)) % p)
theorem sp_monicWork {p : Nat} {S : St} {o al w : Nat → Nat} {post : St → Prop} (hp : pr p) (h5 : S 0 5 = nI p) (ha : alg o S al) (hw : wk S p w) (hpost : ∀ S', fr6 S S' → S' 0 29 = S 0 29 → wk S' p (mnw p o w) → post S') : wp_monicWork S post := by
  have h97 := hp.2.1
  have hp2 := hp.1
  unfold wp_monicWork wp_monicWork_l2
  refine wl_up 4096 (fun i v => v = nI i ∧ ∀ j, j < i → w (al j) = 0) 0 (by omega) ⟨rfl, fun j hj => absurd hj (by omega)⟩ ?_
  rintro i v hi ⟨rfl, hz⟩ R hR
  unfold wp_monicWork_b2 wp_monicWork_j29
  rw [li_4096, nI_leI (by omega) (by omega), nI_eq (by omega) (by omega)]
  refine ⟨fun c => ⟨fun c2 => absurd (by omega) c2, fun c2 => ?_⟩, fun c => ?_⟩
  · have z : ∀ k, k < 4096 → w k = 0 := fun k hk => by
      obtain ⟨j, hj, ej⟩ := ha.2.2 k hk
      rw [← ej]; exact hz j (by omega)
    have e : mnw p o w = w := if_pos (cn_z z)
    exact hpost S (fun _ _ _ _ => rfl) rfl (by rw [e]; exact hw)
  · obtain ⟨a1, a2⟩ := ha.1 i (by omega)
    refine ⟨i, by omega, rfl, al i, a2, a1, ?_⟩
    obtain ⟨b1, b2⟩ := hw (al i) a2
    rw [b1, li_0, nI_eq (by omega) (by omega)]
    refine ⟨fun q => ⟨fun c2 => ⟨i, by omega, rfl, al i, a2, a1, ?_⟩, fun c2 => absurd c2 (by omega)⟩, fun q x e => hR (by omega) _ ⟨by rw [e, li_1, nI_add], fun j hj => ?_⟩⟩
    · rw [b1]
      have hl : led o w (al i) := ⟨a2, q, fun l hl hwl hne => by
        obtain ⟨j, hj, ej⟩ := ha.2.2 l hl
        rw [← ej]
        have : i < j := by
          rcases Nat.lt_trichotomy i j with z | z | z
          · exact z
          · exact absurd (by rw [← ej, z]) hne
          · exact absurd (hz j z) (by rw [ej]; exact hwl)
        exact ha.2.1 i j this hj⟩
      have el : ldk o w = al i := ldk_of hl
      have hc : cn w 4096 ≠ 0 := fun z => q (cn_0 z _ a2)
      have em : mnw p o w = fun k => w k * iv p (w (al i)) % p := by
        rw [← el]; exact if_neg hc
      obtain ⟨i1, i2, i3⟩ := iv_ok hp (Nat.pos_of_ne_zero q) b2
      refine sp_inverse hp h5 (Nat.pos_of_ne_zero q) b2 ?_
      rw [em] at hpost
      unfold wp_monicWork_l55
      refine wl_up 4096 (fun j v => v.1 = nI j ∧ fr6 S v.2 ∧ v.2 0 29 = S 0 29 ∧ ∀ m, m < 4096 → v.2 6 m = nI (if m < j then w m * iv p (w (al i)) % p else w m)) 0 (by omega) ⟨rfl, fun _ _ _ _ => rfl, rfl, fun m hm => by rw [if_neg (by omega)]; exact (hw m hm).1⟩ ?_
      rintro j ⟨x3, S1⟩ hj ⟨hx3, f1, r1, w1⟩ Rb hRb
      dsimp only at hx3 f1 r1 w1
      subst hx3
      have g5 : S1 0 5 = nI p := by rw [f1 0 5 (by omega) (by omega)]; exact h5
      unfold wp_monicWork_b55
      dsimp only
      rw [li_4096, nI_leI (by omega) (by omega)]
      refine ⟨fun c3 => hpost S1 f1 r1 (fun m hm => ⟨by rw [w1 m hm, if_pos (by omega)], Nat.mod_lt _ (by omega)⟩), fun c3 => ⟨j, by omega, rfl, by rw [g5]; exact n_ne0 hp, j, by omega, rfl, fun S2 e2 x3 e3 => ?_⟩⟩
      have hwj := (hw j (by omega)).2
      have hm97 := mul97 (a := w j) (b := iv p (w (al i))) (by omega) (by omega)
      rw [g5, w1 j (by omega), if_neg (by omega), pk_mul, n_rem (by omega) (by omega) (by omega)] at e2
      subst e3
      refine hRb (by omega) _ ⟨by rw [li_1, nI_add], fun a b h1 h2 => ?_, ?_, fun m hm => ?_⟩
      · dsimp only
        rw [e2, bw_at, if_neg (fun z => h1 z.1)]
        exact f1 a b h1 h2
      · dsimp only
        rw [e2, bw_at, if_neg (by omega)]
        exact r1
      · dsimp only
        rw [e2, bw_at]
        by_cases w5 : m = j
        · rw [if_pos ⟨rfl, w5⟩, if_pos (by omega), w5]
        · rw [if_neg (fun z => w5 z.2), w1 m hm]
          by_cases w6 : m < j
          · rw [if_pos w6, if_pos (by omega)]
          · rw [if_neg w6, if_neg (by omega)]
    · by_cases z : j = i
      · rw [z]; exact q
      · exact hz j (by omega)
