set_option maxRecDepth 100000
/-! TermDesk's rows of numbers -/
theorem z_mul (a b : Int) : zI a * zI b = zI (a * b) := (Int32.ofInt_mul a b).symm
theorem z_tdiv {a b : Int} (h1 : -2147483648 ≤ a ∧ a < 2147483648) (h2 : -2147483648 ≤ b ∧ b < 2147483648) : zI a / zI b = zI (a.tdiv b) := by
  have e1 : Int32.minValue.toInt = -2147483648 := rfl
  have e2 : Int32.maxValue.toInt = 2147483647 := rfl
  exact (Int32.ofInt_tdiv (by rw [e1]; omega) (by rw [e2]; omega) (by rw [e1]; omega) (by rw [e2]; omega)).symm
theorem z_rem {a b : Int} (h1 : -2147483648 ≤ a ∧ a < 2147483648) (h2 : -2147483648 ≤ b ∧ b < 2147483648) : jrem (zI a) (zI b) = zI (a.tmod b) := by
  unfold jrem
  rw [z_tdiv h1 h2, z_mul, z_sub, Int.tmod_def, Int.mul_comm]
theorem nF_red {p : Nat} [NeZero p] (hp : p ≤ 97) (a b c : Fin p) : jrem (jrem (nI c.val - nI a.val * nI b.val) (nI p) + nI p) (nI p) = nI (c - a * b).val := by
  have h1 := nF_lt hp a b
  have h2 := nF_lt hp c c
  have h0 : 0 < p := Nat.pos_of_ne_zero (NeZero.ne p)
  have hm : ((a.val * b.val : Nat) : Int) = (a.val : Int) * (b.val : Int) := Int.natCast_mul _ _
  have hb : 0 ≤ (a.val : Int) * (b.val : Int) ∧ (a.val : Int) * (b.val : Int) < 9409 := by omega
  rw [z_nI c.val, z_nI a.val, z_nI b.val, z_nI p, z_mul, z_sub, z_rem (by omega) (by omega), z_add]
  have t1 := Int.tmod_lt_of_pos ((c.val : Int) - (a.val : Int) * (b.val : Int)) (b := (p : Int)) (by omega)
  have t2 := Int.lt_tmod_of_pos ((c.val : Int) - (a.val : Int) * (b.val : Int)) (b := (p : Int)) (by omega)
  have t3 := Int.mul_tdiv_add_tmod ((c.val : Int) - (a.val : Int) * (b.val : Int)) (p : Int)
  generalize ((c.val : Int) - (a.val : Int) * (b.val : Int)).tmod (p : Int) = t at t1 t2 t3 ⊢
  generalize ((c.val : Int) - (a.val : Int) * (b.val : Int)).tdiv (p : Int) = q at t3
  obtain ⟨n, hn⟩ : ∃ n : Nat, t + (p : Int) = (n : Int) := ⟨(t + (p : Int)).toNat, by omega⟩
  rw [hn, ← z_nI, ← z_nI, n_rem (by omega) h0 (by omega), fin_ms]
  congr 1
  have hN : ((c.val + (p - a.val) * b.val : Nat) : Int) = (n : Int) + (p : Int) * ((b.val : Int) + q - 1) := by
    have e1 : ((p - a.val : Nat) : Int) = (p : Int) - (a.val : Int) := by have := a.isLt; omega
    rw [Int.natCast_add, Int.natCast_mul, e1, ← hn]
    have e2 : (p : Int) * ((b.val : Int) + q - 1) = (p : Int) * (b.val : Int) + (p : Int) * q - (p : Int) := by grind
    rw [e2]
    have e3 : ((p : Int) - (a.val : Int)) * (b.val : Int) = (p : Int) * (b.val : Int) - (a.val : Int) * (b.val : Int) := by grind
    rw [e3]
    omega
  have h3 := congrArg (fun z : Int => z % (p : Int)) hN
  rw [Int.add_mul_emod_self_left] at h3
  have h4 : ((n % p : Nat) : Int) = (((c.val + (p - a.val) * b.val) % p : Nat) : Int) := by
    rw [Int.natCast_emod, Int.natCast_emod]
    exact h3.symm
  exact Int.ofNat.inj h4
/-- a prime and its inverses -/
def xcx (p : Nat) (K : XK) (T : XT) : Prop := xi T 0 0 = nI p ∧ (∀ a, 0 < a → a < p → xi T 1 a = nI (iv p a)) ∧ ∀ k, k < 90 → kl K k = sln k
theorem xcx_keep {p : Nat} {K K' : XK} {T T' : XT} {P : Nat → Prop} (h : xcx p K T) (hf : xf P T T') (h0 : ¬ P 0) (h1 : ¬ P 1) (hK : kx K K') (hz : 90 ≤ kz K) : xcx p K' T' := ⟨by rw [(hf 0 h0).1]; exact h.1, fun a ha hp => by rw [(hf 1 h1).1]; exact h.2.1 a ha hp, fun k hk => by rw [hK.2 k (by omega)]; exact h.2.2 k hk⟩
theorem xcx_t {p : Nat} {K : XK} {T T' : XT} {P : Nat → Prop} (h : xcx p K T) (hf : xf P T T') (h0 : ¬ P 0) (h1 : ¬ P 1) : xcx p K T' := ⟨by rw [(hf 0 h0).1]; exact h.1, fun a ha hp => by rw [(hf 1 h1).1]; exact h.2.1 a ha hp, h.2.2⟩
/-- cells that are rows -/
def isw (v : Nat) : Prop := (42 ≤ v ∧ v ≤ 57) ∨ (59 ≤ v ∧ v ≤ 77)
theorem isw_s {v : Nat} (h : isw v) : sln v = 2304 := by
  have : ∀ v, v < 78 → ((42 ≤ v ∧ v ≤ 57) ∨ (59 ≤ v ∧ v ≤ 77)) → sln v = 2304 := by decide
  exact this v (by unfold isw at h; omega) h
theorem isw_l {p : Nat} {K : XK} {T : XT} {v : Nat} (hc : xcx p K T) (h : isw v) : kl K v = 2304 := by
  rw [hc.2.2 v (by unfold isw at h; omega)]; exact isw_s h
def rwx {p : Nat} (T : XT) (v : Nat) (h : Nat → Fin p) : Prop := ∀ y, y < 2304 → xi T v y = nI (h y).val
theorem rwx_keep {p : Nat} {T T' : XT} {v : Nat} {h : Nat → Fin p} {P : Nat → Prop} (hr : rwx T v h) (hf : xf P T T') (hv : ¬ P v) : rwx T' v h := fun y hy => by rw [(hf v hv).1]; exact hr y hy
theorem rwx_cg {p : Nat} {T : XT} {v : Nat} {h h' : Nat → Fin p} (hr : rwx T v h) (he : ∀ y, y < 2304 → h y = h' y) : rwx T v h' := fun y hy => by rw [← he y hy]; exact hr y hy
theorem rwx_at {p : Nat} {T : XT} {v : Nat} {h : Nat → Fin p} (hr : rwx T v h) {y : Nat} (hy : y < 2304) : xi T v y = nI (h y).val := hr y hy
theorem n_hI (L : Nat) : nI L - 1 = hI L := by rw [z_nI, show (1 : Int32) = zI 1 from rfl, z_sub, hI_z]
theorem xs_top {p : Nat} [NeZero p] {K : XK} {T : XT} {v L : Nat} {r : PR (Fin p)} {post : Int32 → Prop} (hp : p ≤ 97) (hl : kl K v = L) (hL : L ≤ 2304) (h : ∀ y, y < L → xi T v y = nI (r.1 y).val) (hx : xl r L) (hpost : ∀ n, n ≤ L → hgt r n → post (hI n)) : wx1_top v K T post := by
  unfold wx1_top
  intro x1 e1
  rw [hl, n_hI] at e1
  subst e1
  unfold wx1_top_l5
  refine wl_n (fun n v => v = hI n ∧ n ≤ L ∧ xl r n) L ⟨rfl, Nat.le_refl _, hx⟩ ?_
  rintro n w ⟨rfl, hn, hxn⟩ R hR
  unfold wx1_top_b5
  rw [hI_lt0 (by omega)]
  refine ⟨fun c => hpost n hn ⟨hxn, Or.inl c⟩, fun c => ?_⟩
  obtain ⟨m, rfl⟩ : ∃ m, n = m + 1 := ⟨n - 1, by omega⟩
  rw [hI_s]
  refine ⟨m, by omega, rfl, ?_⟩
  rw [h m (by omega), nF_0 _ hp]
  refine ⟨fun z => ?_, fun z x e => hR m _ (by omega) ⟨e, by omega, fun i hi => ?_⟩⟩
  · have := hpost (m + 1) hn ⟨hxn, Or.inr z⟩
    rw [hI_s] at this
    exact this
  · by_cases w : i = m
    · rw [w]; exact z
    · exact hxn i (by omega)
theorem xs_topw {p : Nat} [NeZero p] {K : XK} {T : XT} {v : Nat} {r : PR (Fin p)} {post : Int32 → Prop} (hp : p ≤ 97) (hc : xcx p K T) (hv : isw v) (h : rwx T v r.1) (hx : xl r 2304) (hpost : ∀ n, n ≤ 2304 → hgt r n → post (hI n)) : wx1_top v K T post := xs_top hp (isw_l hc hv) (Nat.le_refl _) h hx hpost
theorem xs_red {p : Nat} [NeZero p] {K : XK} {T : XT} {a b c : Fin p} {post : Int32 → Prop} (hp : pr p) (hc : xcx p K T) (h : post (nI (c - a * b).val)) : wx1_reduced (nI c.val - nI a.val * nI b.val) K T post := by
  unfold wx1_reduced
  rw [hc.1, nF_red hp.2.1]
  exact ⟨n_ne0 hp, n_ne0 hp, h⟩
/-- one row becomes what is left of it by another one -/
theorem xs_leaves2 {p : Nat} [NeZero p] {K : XK} {T : XT} {v1 v2 : Nat} {a b : PR (Fin p)} {post : XT → Prop} (hp : pr p) (hc : xcx p K T) (w1 : isw v1) (w2 : isw v2) (h12 : v1 ≠ v2) (ha : rwx T v1 a.1) (hb : rwx T v2 b.1) (hxa : xl a 2304) (hxb : xl b 2304) (hb0 : b ≠ pz) (hpost : ∀ T' a' q d, xf (fun k => k = v1) T T' → rwx T' v1 a'.1 → a = pr_add (pr_mul q b) a' → xd b d → xl a' d → post T') : wx1_leaves_2 v1 v2 K T post := by
  have h97 := hp.2.1
  have l1 := isw_l hc w1
  have l2 := isw_l hc w2
  have nv : v1 ≠ 0 ∧ v1 ≠ 1 := by unfold isw at w1; omega
  unfold wx1_leaves_2
  refine xs_topw h97 hc w2 hb hxb (fun n hn hh => ?_)
  cases n with
  | zero => exact absurd (hgt_0 hh) hb0
  | succ d =>
    have hd := hgt_xd hh
    rw [hI_s]
    refine xs_topw h97 hc w1 ha hxa (fun n0 hn0 hh0 => ?_)
    unfold wx1_leaves_2_l11
    refine wl_n (fun n v => v.1 = hI n ∧ n ≤ n0 ∧ xf (fun k => k = v1) T v.2 ∧ ∃ a' q, rwx v.2 v1 a'.1 ∧ a = pr_add (pr_mul q b) a' ∧ xl a' n) n0 ⟨rfl, Nat.le_refl _, xf_rfl _ _, a, pz, ha, ?_, hh0.1⟩ ?_
    · have : pr_mul (pz : PR (Fin p)) b = pz := pr_zero b
      rw [this]
      letI := PRr (Fin p)
      show a = 0 + a
      grind
    · rintro n ⟨x4, T1⟩ ⟨hx4, hn', f1, a', q, ha', hq, hxn⟩ R hR
      dsimp only at hx4 f1 ha'
      subst hx4
      have c1 := xcx_t hc f1 (fun w => nv.1 w.symm) (fun w => nv.2 w.symm)
      have hb1 := rwx_keep hb f1 (fun w => h12 w.symm)
      unfold wx1_leaves_2_b11
      dsimp only
      rw [hI_ltn (by omega) (by omega)]
      refine ⟨fun c => hpost T1 a' q d f1 ha' hq hd (xl_mono hxn c), fun c => ?_⟩
      obtain ⟨m, rfl⟩ : ∃ m, n = m + 1 := ⟨n - 1, by omega⟩
      rw [hI_s]
      refine ⟨m, by omega, rfl, d, by omega, rfl, (b.1 d).val, by have := (b.1 d).isLt; omega, hb1 d (by omega), by rw [c1.1]; exact n_ne0 hp, fun x5 e5 => ?_⟩
      rw [c1.1, ha' m (by omega), c1.2.1 _ (fpos hd.1) (b.1 d).isLt, ← fiv_v hp hd.1, nF_mm h97] at e5
      subst e5
      have ht : (a'.1 m * fiv (b.1 d)) * b.1 d = a'.1 m := by
        have := fiv_ok hp hd.1
        have e : a'.1 m * fiv (b.1 d) * b.1 d = a'.1 m * (b.1 d * fiv (b.1 d)) := by grind
        rw [e, this]; grind
      generalize a'.1 m * fiv (b.1 d) = t at ht ⊢
      unfold wx1_leaves_2_l40
      refine wl_up (d + 1) (fun k v => v.1 = nI k ∧ xf (fun k => k = v1) T v.2 ∧ rwx v.2 v1 (fun i => if m - d ≤ i ∧ i < m - d + k then a'.1 i - t * b.1 (i - (m - d)) else a'.1 i)) 0 (by omega) ⟨rfl, f1, rwx_cg ha' fun y _ => (if_neg (by omega)).symm⟩ ?_
      rintro k ⟨x6, T2⟩ hk ⟨hx6, f2, r2⟩ R2' hR2
      dsimp only at hx6 f2 r2
      subst hx6
      have c2' := xcx_t hc f2 (fun w => nv.1 w.symm) (fun w => nv.2 w.symm)
      have out : (k = d + 1 ∨ t = 0) → wx1_leaves_2_j87 v1 v2 post (fun x4 T => R (x4, T)) (nI d) (nI m) K T2 := fun ho x e => by
        refine hR m _ (by omega) ⟨e, by omega, f2, tof a' b t (m - d), _, ?_, tof_eq hq, tof_xl hxn hd.2 (by omega) ht⟩
        rcases ho with ho | ho
        · subst ho
          exact rwx_cg r2 (fun y _ => tof_part hd.2 y)
        · refine rwx_cg r2 (fun y _ => ?_)
          rw [tof_at, ho]
          by_cases w : m - d ≤ y ∧ y < m - d + k
          · rw [if_pos w]; grind
          · rw [if_neg w]; grind
      unfold wx1_leaves_2_b40
      dsimp only
      rw [nI_ltI (by omega) (by omega), nF_0 _ h97]
      refine ⟨fun c3 => out (Or.inl (by omega)), fun c3 => ⟨fun z => out (Or.inr z), fun z => ?_⟩⟩
      rw [pk_sub (by omega), nI_add]
      refine ⟨m - d + k, by omega, rfl, k, by omega, rfl, ?_⟩
      rw [r2 (m - d + k) (by omega), rwx_keep hb f2 (fun w => h12 w.symm) k (by omega)]
      dsimp only
      rw [if_neg (by omega)]
      refine xs_red hp c2' ⟨m - d + k, by omega, rfl, fun T3 e3 x6 e6 => ?_⟩
      subst e6
      refine hR2 (by omega) _ ⟨by dsimp only; rw [li_1, nI_add], ?_, fun y hy => ?_⟩
      · dsimp only
        rw [e3]
        exact xf_tr f2 (xf_wi rfl)
      · dsimp only
        rw [e3, xi_wi]
        by_cases w : y = m - d + k
        · rw [if_pos ⟨rfl, w⟩, if_pos (by omega), w, show m - d + k - (m - d) = k by omega]
        · rw [if_neg (fun z => w z.2), rwx_at r2 hy]
          by_cases w3 : m - d ≤ y ∧ y < m - d + k
          · rw [if_pos w3, if_pos (by omega)]
          · rw [if_neg w3, if_neg (by omega)]
