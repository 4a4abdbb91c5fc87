set_option maxRecDepth 100000
theorem sp_goesOn1 {p h a b set : Nat} {reg : Nat → Nat → Nat} {s : DS} {d : Nat} {S : St} {post : Int32 → St → Prop} (hp : pr p) (v : vo h a b) (hv : dvs p (ok h a b) reg set) (hi : dinv p (ok h a b) reg set s) (hl : led (ok h a b) (dL s) (ldk (ok h a b) (dL s))) (h5 : dS s ≠ 500) (hd : d < 8) (hb : bit set d) (hg : gi (ldk (ok h a b) (reg d)) (ldk (ok h a b) (dL s))) (hf5 : S 0 5 = nI p) (htb : tb S d (reg d)) (hml : mld p (ok h a b) reg set S) (hm : mdv s S) (h0 : ¬ dok1 p (ok h a b) reg s d → ∀ S', frd S S' → post 0 S') (h1 : dok1 p (ok h a b) reg s d → ∀ S', frd S S' → (∀ k i, 11 ≤ k → S' k i = S k i) → mdv (dst1 p (ok h a b) reg s d) S' → post 1 S') : wp_goesOn (nI (ldk (ok h a b) (dL s))) (nI d) S post := by
  obtain ⟨m1, m2, m3, m4, m5, m6, m7, m8⟩ := hm
  have hp2 := hp.1
  have hp97 := hp.2.1
  obtain ⟨hr, hld⟩ := hv d hd
  have hld := hld hb
  obtain ⟨i1, i2, i3, i4, i5, i6, i7, i8, i9, i10⟩ := hi
  have hi : dinv p (ok h a b) reg set s := ⟨i1, i2, i3, i4, i5, i6, i7, i8, i9, i10⟩
  have hfree := dq_free hv hi hl hd hb hg
  obtain ⟨g1, g2, g3⟩ := gi_sub hld.1 hl.1 hg
  obtain ⟨ml1, ml2⟩ := (hml d hd).1 hb
  have hcd := dC_pos hp (Nat.pos_of_ne_zero hl.2.1) (i1 _ hl.1) (Nat.pos_of_ne_zero hld.2.1) (hr _ hld.1)
  have hCe : dL s (ldk (ok h a b) (dL s)) * iv p (reg d (ldk (ok h a b) (reg d))) % p = dC p (ok h a b) reg s d := rfl
  have hlfe : ∀ m, dlf p (ok h a b) reg s d m = (dL s m + (p - dC p (ok h a b) reg s d) * sh (reg d) (ldk (ok h a b) (dL s) - ldk (ok h a b) (reg d)) m) % p := fun m => rfl
  have hQe : ∀ e, dQ (dst1 p (ok h a b) reg s d) e = if e = d then up (dQ s d) (ldk (ok h a b) (dL s) - ldk (ok h a b) (reg d)) (dC p (ok h a b) reg s d) else dQ s e := fun e => rfl
  have hMe : dM (dst1 p (ok h a b) reg s d) = max (dM s) (cn (dlf p (ok h a b) reg s d) 4096) := rfl
  rw [hCe] at hcd
  have hlk := hl.1
  have hlq := hld.1
  have hiv := (iv_ok hp (Nat.pos_of_ne_zero hld.2.1) (hr _ hlq)).2.1
  have hLlt := i1 _ hlk
  have hok1 : dok1 p (ok h a b) reg s d ↔ (¬ ovf (reg d) 1 (ldk (ok h a b) (dL s) - ldk (ok h a b) (reg d)) ∧ cn (dlf p (ok h a b) reg s d) 4096 ≤ 60 ∧ cn (dQ (dst1 p (ok h a b) reg s d) d) 4096 ≤ 60) := Iff.rfl
  generalize hk : ldk (ok h a b) (dL s) = k at *
  generalize hq : ldk (ok h a b) (reg d) = q at *
  generalize hc : dC p (ok h a b) reg s d = c at *
  have ht4 : k - q < 4096 := by omega
  have hcq : cn (dQ (dst1 p (ok h a b) reg s d) d) 4096 = cn (dQ s d) 4096 + 1 := by
    rw [hQe, if_pos rfl]
    have := cn_up (f := dQ s d) (v := c) ht4
    rw [if_pos hfree, if_neg (by omega)] at this
    omega
  have b6 := i6 d hd
  unfold wp_goesOn
  intro S1 e1
  have G1 : ∀ x y, ¬ (x = 0 ∧ y = 38) → S1 x y = S x y := fun x y z => by rw [e1, bw_at, if_neg z]
  have hmm := mul97 (a := dL s k) (b := iv p (reg d q)) (by omega) (by omega)
  refine ⟨fun _ => ⟨k, hlk, rfl, d, hd, rfl, ?_⟩, fun z => absurd z (n_m1 (by omega))⟩
  have hx3 : jrem (S1 7 k * S1 12 d) (S1 0 5) = nI c := by
    rw [G1 7 k (by omega), G1 12 d (by omega), G1 0 5 (by omega), m1 k hlk, ml2, hf5, pk_mul, n_rem (by omega) (by omega) (by omega), hCe]
  have hx4 : nI k - S1 11 d = nI (k - q) := by rw [G1 11 d (by omega), ml1, pk_sub g1]
  rw [hx3]
  refine ⟨by rw [G1 0 5 (by omega), hf5]; exact n_ne0 hp, fun x3 e3 => ⟨d, hd, rfl, ?_⟩⟩
  rw [hx4]
  intro x4 e4
  subst e3 e4
  refine ⟨4096 * d + (k - q), by omega, by rw [li_4096, pk_mul, nI_add], fun S2 e2 => ⟨d, hd, rfl, d, hd, rfl, fun S3 e3 => ?_⟩⟩
  have h10 : S2 10 d = nI (cn (dQ s d) 4096) := by rw [e2, bw_at, if_neg (by omega), G1 10 d (by omega)]; exact m6 d hd
  rw [h10, li_1, nI_add] at e3
  have G3 : ∀ x y, S3 x y = if x = 10 ∧ y = d then nI (cn (dQ s d) 4096 + 1) else if x = 9 ∧ y = 4096 * d + (k - q) then nI c else S1 x y := fun x y => by rw [e3, bw_at, e2, bw_at]
  have fr3 : frd S S3 := fun x y q1 q2 => by rw [G3, if_neg (by omega), if_neg (by omega)]; exact G1 x y (by omega)
  -- the loop
  unfold wp_goesOn_l125
  let lf := fun i m => (dL s m + (p - c) * (if m - (k - q) < i then sh (reg d) (k - q) m else 0)) % p
  refine wl_up 4096 (fun i w => w.1 = nI i ∧ (∀ x y, x ≠ 7 → ¬ (x = 0 ∧ y = 36) → w.2 x y = S3 x y) ∧ (∀ m, m < 4096 → w.2 7 m = nI (lf i m)) ∧ w.2 0 36 = nI (cn (lf i) 4096) ∧ ∀ l, l < i → reg d l ≠ 0 → gs l (k - q)) 0 (by omega) ⟨rfl, fun _ _ _ _ => rfl, fun m hm => ?_, ?_, fun l hl => absurd hl (by omega)⟩ ?_
  · show S3 7 m = _
    rw [G3, if_neg (by omega), if_neg (by omega), G1 7 m (by omega), m1 m hm]
    congr 1
    show _ = (dL s m + (p - c) * (if m - (k - q) < 0 then _ else 0)) % p
    rw [if_neg (by omega), Nat.mul_zero, Nat.add_zero, Nat.mod_eq_of_lt (i1 m hm)]
  · show S3 0 36 = _
    rw [G3, if_neg (by omega), if_neg (by omega), G1 0 36 (by omega), m2]
    congr 1
    refine cn_ext fun m hm => ?_
    show _ ↔ (dL s m + (p - c) * (if m - (k - q) < 0 then _ else 0)) % p = 0
    rw [if_neg (by omega), Nat.mul_zero, Nat.add_zero, Nat.mod_eq_of_lt (i1 m hm)]
  · rintro i ⟨x5, S4⟩ hi4 ⟨hx5, f4, w4, c4, no4⟩ R hR
    dsimp only at hx5 f4 w4 c4
    subst hx5
    have fr4 : frd S S4 := fun x y q1 q2 => by rw [f4 x y (by omega) (by omega)]; exact fr3 x y q1 q2
    have hlfp : ∀ m, lf i m < p := fun m => Nat.mod_lt _ (by omega)
    have hcn := cn_le (lf i) 4096
    unfold wp_goesOn_b125
    dsimp only
    rw [li_4096, nI_leI (by omega) (by omega)]
    refine ⟨fun z => ?_, fun z => ?_⟩
    · have hi5 : i = 4096 := by omega
      subst hi5
      have hlf : ∀ m, m < 4096 → lf 4096 m = dlf p (ok h a b) reg s d m := fun m hm => by
        rw [hlfe]
        show (dL s m + (p - c) * (if m - (k - q) < 4096 then _ else 0)) % p = _
        rw [if_pos (by omega)]
      have hcl : cn (lf 4096) 4096 = cn (dlf p (ok h a b) reg s d) 4096 := cn_ext fun m hm => by rw [hlf m hm]
      have hnov : ¬ ovf (reg d) 1 (k - q) := fun ⟨_, l, hl1, hl2, hl3⟩ => hl3 (no4 l hl1 hl2)
      have h39 : S4 0 39 = nI (dM s) := by rw [f4 0 39 (by omega) (by omega), G3, if_neg (by omega), if_neg (by omega), G1 0 39 (by omega)]; exact m8
      have h104 : S4 10 d = nI (cn (dQ s d) 4096 + 1) := by rw [f4 10 d (by omega) (by omega), G3, if_pos ⟨rfl, rfl⟩]
      have fin : ∀ S5 : St, (∀ x y, ¬ (x = 0 ∧ y = 39) → S5 x y = S4 x y) → S5 0 39 = nI (max (dM s) (cn (dlf p (ok h a b) reg s d) 4096)) → wp_goesOn_j270 (nI k) (nI d) post S5 := fun S5 f5 h395 => by
        have fr5 : frd S S5 := fun x y q1 q2 => by rw [f5 x y (by omega)]; exact fr4 x y q1 q2
        unfold wp_goesOn_j270
        rw [f5 0 36 (by omega), c4, hcl, li_60, nI_ltI (by omega) (by omega)]
        refine ⟨fun w => h0 (fun w2 => by have := (hok1.1 w2).2.1; omega) S5 fr5, fun w => ⟨d, hd, rfl, ?_⟩⟩
        rw [f5 10 d (by omega), h104, nI_ltI (by omega) (by omega)]
        refine ⟨fun w2 => h0 (fun w3 => by have := (hok1.1 w3).2.2; omega) S5 fr5, fun w2 => h1 (hok1.2 ⟨hnov, by omega, by omega⟩) S5 fr5 (fun x y hx => ?_) ⟨fun m hm => ?_, ?_, fun m hm => ?_, ?_, fun e t he ht => ?_, fun e he => ?_, ?_, ?_⟩⟩
        · rw [f5 x y (by omega), f4 x y (by omega) (by omega), G3, if_neg (by omega), if_neg (by omega)]; exact G1 x y (by omega)
        · rw [f5 7 m (by omega), w4 m hm, hlf m hm]; rfl
        · rw [f5 0 36 (by omega), c4, hcl]; rfl
        · rw [f5 8 m (by omega), f4 8 m (by omega) (by omega), G3, if_neg (by omega), if_neg (by omega), G1 8 m (by omega)]; exact m3 m hm
        · rw [f5 0 37 (by omega), f4 0 37 (by omega) (by omega), G3, if_neg (by omega), if_neg (by omega), G1 0 37 (by omega)]; exact m4
        · rw [f5 9 _ (by omega), f4 9 _ (by omega) (by omega), G3, if_neg (by omega), hQe]
          by_cases w3 : e = d
          · rw [if_pos w3, up_at, w3]
            by_cases w5 : t = k - q
            · rw [if_pos ⟨rfl, by rw [w5]⟩, if_pos w5]
            · rw [if_neg (by omega), if_neg w5, G1 9 _ (by omega)]; exact m5 d t hd ht
          · rw [if_neg w3, if_neg (by omega), G1 9 _ (by omega)]; exact m5 e t he ht
        · rw [f5 10 _ (by omega), f4 10 _ (by omega) (by omega), G3]
          by_cases w3 : e = d
          · rw [if_pos ⟨rfl, w3⟩, w3, hcq]
          · rw [if_neg (fun w => w3 w.2), if_neg (by omega), G1 10 _ (by omega), hQe, if_neg w3]; exact m6 e he
        · rw [f5 0 38 (by omega), f4 0 38 (by omega) (by omega), G3, if_neg (by omega), if_neg (by omega), e1, bw_at, if_pos ⟨rfl, rfl⟩, m7, li_1, nI_add]; rfl
        · rw [h395]; rfl
      rw [c4, hcl, h39, nI_leI (by omega) (by omega)]
      refine ⟨fun w => fin S4 (fun _ _ _ => rfl) (by rw [h39, show max (dM s) (cn (dlf p (ok h a b) reg s d) 4096) = dM s by omega]), fun w S5 e5 => fin S5 (fun x y q1 => by rw [e5, bw_at, if_neg q1]) ?_⟩
      rw [e5, bw_at, if_pos ⟨rfl, rfl⟩, show max (dM s) (cn (dlf p (ok h a b) reg s d) 4096) = cn (dlf p (ok h a b) reg s d) 4096 by omega]
    · have tbi := frd_tb htb fr4
      obtain ⟨e, hbd⟩ := tbi i (by omega)
      have hrp := hr i (by omega)
      refine sp_coef hd (by omega) ?_
      unfold wp_goesOn_j245 wp_goesOn_j187
      rw [e, li_0, nI_eq (by omega) (by omega), ← li_0]
      have hstep : ∀ m, m < 4096 → (m ≠ i + (k - q) ∨ reg d i = 0 ∨ ¬ gs i (k - q)) → lf (i + 1) m = lf i m := fun m hm hor => by
        show (dL s m + (p - c) * (if m - (k - q) < i + 1 then _ else 0)) % p = (dL s m + (p - c) * (if m - (k - q) < i then _ else 0)) % p
        by_cases w1 : m - (k - q) < i
        · rw [if_pos w1, if_pos (by omega)]
        · by_cases w2 : m - (k - q) < i + 1
          · rw [if_neg w1, if_pos w2]
            have : sh (reg d) (k - q) m = 0 := by
              by_cases gg : gi (k - q) m
              · obtain ⟨z1, z2, _⟩ := gi_sub ht4 hm gg
                rw [sh_yes gg, show m - (k - q) = i by omega]
                rw [show m - (k - q) = i by omega] at z2
                rcases hor with w | w | w
                · omega
                · exact w
                · exact absurd z2 w
              · exact sh_no gg
            rw [this]
          · rw [if_neg w1, if_neg w2]
      refine ⟨fun w => ?_, fun w x5 ex5 => ?_⟩
      · refine sp_sum (by omega) ht4 (fun gg => ?_) (fun gg => ?_)
        · have hlt := (gs_ex (by omega) ht4 gg).1
          refine ⟨fun _ => ⟨i + (k - q), hlt, rfl, ?_⟩, fun w2 => absurd w2 (n_m1 (by omega))⟩
          have hold : lf i (i + (k - q)) = dL s (i + (k - q)) := by
            show (dL s _ + (p - c) * (if i + (k - q) - (k - q) < i then _ else 0)) % p = _
            rw [if_neg (by omega), Nat.mul_zero, Nat.add_zero, Nat.mod_eq_of_lt (i1 _ hlt)]
          have hnew : lf (i + 1) (i + (k - q)) = (lf i (i + (k - q)) + (p - c) * reg d i) % p := by
            rw [hold]
            show (dL s _ + (p - c) * (if i + (k - q) - (k - q) < i + 1 then _ else 0)) % p = _
            rw [if_pos (by omega), sh_at (by omega) ht4 gg]
          have hupd : ∀ m, m < 4096 → lf (i + 1) m = up (lf i) (i + (k - q)) (lf (i + 1) (i + (k - q))) m := fun m hm => by
            rw [up_at]
            by_cases w2 : m = i + (k - q)
            · rw [if_pos w2, w2]
            · rw [if_neg w2]; exact hstep m hm (Or.inl w2)
          have hcu : cn (lf (i + 1)) 4096 + (if lf i (i + (k - q)) = 0 then 0 else 1) = cn (lf i) 4096 + (if lf (i + 1) (i + (k - q)) = 0 then 0 else 1) := by
            rw [cn_ext (f := lf (i + 1)) (g := up (lf i) (i + (k - q)) (lf (i + 1) (i + (k - q)))) (fun m hm => by rw [hupd m hm])]
            exact cn_up hlt
          have hlast : ∀ S5 : St, (∀ x y, ¬ (x = 0 ∧ y = 36) → S5 x y = S4 x y) → (lf i (i + (k - q)) = 0 → S5 0 36 = nI (cn (lf i) 4096)) → (lf i (i + (k - q)) ≠ 0 → S5 0 36 = nI (cn (lf i) 4096 - 1)) → ∃ j_5, j_5 < 4096 ∧ nI (i + (k - q)) = nI j_5 ∧ wp_coef (nI d) (nI i) S5 fun r_6 => ¬ S5 0 5 = 0 ∧ ∃ j_8, j_8 < 4096 ∧ nI (i + (k - q)) = nI j_8 ∧ ∀ S_9 : St, S_9 = bw S5 7 j_8 (jrem (S5 7 j_5 + (S5 0 5 - nI c) * r_6) (S5 0 5)) → ∃ j_10, j_10 < 4096 ∧ nI (i + (k - q)) = nI j_10 ∧ (S_9 7 j_10 = 0 → ∀ S_11 : St, S_11 = bw S_9 0 36 (S_9 0 36 + 0) → ∀ x5_4 : Int32, x5_4 = nI i + 1 → R (x5_4, S_11)) ∧ (¬ S_9 7 j_10 = 0 → ∀ S_12 : St, S_12 = bw S_9 0 36 (S_9 0 36 + 1) → ∀ x5_4 : Int32, x5_4 = nI i + 1 → R (x5_4, S_12)) := by
            intro S5 f5 hz1 hz2
            refine ⟨i + (k - q), hlt, rfl, sp_coef hd (by omega) ?_⟩
            have h55 : S5 0 5 = nI p := by rw [f5 0 5 (by omega), fr4 0 5 (by omega) (by omega)]; exact hf5
            have hmul : (p - c) * reg d i < 9409 := mul97 (by omega) (by omega)
            have hll := hlfp (i + (k - q))
            rw [f5 1 _ (by omega), e, h55, f5 7 _ (by omega), w4 _ hlt, pk_sub (by omega), pk_mul, nI_add, n_rem (by omega) (by omega) (by omega), ← hnew]
            refine ⟨n_ne0 hp, i + (k - q), hlt, rfl, fun S6 e6 => ⟨i + (k - q), hlt, rfl, ?_⟩⟩
            have hl1 : lf (i + 1) (i + (k - q)) < p := Nat.mod_lt _ (by omega)
            have h6v : S6 7 (i + (k - q)) = nI (lf (i + 1) (i + (k - q))) := by rw [e6, bw_at, if_pos ⟨rfl, rfl⟩]
            have h636 : S6 0 36 = S5 0 36 := by rw [e6, bw_at, if_neg (by omega)]
            have done : ∀ (S7 : St) (y : Nat), S7 = bw S6 0 36 (nI y) → y = cn (lf (i + 1)) 4096 → ∀ x5, x5 = nI i + 1 → R (x5, S7) := fun S7 y e7 ey x5 ex5 => by
              subst ex5
              refine hR (by omega) _ ⟨by rw [li_1, nI_add], fun x y q1 q2 => ?_, fun m hm => ?_, ?_, fun l hl hz => ?_⟩
              · show S7 x y = _
                rw [e7, bw_at, if_neg q2, e6, bw_at, if_neg (by omega), f5 x y q2]; exact f4 x y q1 q2
              · show S7 7 m = _
                rw [e7, bw_at, if_neg (by omega), e6, bw_at, hupd m hm, up_at]
                by_cases w2 : m = i + (k - q)
                · rw [if_pos ⟨rfl, w2⟩, if_pos w2]
                · rw [if_neg (fun w => w2 w.2), if_neg w2, f5 7 m (by omega)]; exact w4 m hm
              · show S7 0 36 = _
                rw [e7, bw_at, if_pos ⟨rfl, rfl⟩, ey]
              · by_cases w2 : l = i
                · rw [w2]; exact gg
                · exact no4 l (by omega) hz
            rw [h6v, h636, li_0, nI_eq (by omega) (by omega), li_1]
            by_cases z0 : lf i (i + (k - q)) = 0
            · rw [hz1 z0]
              rw [if_pos z0] at hcu
              refine ⟨fun y0 S7 e7 => done S7 (cn (lf i) 4096 + 0) (e7.trans (by rw [nI_add])) (by rw [if_pos y0] at hcu; omega), fun y0 S7 e7 => done S7 (cn (lf i) 4096 + 1) (e7.trans (by rw [nI_add])) (by rw [if_neg y0] at hcu; omega)⟩
            · rw [hz2 z0]
              rw [if_neg z0] at hcu
              have hpos := cn_pos (lf i) (i := i + (k - q)) (j := 4096) hlt z0
              refine ⟨fun y0 S7 e7 => done S7 (cn (lf i) 4096 - 1 + 0) (e7.trans (by rw [nI_add])) (by rw [if_pos y0] at hcu; omega), fun y0 S7 e7 => done S7 (cn (lf i) 4096 - 1 + 1) (e7.trans (by rw [nI_add])) (by rw [if_neg y0] at hcu; omega)⟩
          have hll := hlfp (i + (k - q))
          rw [w4 _ hlt, li_0, nI_eq (by omega) (by omega), c4]
          refine ⟨fun y0 S5 e5 => ?_, fun y0 S5 e5 => ?_⟩
          · exact hlast S5 (fun x y q1 => by rw [e5, bw_at, if_neg q1]) (fun _ => by rw [e5, bw_at, if_pos ⟨rfl, rfl⟩, pk_sub (by omega), Nat.sub_zero]) (fun w2 => absurd y0 w2)
          · have hpos := cn_pos (lf i) (i := i + (k - q)) (j := 4096) hlt y0
            exact hlast S5 (fun x y q1 => by rw [e5, bw_at, if_neg q1]) (fun w2 => absurd w2 y0) (fun _ => by rw [e5, bw_at, if_pos ⟨rfl, rfl⟩, li_1, pk_sub (by omega)])
        · exact ⟨fun w2 => absurd rfl w2, fun _ => h0 (fun w2 => (hok1.1 w2).1 ⟨by omega, i, by omega, w, gg⟩) S4 fr4⟩
      · subst ex5
        refine hR (by omega) _ ⟨by rw [li_1, nI_add], f4, fun m hm => ?_, ?_, fun l hl hz => ?_⟩
        · show S4 7 m = _
          rw [hstep m hm (Or.inr (Or.inl w))]; exact w4 m hm
        · show S4 0 36 = _
          rw [cn_ext (f := lf (i + 1)) (g := lf i) (fun m hm => by rw [hstep m hm (Or.inr (Or.inl w))])]; exact c4
        · by_cases w2 : l = i
          · rw [w2] at hz; exact absurd w hz
          · exact no4 l (by omega) hz
