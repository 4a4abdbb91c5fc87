set_option maxRecDepth 100000
/-! TermDesk: desk -/
theorem red_z {a k : Int} {p N : Nat} (h0 : 0 < p) (hp : p ≤ 97) (ha : -100000 < a ∧ a < 100000) (hN : (N : Int) = a + (p : Int) * k) : jrem (jrem (zI a) (nI p) + nI p) (nI p) = nI (N % p) := by
  rw [z_nI p, z_rem (by omega) (by omega), z_add]
  have t1 := Int.tmod_lt_of_pos a (b := (p : Int)) (by omega)
  have t2 := Int.lt_tmod_of_pos a (b := (p : Int)) (by omega)
  have t3 := Int.mul_tdiv_add_tmod a (p : Int)
  generalize a.tmod (p : Int) = t at t1 t2 t3 ⊢
  generalize a.tdiv (p : Int) = q at t3
  obtain ⟨n, hn⟩ : ∃ n : Nat, t + (p : Int) = (n : Int) := ⟨(t + (p : Int)).toNat, by omega⟩
  rw [hn, ← z_nI, ← z_nI, n_rem (by omega) h0 (by omega)]
  congr 1
  have hN2 : (N : Int) = (n : Int) + (p : Int) * (q + k - 1) := by
    have e2 : (p : Int) * (q + k - 1) = (p : Int) * q + (p : Int) * k - (p : Int) := by grind
    rw [e2, hN]
    omega
  have h3 := congrArg (fun z : Int => z % (p : Int)) hN2
  rw [Int.add_mul_emod_self_left] at h3
  have h4 : ((n % p : Nat) : Int) = ((N % p : Nat) : Int) := by
    rw [Int.natCast_emod, Int.natCast_emod]
    exact h3.symm
  exact Int.ofNat.inj h4
theorem red_n {v co p : Nat} {less : Bool} (h0 : 0 < p) (hp : p ≤ 97) (hv : v < p) (hco : co < 10000) : jrem (jrem (nI v + (if less then - nI co else nI co)) (nI p) + nI p) (nI p) = nI ((v + (if less then p - co % p else co % p)) % p) := by
  have hm := Nat.mod_lt co h0
  have hd := Nat.div_add_mod co p
  have hd' : (p : Int) * ((co / p : Nat) : Int) + ((co % p : Nat) : Int) = (co : Int) := by
    rw [← Int.natCast_mul, ← Int.natCast_add, hd]
  cases less with
  | true =>
    have e : nI v + - nI co = zI ((v : Int) - (co : Int)) := by
      rw [z_nI v, z_nI co, show - zI (co : Int) = zI (-(co : Int)) from (Int32.ofInt_neg _).symm, z_add]
      rfl
    show jrem (jrem (nI v + - nI co) (nI p) + nI p) (nI p) = nI ((v + (p - co % p)) % p)
    rw [e]
    refine red_z (k := ((co / p : Nat) : Int) + 1) h0 hp (by omega) ?_
    have e2 : (p : Int) * (((co / p : Nat) : Int) + 1) = (p : Int) * ((co / p : Nat) : Int) + (p : Int) := by grind
    rw [e2]
    omega
  | false =>
    show jrem (jrem (nI v + nI co) (nI p) + nI p) (nI p) = nI ((v + co % p) % p)
    rw [nI_add, z_nI (v + co)]
    refine red_z (k := - ((co / p : Nat) : Int)) h0 hp (by omega) ?_
    have e2 : (p : Int) * (- ((co / p : Nat) : Int)) = - ((p : Int) * ((co / p : Nat) : Int)) := by grind
    rw [e2]
    omega
theorem fdt_lt {p : Nat} {a co : Nat → Nat} {ls : Nat → Bool} (h0 : 0 < p) : ∀ m k, fdt p a co ls m k < p := fun m => by
  induction m with
  | zero => intro k; exact h0
  | succ m ih =>
    intro k
    show (if k = a m then _ else _) < p
    split
    · exact Nat.mod_lt _ h0
    · exact ih k
theorem xs_tpoly {i m p h a' b' q Z Y : Nat} {K : XK} {T : XT} {tab : Nat → Nat} {post : Nat → XT → XK → Prop} (hp : pr p) (h00 : xi T 0 0 = nI p) (hen : xen p T i tab m) (hi : i < 6) (hcn : cn tab 4096 ≤ 12) (vd : vo h a' b') (hq : xr T 0 4 = some q) (ho : orn K T q h a' b') (hq9 : 90 ≤ q) (hqz : q < kz K) (hz : 90 ≤ kz K) (hl : kl K 2 = 4096) (hZ : kc K + 3 ≤ Z) (hY : ks K + 27 ≤ Y)
    (hpost : ∀ T' K', xf (fun k => k = 2 ∨ kz K ≤ k) T T' → kx K K' → kz K' = kz K + 3 → kc K' = Z → ks K' = Y → ply (ok h a' b') p K' T' (kz K + 2) tab → post (kz K + 2) T' K') : wx4_poly (nI i) K T Z Y post := by
  obtain ⟨e1, e2, at', co, ls, e3, e4⟩ := hen
  have hp0 : 0 < p := by have := hp.1; omega
  have hp97 := hp.2.1
  unfold wx4_poly
  refine xs_blank hl (fun T1 f1 z1 x3 ex3 => ?_)
  have ex3 : x3 = nI (12 * i) := by rw [ex3, li_12, pk_mul]
  subst ex3
  unfold wx4_poly_l13
  refine wl_up m (fun j (v : Int32 × XT) => v.1 = nI (12 * i + j) ∧ xf (fun k => k = 2) T v.2 ∧ ∀ k, k < 4096 → xi v.2 2 k = nI (fdt p at' co ls j k)) 0 (by omega) ⟨rfl, f1, z1⟩ ?_
  rintro j ⟨x3, T2⟩ hj ⟨ex3, f2, g2⟩ R hR
  dsimp only at ex3 f2 g2 ⊢
  subst ex3
  have o : ∀ k, k ≠ 2 → xi T2 k = xi T k := fun k hk => (f2 k hk).1
  unfold wx4_poly_b13
  refine ⟨i, hi, rfl, ?_⟩
  rw [o 85 (by omega), e1, li_12, pk_mul, nI_add, nI_leI (by omega) (by omega)]
  refine ⟨fun w => ?_, fun w => ?_⟩
  · have ej : j = m := by omega
    subst ej
    refine ⟨Z, Y, by omega, Nat.le_refl _, by omega, Nat.le_refl _, ?_⟩
    refine xs_sorted (f := tab) vd hp97 (by rw [(f2 0 (by omega)).2]; exact hq) (by unfold orn at ho ⊢; rw [o q (by omega)]; exact ho) hqz hz (by omega) hl (fun k hk => by rw [e4 k hk]; exact g2 k hk) (fun k hk => by rw [e4 k hk]; exact fdt_lt hp0 _ _) hZ (by omega) (fun T3 K3 f3 k3 z3 c3 s3 p3 => hpost T3 _ (xf_tr (xf_mono f2 (fun k hk => Or.inl hk)) (xf_mono f3 (fun k hk => Or.inr hk))) (kx_tr k3 (kx_set _ _ _)) z3 rfl rfl p3)
  · obtain ⟨c1, c2, c3, c4⟩ := e3 j (by omega)
    refine ⟨12 * i + j, by omega, rfl, 12 * i + j, by omega, rfl, at' j, by rw [hl]; exact c2, by rw [o 83 (by omega)]; exact c1, 12 * i + j, by omega, rfl, ?_⟩
    unfold wx1_reduced
    rw [o 0 (by omega), h00, g2 (at' j) c2, o 84 (by omega), c3, red_n hp0 hp97 (fdt_lt hp0 _ _) c4, li_0, nI_eq (by omega) (by omega)]
    refine ⟨by omega, by omega, at' j, by rw [hl]; exact c2, by rw [o 83 (by omega)]; exact c1, fun T3 e3' x3 ex3 => ?_⟩
    rw [li_1, nI_add] at ex3
    refine hR (by omega) _ ⟨by rw [ex3]; rfl, xf_tr f2 (by show xf _ _ T3; rw [e3']; exact xf_wi rfl), fun k hk => ?_⟩
    show xi T3 2 k = nI (if k = at' j then (fdt p at' co ls j k + (if ls j then p - co j % p else co j % p)) % p else fdt p at' co ls j k)
    rw [e3', xi_wi]
    by_cases w2 : k = at' j
    · rw [if_pos ⟨rfl, w2⟩, if_pos w2, w2]
    · rw [if_neg (fun z => w2 z.2), if_neg w2]; exact g2 k hk
/-- cell 0's numbers at 16, 23, 24, 25 -/
theorem rx_W {A A' : AB} {K : XK} {T T' : XT} (h : rx A K T) (hT : xf (fun k => k = 0) T T') (hr : xr T' 0 = xr T 0) (h0 : ∀ j, j ≠ 16 → j ≠ 23 → j ≠ 24 → j ≠ 25 → xi T' 0 j = xi T 0 j) (hN : ∀ i, i ≠ 6 → aN A' i = aN A i) (hR : aR A' = aR A) (hP : aP A' = aP A) (hO : aO A' = aO A) (hTp : aT A' = aT A) (h16 : xi T' 0 16 = nI (aN A' 6)) (h23 : xi T' 0 23 = aZ A' 0) (h24 : xi T' 0 24 = aZ A' 1) (h25 : aZ A' 0 = 4 → xi T' 0 25 = aZ A' 2) : rx A' K T' := by
  obtain ⟨q1, q2, q3, q4, q5, q6, q7, q8, q9, g, ga, q10, q11, q12⟩ := h
  have hz := q1.2.1
  have hPP : ∀ k, 90 ≤ k → k < kz K → ¬ (k = 0) := fun k a b => by omega
  have n0 := hN 0 (by omega)
  have n1 := hN 1 (by omega)
  have n2 := hN 2 (by omega)
  have n3 := hN 3 (by omega)
  have n4 := hN 4 (by omega)
  have n5 := hN 5 (by omega)
  refine ⟨?_, h23, h24, h25, by rw [h0 21 (by omega) (by omega) (by omega) (by omega), n0]; exact q5, h16, by rw [h0 22 (by omega) (by omega) (by omega) (by omega), n5]; exact q7, fun j hj => by rw [(hT 79 (by omega)).1, hTp]; exact q8 j hj, fun ht => ?_, g, ga, by rw [hr]; exact q10, ?_, ?_⟩
  · obtain ⟨w1, w2, w3, w4, w5, w6, w7⟩ := q1
    exact ⟨w1, w2, by rw [hr]; exact w3, fun i hi => by rw [(hT 41 (by omega)).2, (hT 58 (by omega)).2]; exact w4 i hi, by rw [(hT 6 (by omega)).2]; exact w5, fun d hd => by rw [(hT 7 (by omega)).2]; exact w6 d hd, by rw [(hT 78 (by omega)).1]; exact w7⟩
  · rw [n0] at ht
    obtain ⟨w1, w2, w3, w4, ⟨q, w5, w6, w7, w8⟩, w9⟩ := q9 ht
    have hh : ∀ j, j < 4 → xi T' 0 j = xi T 0 j := fun j hj => h0 j (by omega) (by omega) (by omega) (by omega)
    unfold rxT
    rw [n1, n2, n3, n4, hh 0 (by omega), hh 1 (by omega), hh 2 (by omega), hh 3 (by omega), hr]
    refine ⟨w1, w2, w3, w4, ⟨q, w5, ?_, w7, w8⟩, fun a h1 h2 => by rw [(hT 1 (by omega)).1]; exact w9 a h1 h2⟩
    unfold orn at w6 ⊢
    rw [(hT q (by omega)).1]
    exact w6
  · have e : aOk A' = aOk A := by unfold aOk; rw [n2, n3, n4]
    rw [e, n1, hR]
    exact rgs_keep q11 hT (kx_rfl K) hPP (by omega)
  · have := rxP_keep q12 hT (kx_rfl K) hPP (by omega) (by omega) (by omega)
    unfold rxP at this ⊢
    rw [n5, n1, hO, hP]
    exact this
def aB (A : AB) : AB := (fun i => if i = 6 then 0 else aN A i, aR A, aP A, aO A, aT A, fun i => if i = 2 then -1 else 0)
