set_option maxRecDepth 100000
/-- where a division starts -/
def ds0 (w : Nat → Nat) : DS := (w, fun _ => 0, fun _ _ => 0, 0, cn w 4096)
theorem dinv_s0 {p set : Nat} {o : Nat → Nat} {reg : Nat → Nat → Nat} {w : Nat → Nat} (hp : pr p) (hw : ∀ k, k < 4096 → w k < p) (h60 : cn w 4096 ≤ 60) : dinv p o reg set (ds0 w) := by
  have h2 := hp.1
  have z : cn (fun _ => 0) 4096 = 0 := cn_z fun _ _ => rfl
  refine ⟨hw, fun k _ => by show 0 < p; omega, fun d k _ _ => by show 0 < p; omega, h60, ?_, fun d _ => ?_, by show 0 ≤ 500; omega, h60, fun k l _ _ q => absurd rfl q, fun d t _ _ q => absurd rfl q⟩
  · show cn (fun _ => 0) 4096 ≤ 60; omega
  · show cn (fun _ => 0) 4096 ≤ 60; omega
theorem mld_keep {p set : Nat} {o : Nat → Nat} {reg : Nat → Nat → Nat} {S S' : St} (h : mld p o reg set S) (hk : ∀ k i, 11 ≤ k → S' k i = S k i) : mld p o reg set S' := fun e he => by
  rw [hk 11 e (by omega), hk 12 e (by omega)]
  exact h e he
theorem sp_dividesBy_main {p h a b set : Nat} {reg : Nat → Nat → Nat} {al : Nat → Nat} {S0 : St} {D : Option DS} {post : Int32 → St → Prop} (hp : pr p) (v : vo h a b) (hs : set < 256) (hf5 : S0 0 5 = nI p) (htb : ∀ d, d < 8 → tb S0 d (reg d)) (hal : alg (ok h a b) S0 al) (hv : dvs p (ok h a b) reg set) (h0 : D = none → ∀ S', frd S0 S' → post 0 S') (h1 : ∀ s, D = some s → dinv p (ok h a b) reg set s → ∀ S', frd S0 S' → mdv s S' → post 1 S') (S1 : St) (f1 : frd S0 S1) (s1 : DS) (hi1 : dinv p (ok h a b) reg set s1) (hm1 : mdv s1 S1) (hl1 : mld p (ok h a b) reg set S1) (hz1 : dS s1 = 0) (hD : drun p (ok h a b) reg set 502 s1 = D) : wp_dividesBy_l183 (nI set) post 0 S1 := by
  unfold wp_dividesBy_l183
  refine wl_n (fun n w => ∃ (i : Nat) (s : DS), w.1 = nI i ∧ i ≤ 4096 ∧ frd S0 w.2 ∧ dinv p (ok h a b) reg set s ∧ mdv s w.2 ∧ mld p (ok h a b) reg set w.2 ∧ n = 502 - dS s ∧ (∀ j, j < i → dL s (al j) = 0) ∧ drun p (ok h a b) reg set n s = D) 502 ⟨0, s1, rfl, by omega, f1, hi1, hm1, hl1, by rw [hz1], fun j hj => absurd hj (by omega), hD⟩ ?_
  rintro n ⟨x2, S⟩ ⟨i, s, hx2, hi4, fr, hi, hm, hml, hn, hz, hrun⟩ R hR
  dsimp only at hx2 fr hm hml
  subst hx2
  have hi' := hi
  obtain ⟨i1, i2, i3, i4, i5, i6, i7, i8, i9, i10⟩ := hi'
  have hm' := hm
  obtain ⟨m1, m2, m3, m4, m5, m6, m7, m8⟩ := hm'
  obtain ⟨n', hn'⟩ : ∃ n', n = n' + 1 := ⟨n - 1, by omega⟩
  have hp97 := hp.2.1
  unfold wp_dividesBy_b183
  dsimp only
  rw [m2, li_0, nI_leI (by omega) (by omega)]
  rw [hn'] at hrun
  refine ⟨fun c => ?_, fun c => ?_⟩
  · refine h1 s ?_ hi S fr hm
    rw [← hrun]
    exact if_pos (show cn (dL s) 4096 = 0 by omega)
  · have hrun2 : (@ite (Option DS) (dS s = 500) _ none (@ite _ (dD (ok h a b) reg set s = 8) _ (@ite _ (dok0 (ok h a b) s) (Classical.propDecidable _) (drun p (ok h a b) reg set n' (dst0 (ok h a b) s)) none) (@ite _ (dok1 p (ok h a b) reg s (dD (ok h a b) reg set s)) (Classical.propDecidable _) (drun p (ok h a b) reg set n' (dst1 p (ok h a b) reg s (dD (ok h a b) reg set s))) none))) = D := by
      rw [← hrun]
      exact (if_neg (show ¬ cn (dL s) 4096 = 0 by omega)).symm
    have halS : alg (ok h a b) S al := alg_cg hal (fun j => fr 4 j (by omega) (by omega))
    unfold wp_dividesBy_l190
    refine wl_up 4096 (fun i w => w = nI i ∧ ∀ j, j < i → dL s (al j) = 0) i hi4 ⟨rfl, hz⟩ ?_
    rintro j w hj4 ⟨rfl, hzj⟩ R2 hR2
    have hj : j < 4096 := by
      refine Nat.lt_of_le_of_ne hj4 fun q => ?_
      obtain ⟨k, hk, hkz⟩ := cn_ne (f := dL s) (n := 4096) (by omega)
      obtain ⟨l, hl, rfl⟩ := hal.2.2 k hk
      exact hkz (hzj l (by omega))
    obtain ⟨q1, q2⟩ := halS.1 j hj
    unfold wp_dividesBy_b190
    refine ⟨j, hj, rfl, al j, q2, q1, ?_⟩
    have hLj := i1 _ q2
    rw [m1 _ q2, li_0, nI_eq (by omega) (by omega), ← li_0]
    refine ⟨fun d => ?_, fun d x2 e2 => ?_⟩
    · have hled := alg_led (f := dL s) hal hj hzj d
      have hlk : ldk (ok h a b) (dL s) = al j := ldk_of hled
      rw [← hlk] at hled
      rw [m7, show (500 : Int32) = nI 500 from rfl, nI_eq (by omega) (by omega)]
      refine ⟨fun e5 => h0 ?_ S fr, fun e5 => ⟨j, hj, rfl, j, hj, rfl, ?_⟩⟩
      · rw [if_pos e5] at hrun2
        exact hrun2.symm
      · rw [if_neg e5] at hrun2
        rw [q1, ← hlk]
        refine sp_divisorOf hs hv hml hled.1 (fun hno => ?_) (fun d8 hd8 hb8 hg8 hmin => ?_)
        · have hD8 : dD (ok h a b) reg set s = 8 := fst8_no hno
          rw [if_pos hD8] at hrun2
          refine sp_goesOn0 hp v hi hled e5 hm (fun hk S' fr' => b02 rfl (h0 ?_ S' (frd_tr fr fr'))) (fun hk S' fr' hkeep hm' => b12 rfl ?_)
          · rw [if_neg hk] at hrun2
            exact hrun2.symm
          · rw [if_pos hk] at hrun2
            have hst : dS (dst0 (ok h a b) s) = dS s + 1 := rfl
            refine hR n' (nI j, S') (by omega) ⟨j, dst0 (ok h a b) s, rfl, hj4, frd_tr fr fr', (dinv_0 hp v hi hled e5 hk).1, hm', mld_keep hml hkeep, by omega, fun l hl => ?_, hrun2⟩
            show up (dL s) _ 0 (al l) = 0
            rw [up_at]
            split
            · rfl
            · exact hzj l hl
        · have hD8 : dD (ok h a b) reg set s = d8 := fst8_yes hd8 ⟨hb8, hg8⟩ hmin
          rw [if_neg (by rw [hD8]; omega), hD8] at hrun2
          refine sp_goesOn1 hp v hv hi hled e5 hd8 hb8 hg8 (by rw [fr 0 5 (by omega) (by omega)]; exact hf5) (frd_tb (htb d8 hd8) fr) hml hm (fun hk S' fr' => b02 rfl (h0 ?_ S' (frd_tr fr fr'))) (fun hk S' fr' hkeep hm' => b12 rfl ?_)
          · rw [if_neg hk] at hrun2
            exact hrun2.symm
          · rw [if_pos hk] at hrun2
            have hst : dS (dst1 p (ok h a b) reg s d8) = dS s + 1 := rfl
            refine hR n' (nI j, S') (by omega) ⟨j, dst1 p (ok h a b) reg s d8, rfl, hj4, frd_tr fr fr', dinv_1 hp v hv hi hled e5 hd8 hb8 hg8 hk, hm', mld_keep hml hkeep, by omega, fun l hl => Classical.byContradiction fun hne => ?_, hrun2⟩
            have hlow := dlf_lt (set := set) hp v hd8 (hv d8 hd8).1 ((hv d8 hd8).2 hb8) i1 hled hg8 hk.1 (al l) (hal.1 l (by omega)).2 hne
            have := hal.2.1 l j hl hj
            rw [hlk] at hlow
            omega
    · subst e2
      refine hR2 (by omega) _ ⟨by rw [li_1, nI_add], fun l hl => ?_⟩
      by_cases q : l = j
      · rw [q]; exact d
      · exact hzj l (by omega)
theorem sp_dividesBy {p h a b set : Nat} {reg : Nat → Nat → Nat} {w al : Nat → Nat} {S : St} {post : Int32 → St → Prop} (hp : pr p) (v : vo h a b) (hs : set < 256) (hf5 : S 0 5 = nI p) (htb : ∀ d, d < 8 → tb S d (reg d)) (hal : alg (ok h a b) S al) (hv : dvs p (ok h a b) reg set) (hw : wk S p w) (h60 : cn w 4096 ≤ 60) (h0 : drun p (ok h a b) reg set 502 (ds0 w) = none → ∀ S', frd S S' → post 0 S') (h1 : ∀ s, drun p (ok h a b) reg set 502 (ds0 w) = some s → dinv p (ok h a b) reg set s → ∀ S', frd S S' → mdv s S' → post 1 S') : wp_dividesBy (nI set) S post := by
  have hp2 := hp.1
  have hp97 := hp.2.1
  have hwp : ∀ k, k < 4096 → w k < p := fun k hk => (hw k hk).2
  unfold wp_dividesBy
  intro S1 e1 S2 e2 S3 e3
  have g3 : ∀ x y, S3 x y = if x = 0 ∧ (y = 36 ∨ y = 37 ∨ y = 38) then 0 else S x y := fun x y => by
    rw [e3, bw_at]
    by_cases q : x = 0 ∧ y = 38
    · rw [if_pos q, if_pos (by omega)]
    · rw [if_neg q, e2, bw_at]
      by_cases q2 : x = 0 ∧ y = 37
      · rw [if_pos q2, if_pos (by omega)]
      · rw [if_neg q2, e1, bw_at]
        by_cases q3 : x = 0 ∧ y = 36
        · rw [if_pos q3, if_pos (by omega)]
        · rw [if_neg q3, if_neg (by omega)]
  have f3 : frd S S3 := fun x y q1 q2 => by rw [g3, if_neg (by omega)]
  unfold wp_dividesBy_l17
  refine wl_up 4096 (fun i u => u.1 = nI i ∧ frd S u.2 ∧ (∀ m, m < i → u.2 7 m = nI (w m) ∧ u.2 8 m = nI 0) ∧ u.2 0 36 = nI (cn w i) ∧ u.2 0 37 = nI 0 ∧ u.2 0 38 = nI 0) 0 (by omega) ⟨rfl, f3, fun m hm => absurd hm (by omega), by show S3 0 36 = _; rw [g3, if_pos (by omega)]; rfl, by show S3 0 37 = _; rw [g3, if_pos (by omega)]; rfl, by show S3 0 38 = _; rw [g3, if_pos (by omega)]; rfl⟩ ?_
  rintro i ⟨x2, S4⟩ hi ⟨hx2, f4, l4, c4, r4, t4⟩ R hR
  dsimp only at hx2 f4 l4 c4 r4 t4
  subst hx2
  unfold wp_dividesBy_b17 wp_dividesBy_j59
  dsimp only
  rw [li_4096, nI_leI (by omega) (by omega)]
  refine ⟨fun c => ?_, fun c => ?_⟩
  · have hi4 : i = 4096 := by omega
    subst hi4
    unfold wp_dividesBy_l74
    refine wl_up 32768 (fun i u => u.1 = nI i ∧ (∀ x y, x ≠ 9 → u.2 x y = S4 x y) ∧ ∀ j, j < i → u.2 9 j = nI 0) 0 (by omega) ⟨rfl, fun _ _ _ => rfl, fun j hj => absurd hj (by omega)⟩ ?_
    rintro i ⟨x2, S5⟩ hi ⟨hx2, f5, q5⟩ R2 hR2
    dsimp only at hx2 f5 q5
    subst hx2
    unfold wp_dividesBy_b74
    dsimp only
    rw [li_32768, nI_leI (by omega) (by omega)]
    refine ⟨fun c2 => ?_, fun c2 => ⟨i, by omega, rfl, fun S6 e6 x2 ex2 => ?_⟩⟩
    · have fr5 : frd S S5 := fun x y q1 q2 => by rw [f5 x y (by omega)]; exact f4 x y q1 q2
      unfold wp_dividesBy_l95
      refine wl_up 8 (fun i u => u.1 = nI i ∧ (∀ x y, x ≠ 10 → x ≠ 11 → x ≠ 12 → u.2 x y = S5 x y) ∧ (∀ d, d < i → u.2 10 d = nI 0) ∧ ∀ d, d < i → (bit set d → u.2 11 d = nI (ldk (ok h a b) (reg d)) ∧ u.2 12 d = nI (iv p (reg d (ldk (ok h a b) (reg d))))) ∧ (¬ bit set d → u.2 11 d = -1)) 0 (by omega) ⟨rfl, fun _ _ _ _ _ => rfl, fun d hd => absurd hd (by omega), fun d hd => absurd hd (by omega)⟩ ?_
      rintro i ⟨x2, S6⟩ hi ⟨hx2, f6, n6, l6⟩ R3 hR3
      dsimp only at hx2 f6 n6 l6
      subst hx2
      have fr6 : frd S S6 := fun x y q1 q2 => by rw [f6 x y (by omega) (by omega) (by omega)]; exact fr5 x y q1 q2
      unfold wp_dividesBy_b95 wp_dividesBy_j132 wp_dividesBy_j167
      dsimp only
      rw [li_8, nI_leI (by omega) (by omega)]
      refine ⟨fun c3 S7 e7 => ?_, fun c3 => ⟨i, by omega, rfl, fun S7 e7 => ?_⟩⟩
      · have g7 : ∀ x y, ¬ (x = 0 ∧ y = 39) → S7 x y = S6 x y := fun x y q => by rw [e7, bw_at, if_neg q]
        have fr7 : frd S S7 := fun x y q1 q2 => by rw [g7 x y (by omega)]; exact fr6 x y q1 q2
        have low : ∀ x y, x < 9 → ¬ (x = 0 ∧ y = 39) → S7 x y = S4 x y := fun x y q1 q2 => by rw [g7 x y q2, f6 x y (by omega) (by omega) (by omega), f5 x y (by omega)]
        have z0 : cn (fun _ => 0) 4096 = 0 := cn_z fun _ _ => rfl
        refine sp_dividesBy_main (S0 := S) (al := al) (s1 := ds0 w) (D := drun p (ok h a b) reg set 502 (ds0 w)) hp v hs hf5 htb hal hv h0 h1 S7 fr7 (dinv_s0 hp hwp h60) ⟨fun m hm => ?_, ?_, fun m hm => ?_, ?_, fun d t hd ht => ?_, fun d hd => ?_, ?_, ?_⟩ (fun d hd => ?_) rfl rfl
        · rw [low 7 m (by omega) (by omega)]; exact (l4 m hm).1
        · rw [low 0 36 (by omega) (by omega)]; exact c4
        · rw [low 8 m (by omega) (by omega)]; exact (l4 m hm).2
        · rw [low 0 37 (by omega) (by omega), r4]; show _ = nI (cn (fun _ => 0) 4096); rw [z0]
        · rw [g7 9 _ (by omega), f6 9 _ (by omega) (by omega) (by omega)]; exact q5 _ (by omega)
        · rw [g7 10 d (by omega), n6 d (by omega)]; show _ = nI (cn (fun _ => 0) 4096); rw [z0]
        · rw [low 0 38 (by omega) (by omega)]; exact t4
        · rw [e7, bw_at, if_pos ⟨rfl, rfl⟩, f6 0 36 (by omega) (by omega) (by omega), f5 0 36 (by omega)]; exact c4
        · rw [g7 11 d (by omega), g7 12 d (by omega)]; exact l6 d (by omega)
      · have g7 : ∀ x y, ¬ (x = 10 ∧ y = i) → S7 x y = S6 x y := fun x y q => by rw [e7, bw_at, if_neg q]
        have h710 : S7 10 i = nI 0 := by rw [e7, bw_at, if_pos ⟨rfl, rfl⟩]; rfl
        have fr7 : frd S S7 := fun x y q1 q2 => by rw [g7 x y (by omega)]; exact fr6 x y q1 q2
        rw [n_bit1 hs (by omega)]
        have fin : ∀ S9 : St, (∀ x y, x ≠ 11 → x ≠ 12 → S9 x y = S7 x y) → (∀ d, d < i → S9 11 d = S7 11 d ∧ S9 12 d = S7 12 d) → ((bit set i → S9 11 i = nI (ldk (ok h a b) (reg i)) ∧ S9 12 i = nI (iv p (reg i (ldk (ok h a b) (reg i))))) ∧ (¬ bit set i → S9 11 i = -1)) → ∀ x2, x2 = nI i + 1 → R3 (x2, S9) := fun S9 f9 o9 l9 x2 ex2 => by
          subst ex2
          refine hR3 (by omega) _ ⟨by rw [li_1, nI_add], fun x y q1 q2 q3 => ?_, fun d hd => ?_, fun d hd => ?_⟩
          · show S9 x y = _
            rw [f9 x y q2 q3, g7 x y (by omega)]; exact f6 x y q1 q2 q3
          · show S9 10 d = _
            rw [f9 10 d (by omega) (by omega)]
            by_cases q : d = i
            · rw [q]; exact h710
            · rw [g7 10 d (by omega)]; exact n6 d (by omega)
          · by_cases q : d = i
            · rw [q]; exact l9
            · show (bit set d → S9 11 d = _ ∧ S9 12 d = _) ∧ (¬ bit set d → S9 11 d = -1)
              rw [(o9 d (by omega)).1, (o9 d (by omega)).2, g7 11 d (by omega), g7 12 d (by omega)]
              exact l6 d (by omega)
        refine ⟨fun nb => ⟨i, by omega, rfl, fun S8 e8 => ⟨i, by omega, rfl, ?_⟩⟩, fun hb => ?_⟩
        · have h811 : S8 11 i = -1 := by rw [e8, bw_at, if_pos ⟨rfl, rfl⟩]
          refine ⟨fun q => absurd h811 q, fun _ => ⟨i, by omega, rfl, fun S9 e9 => fin S9 (fun x y q1 q2 => ?_) (fun d hd => ⟨?_, ?_⟩) ⟨fun q => absurd q nb, fun _ => ?_⟩⟩⟩
          · rw [e9, bw_at, if_neg (by omega), e8, bw_at, if_neg (by omega)]
          · rw [e9, bw_at, if_neg (by omega), e8, bw_at, if_neg (by omega)]
          · rw [e9, bw_at, if_neg (by omega), e8, bw_at, if_neg (by omega)]
          · rw [e9, bw_at, if_neg (by omega)]; exact h811
        · have hld := (hv i (by omega)).2 hb
          have tb7 := frd_tb (htb i (by omega)) fr7
          refine sp_leadOf (by omega) tb7 (alg_cg hal (fun j => fr7 4 j (by omega) (by omega))) (fun hz => absurd (hz _ hld.1) hld.2.1) (fun k hk => ?_)
          have hkl : ldk (ok h a b) (reg i) = k := ldk_of hk
          refine ⟨i, by omega, rfl, fun S8 e8 => ⟨i, by omega, rfl, ?_⟩⟩
          have h811 : S8 11 i = nI k := by rw [e8, bw_at, if_pos ⟨rfl, rfl⟩]
          have g8 : ∀ x y, ¬ (x = 11 ∧ y = i) → S8 x y = S7 x y := fun x y q => by rw [e8, bw_at, if_neg q]
          have hk4 := hk.1
          rw [h811]
          refine ⟨fun _ => ⟨i, by omega, rfl, ?_⟩, fun q => absurd q (n_m1 (by omega))⟩
          rw [h811]
          have tb8 : tb S8 i (reg i) := tb_fr tb7 (fun j => g8 1 j (by omega))
          refine sp_coef (by omega) hk4 ?_
          rw [(tb8 k hk4).1]
          have hrp := (hv i (by omega)).1 k hk4
          refine sp_inverse hp (by rw [g8 0 5 (by omega), fr7 0 5 (by omega) (by omega)]; exact hf5) (Nat.pos_of_ne_zero hk.2.1) hrp ⟨i, by omega, rfl, fun S9 e9 => fin S9 (fun x y q1 q2 => ?_) (fun d hd => ⟨?_, ?_⟩) ⟨fun _ => ⟨?_, ?_⟩, fun q => absurd hb q⟩⟩
          · rw [e9, bw_at, if_neg (by omega), g8 x y (by omega)]
          · rw [e9, bw_at, if_neg (by omega), g8 11 d (by omega)]
          · rw [e9, bw_at, if_neg (by omega), g8 12 d (by omega)]
          · rw [e9, bw_at, if_neg (by omega), h811, hkl]
          · rw [e9, bw_at, if_pos ⟨rfl, rfl⟩, hkl]
    · subst ex2
      refine hR2 (by omega) _ ⟨by rw [li_1, nI_add], fun x y q => ?_, fun j hj => ?_⟩
      · show S6 x y = _
        rw [e6, bw_at, if_neg (by omega)]; exact f5 x y q
      · show S6 9 j = _
        rw [e6, bw_at]
        by_cases q : j = i
        · rw [if_pos ⟨rfl, q⟩]; rfl
        · rw [if_neg (by omega)]; exact q5 j (by omega)
  · have h6 : S4 6 i = nI (w i) := by rw [f4 6 i (by omega) (by omega)]; exact (hw i (by omega)).1
    have hwi := hwp i (by omega)
    have hcn := cn_le w i
    refine ⟨i, by omega, rfl, i, by omega, rfl, fun S5 e5 => ⟨i, by omega, rfl, ?_⟩⟩
    rw [h6] at e5
    have h57 : S5 7 i = nI (w i) := by rw [e5, bw_at, if_pos ⟨rfl, rfl⟩]
    have h536 : S5 0 36 = nI (cn w i) := by rw [e5, bw_at, if_neg (by omega)]; exact c4
    have fin : ∀ (S6 : St) (y : Nat), S6 = bw S5 0 36 (nI y) → y = cn w (i + 1) → ∃ j, j < 4096 ∧ nI i = nI j ∧ ∀ S_42 : St, S_42 = bw S6 8 j 0 → ∀ x2_43 : Int32, x2_43 = nI i + 1 → R (x2_43, S_42) := fun S6 y e6 ey => ⟨i, by omega, rfl, fun S7 e7 x2 ex2 => by
      subst ex2
      refine hR (by omega) _ ⟨by rw [li_1, nI_add], fun x z q1 q2 => ?_, fun m hm => ⟨?_, ?_⟩, ?_, ?_, ?_⟩
      · show S7 x z = _
        rw [e7, bw_at, if_neg (by omega), e6, bw_at, if_neg (by omega), e5, bw_at, if_neg (by omega)]; exact f4 x z q1 q2
      · show S7 7 m = _
        rw [e7, bw_at, if_neg (by omega), e6, bw_at, if_neg (by omega), e5, bw_at]
        by_cases q : m = i
        · rw [if_pos ⟨rfl, q⟩, q]
        · rw [if_neg (by omega)]; exact (l4 m (by omega)).1
      · show S7 8 m = _
        rw [e7, bw_at]
        by_cases q : m = i
        · rw [if_pos ⟨rfl, q⟩]; rfl
        · rw [if_neg (by omega), e6, bw_at, if_neg (by omega), e5, bw_at, if_neg (by omega)]; exact (l4 m (by omega)).2
      · show S7 0 36 = _
        rw [e7, bw_at, if_neg (by omega), e6, bw_at, if_pos ⟨rfl, rfl⟩, ey]
      · show S7 0 37 = _
        rw [e7, bw_at, if_neg (by omega), e6, bw_at, if_neg (by omega), e5, bw_at, if_neg (by omega)]; exact r4
      · show S7 0 38 = _
        rw [e7, bw_at, if_neg (by omega), e6, bw_at, if_neg (by omega), e5, bw_at, if_neg (by omega)]; exact t4⟩
    rw [h57, h536, li_0, nI_eq (by omega) (by omega), li_1]
    refine ⟨fun z S6 e6 => fin S6 (cn w i + 0) (e6.trans (by rw [nI_add])) (by rw [cn_s, if_pos z]), fun z S6 e6 => fin S6 (cn w i + 1) (e6.trans (by rw [nI_add])) (by rw [cn_s, if_neg z])⟩
