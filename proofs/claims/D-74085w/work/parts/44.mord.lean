set_option maxRecDepth 100000
/-! the Model's order: all exponents, the first ahead -/
theorem lx_le (k a b c : Nat) : lx k a b c ≤ 4095 := by
  unfold lx
  have h1 := ex_lt k a
  have h2 := ex_lt k b
  have h3 := ex_lt k c
  omega
theorem dn_lt {i : Nat} (h : i < 2 ^ 31) : zI ((i : Int) - 1) < 0 ↔ i = 0 := by
  rw [z_0, z_lt (by omega) (by omega)]; omega
theorem dn_n {i : Nat} (h : 0 < i) : zI ((i : Int) - 1) = nI (i - 1) := by
  rw [z_nI]; congr 1; omega
theorem dn_s {i : Nat} (h : 0 < i) : zI ((i : Int) - 1) + (-1) = zI (((i - 1 : Nat) : Int) - 1) := by
  rw [z_m1, z_add]; congr 1; omega
theorem dn_of (n : Nat) : nI n = zI (((n + 1 : Nat) : Int) - 1) := by
  rw [z_nI]; congr 1; omega
/-- keys laid so far: all with order key T and more -/
def cov (o : Nat → Nat) (S : St) (n T : Nat) : Prop := ∃ al : Nat → Nat, (∀ i, i < n → S 4 i = nI (al i) ∧ al i < 4096 ∧ T ≤ o (al i)) ∧ (∀ i j, i < j → j < n → o (al j) < o (al i)) ∧ ∀ k, k < 4096 → T ≤ o k → ∃ i, i < n ∧ al i = k
def fr4 (S S' : St) : Prop := ∀ k i, k ≠ 4 → ¬ (k = 0 ∧ i = 25) → S' k i = S k i
theorem fr4_tr {S S' S'' : St} (h1 : fr4 S S') (h2 : fr4 S' S'') : fr4 S S'' := fun k i a b => (h2 k i a b).trans (h1 k i a b)
theorem cov_skip {o : Nat → Nat} {S : St} {n T T' : Nat} (h : cov o S n T) (hT : T' ≤ T) (hn : ∀ k, k < 4096 → T' ≤ o k → T ≤ o k) : cov o S n T' := by
  obtain ⟨al, h1, h2, h3⟩ := h
  exact ⟨al, fun i hi => ⟨(h1 i hi).1, (h1 i hi).2.1, by have := (h1 i hi).2.2; omega⟩, h2, fun k hk hT => h3 k hk (hn k hk hT)⟩
theorem enum_lt {N n k : Nat} {a : Nat → Nat} (h1 : ∀ i, i < n → a i < N) (h2 : ∀ i j, i < j → j < n → a i ≠ a j) (hk : k < N) (hne : ∀ i, i < n → a i ≠ k) : n < N := by
  have hd : ∀ k, Decidable (∃ i, i < n ∧ a i = k) := fun k => Classical.propDecidable _
  have e := ns_enum a (fun _ => 1) N n h1 h2 (fun k => ∃ i, i < n ∧ a i = k) (fun k _ => Iff.rfl)
  rw [ns_const, Nat.mul_one] at e
  have e2 : ns (fun k => if ∃ i, i < n ∧ a i = k then 1 else 0) N + ns (fun k => if ∃ i, i < n ∧ a i = k then 0 else 1) N = N := by
    rw [← ns_add, ns_ext (g := fun _ => 1) (fun k _ => by by_cases q : ∃ i, i < n ∧ a i = k; rw [if_pos q, if_pos q]; rw [if_neg q, if_neg q]), ns_const, Nat.mul_one]
  have e3 := ns_pos (f := fun k => if ∃ i, i < n ∧ a i = k then 0 else 1) (n := N) hk (by rw [if_neg (fun ⟨i, hi, q⟩ => hne i hi q)]; omega)
  omega
theorem enum_eq {N n : Nat} {a : Nat → Nat} (h1 : ∀ i, i < n → a i < N) (h2 : ∀ i j, i < j → j < n → a i ≠ a j) (h3 : ∀ k, k < N → ∃ i, i < n ∧ a i = k) : n = N := by
  have hd : ∀ k, Decidable (∃ i, i < n ∧ a i = k) := fun k => Classical.propDecidable _
  have e := ns_enum a (fun _ => 1) N n h1 h2 (fun k => ∃ i, i < n ∧ a i = k) (fun k _ => Iff.rfl)
  rw [ns_const, Nat.mul_one, ns_ext (g := fun _ => 1) (fun k hk => if_pos (h3 k hk)), ns_const, Nat.mul_one] at e
  exact e
theorem cov_ne {o : Nat → Nat} {al : Nat → Nat} {n : Nat} (h2 : ∀ i j, i < j → j < n → o (al j) < o (al i)) (i j : Nat) (hi : i < j) (hj : j < n) : al i ≠ al j := fun e => by
  have := h2 i j hi hj
  rw [e] at this
  omega
theorem cov_lt {o : Nat → Nat} {S : St} {n T k : Nat} (h : cov o S n T) (hk : k < 4096) (ho : o k < T) : n < 4096 := by
  obtain ⟨al, h1, h2, h3⟩ := h
  exact enum_lt (fun i hi => (h1 i hi).2.1) (cov_ne h2) hk (fun i hi e => by have := (h1 i hi).2.2; rw [e] at this; omega)
theorem cov_lay {o : Nat → Nat} {S S' : St} {n T T' k : Nat} (h : cov o S n T) (hk : k < 4096) (h1 : T' ≤ o k) (h2 : o k < T) (hu : ∀ l, l < 4096 → T' ≤ o l → o l < T → l = k) (hS : ∀ i, i < n → S' 4 i = S 4 i) (hn : S' 4 n = nI k) : cov o S' (n + 1) T' := by
  obtain ⟨al, g1, g2, g3⟩ := h
  refine ⟨fun i => if i = n then k else al i, fun i hi => ?_, fun i j hij hj => ?_, fun l hl hT => ?_⟩ <;> dsimp only
  · by_cases e : i = n
    · rw [if_pos e, e]
      exact ⟨hn, hk, h1⟩
    · rw [if_neg e, hS i (by omega)]
      have := g1 i (by omega)
      exact ⟨this.1, this.2.1, by omega⟩
  · rw [if_neg (show i ≠ n by omega)]
    by_cases e : j = n
    · rw [if_pos e]
      have := (g1 i (by omega)).2.2
      omega
    · rw [if_neg e]
      exact g2 i j hij (by omega)
  · by_cases e : o l < T
    · exact ⟨n, by omega, (if_pos rfl).trans (hu l hl hT e).symm⟩
    · obtain ⟨i, hi, he⟩ := g3 l hl (by omega)
      exact ⟨i, by omega, (if_neg (by omega)).trans he⟩
theorem cov_end {o : Nat → Nat} {S : St} {n : Nat} (h : cov o S n 0) : ∃ al, alg o S al := by
  obtain ⟨al, g1, g2, g3⟩ := h
  have hn : n = 4096 := enum_eq (fun i hi => (g1 i hi).2.1) (cov_ne g2) (fun k hk => g3 k hk (Nat.zero_le _))
  subst hn
  exact ⟨al, fun i hi => ⟨(g1 i hi).1, (g1 i hi).2.1⟩, g2, fun k hk => g3 k hk (Nat.zero_le _)⟩
theorem mk_or {h a b A B C : Nat} (v : vo h a b) (hA : A < 16) (hB : B < 16) (hC : C < 16) : ∃ k, k < 4096 ∧ ex k a = A ∧ ex k b = B ∧ ex k (3 - a - b) = C ∧ (A * 2 ^ (4 * a) ||| B * 2 ^ (4 * b)) ||| C * 2 ^ (4 * (3 - a - b)) = k := by
  have key : ∀ x y z, x < 16 → y < 16 → z < 16 → (x ||| y * 2 ^ 4) ||| z * 2 ^ 8 = x + 16 * y + 256 * z := fun x y z hx hy hz => by
    rw [n_or_add (x := x) (e := y) (k := 4) (by omega), n_or_add (by omega)]; omega
  have e0 : ∀ x, x * 2 ^ (4 * 0) = x := fun x => by rw [Nat.mul_zero, Nat.pow_zero, Nat.mul_one]
  rcases vo_cases v with ⟨e1, e2, e3⟩ | ⟨e1, e2, e3⟩ | ⟨e1, e2, e3⟩ | ⟨e1, e2, e3⟩ | ⟨e1, e2, e3⟩ | ⟨e1, e2, e3⟩ <;> rw [e3] <;> subst e1 <;> subst e2
  · obtain ⟨q0, q1, q2⟩ := ex_mk hA hB hC
    exact ⟨A + 16 * B + 256 * C, by omega, q0, q1, q2, by rw [e0]; exact key A B C hA hB hC⟩
  · obtain ⟨q0, q1, q2⟩ := ex_mk hA hC hB
    refine ⟨A + 16 * C + 256 * B, by omega, q0, q2, q1, ?_⟩
    rw [e0 A, Nat.or_assoc, Nat.or_comm (B * _), ← Nat.or_assoc]
    exact key A C B hA hC hB
  · obtain ⟨q0, q1, q2⟩ := ex_mk hB hA hC
    refine ⟨B + 16 * A + 256 * C, by omega, q1, q0, q2, ?_⟩
    rw [e0 B, Nat.or_comm (A * _)]
    exact key B A C hB hA hC
  · obtain ⟨q0, q1, q2⟩ := ex_mk hC hA hB
    refine ⟨C + 16 * A + 256 * B, by omega, q1, q2, q0, ?_⟩
    rw [e0 C, Nat.or_comm, ← Nat.or_assoc]
    exact key C A B hC hA hB
  · obtain ⟨q0, q1, q2⟩ := ex_mk hB hC hA
    refine ⟨B + 16 * C + 256 * A, by omega, q2, q0, q1, ?_⟩
    rw [e0 B, Nat.or_comm (A * _), Nat.or_assoc, Nat.or_comm (A * _), ← Nat.or_assoc]
    exact key B C A hB hC hA
  · obtain ⟨q0, q1, q2⟩ := ex_mk hC hB hA
    refine ⟨C + 16 * B + 256 * A, by omega, q2, q1, q0, ?_⟩
    rw [e0 C, Nat.or_comm, Nat.or_comm (A * _), ← Nat.or_assoc]
    exact key C B A hC hB hA
theorem sp_laysKey {h a b A B C n T T' : Nat} {S : St} {post : St → Prop} (v : vo h a b) (h7 : S 0 7 = nI a) (h8 : S 0 8 = nI b) (hA : A < 16) (hB : B < 16) (hC : C < 16) (hc : cov (ok h a b) S n T) (hn : S 0 25 = nI n) (h1 : T' ≤ o3 h A B C) (h2 : o3 h A B C < T) (hu : ∀ x y z, x < 16 → y < 16 → z < 16 → T' ≤ o3 h x y z → o3 h x y z < T → o3 h x y z = o3 h A B C)
    (hp : ∀ S', fr4 S S' → S' 0 25 = nI (n + 1) → cov (ok h a b) S' (n + 1) T' → post S') : wp_laysKey (nI A) (nI B) (nI C) S post := by
  obtain ⟨k, hk, e1, e2, e3, e4⟩ := mk_or v hA hB hC
  have hok : ok h a b k = o3 h A B C := by rw [ok_o3 v, e1, e2, e3]
  have hn4 := cov_lt hc hk (by omega)
  have hv : a < 3 ∧ b < 3 ∧ a + b ≤ 3 ∧ 1 ≤ a + b := by
    obtain ⟨_, q2, q3, q4⟩ := v
    omega
  have sh : ∀ X u, X < 16 → u < 3 → X * 2 ^ (4 * u) < 2 ^ 32 := fun X u hX hu => by
    have : u = 0 ∨ u = 1 ∨ u = 2 := by omega
    rcases this with e | e | e <;> subst e <;> omega
  unfold wp_laysKey wp_third
  refine ⟨n, hn4, hn, ?_⟩
  intro S1 eS1 S2 eS2
  have e25 : S1 0 25 = nI n := by rw [eS1, bw_at, if_neg (by omega), hn]
  have hval : (((jshl (nI A) (4 * (S 0 7))) ||| (jshl (nI B) (4 * (S 0 8)))) ||| (jshl (nI C) (4 * ((3 - (S 0 7)) - (S 0 8))))) = nI k := by
    rw [h7, h8, li_3, pk_sub (by omega), pk_sub (by omega), li_4, pk_mul, pk_mul, pk_mul, n_shl (by omega) (sh A a hA hv.1), n_shl (by omega) (sh B b hB hv.2.1), n_shl (by omega) (sh C _ hC (by omega)), n_or, n_or, e4]
  rw [hval] at eS1
  have hS2 : ∀ k' i', S2 k' i' = if k' = 0 ∧ i' = 25 then nI (n + 1) else if k' = 4 ∧ i' = n then nI k else S k' i' := fun k' i' => by
    rw [eS2, bw_at, e25, li_1, nI_add, eS1, bw_at]
  refine hp S2 (fun k' i' q1 q2 => ?_) ?_ (cov_lay hc hk (by omega) (by omega) (fun l hl q1 q2 => ?_) (fun i hi => ?_) ?_)
  · rw [hS2, if_neg q2, if_neg (fun z => q1 z.1)]
  · rw [hS2, if_pos ⟨rfl, rfl⟩]
  · refine ok_inj v hl hk ?_
    rw [hok]
    rw [ok_o3 v] at q1 q2 ⊢
    exact hu _ _ _ (ex_lt _ _) (ex_lt _ _) (ex_lt _ _) q1 q2
  · rw [hS2, if_neg (by omega), if_neg (by omega)]
  · rw [hS2, if_neg (by omega), if_pos ⟨rfl, rfl⟩]
theorem sp_laysOrder_lex {a b : Nat} {S0 : St} {post : St → Prop} (v : vo 0 a b) (h7 : S0 0 7 = nI a) (h8 : S0 0 8 = nI b) (hp : ∀ S' al, fr4 S0 S' → alg (ok 0 a b) S' al → post S') (S1 : St) (h1 : fr4 S0 S1) (hn : S1 0 25 = nI 0) : wp_laysOrder_l15 post 15 S1 := by
  have hf : ∀ {S : St}, fr4 S0 S → S 0 7 = nI a ∧ S 0 8 = nI b := fun h => ⟨by rw [h 0 7 (by omega) (by omega)]; exact h7, by rw [h 0 8 (by omega) (by omega)]; exact h8⟩
  have ho : ∀ k, ok 0 a b k < 4096 := fun k => by
    have := lx_le k a b (3 - a - b)
    unfold ok
    rw [if_pos rfl]; omega
  unfold wp_laysOrder_l15
  refine wl_n (fun i w => i ≤ 16 ∧ w.1 = zI ((i : Int) - 1) ∧ fr4 S0 w.2 ∧ ∃ n, w.2 0 25 = nI n ∧ cov (ok 0 a b) w.2 n (256 * i)) 16 ⟨Nat.le_refl _, rfl, h1, 0, hn, fun i => i, fun i hi => absurd hi (by omega), fun i j _ hj => absurd hj (by omega), fun k hk hT => absurd (ho k) (by omega)⟩ ?_
  rintro i ⟨x1, S⟩ ⟨hi, hx, hfr, n, hn, hc⟩ R hR
  dsimp only at hx hfr hn hc
  subst hx
  unfold wp_laysOrder_b15
  rw [dn_lt (by omega)]
  refine ⟨fun c => ?_, fun c => ?_⟩
  · subst c
    obtain ⟨al, hal⟩ := cov_end hc
    exact hp S al hfr hal
  · unfold wp_laysOrder_l22
    refine wl_n (fun j w => j ≤ 16 ∧ w.1 = zI ((j : Int) - 1) ∧ fr4 S0 w.2 ∧ ∃ n, w.2 0 25 = nI n ∧ cov (ok 0 a b) w.2 n (256 * (i - 1) + 16 * j)) 16 ⟨Nat.le_refl _, rfl, hfr, n, hn, by rw [show 256 * (i - 1) + 16 * 16 = 256 * i by omega]; exact hc⟩ ?_
    rintro j ⟨x2, S⟩ ⟨hj, hx, hfr, n, hn, hc⟩ R2 hR2
    dsimp only at hx hfr hn hc
    subst hx
    unfold wp_laysOrder_b22
    rw [dn_lt (by omega)]
    refine ⟨fun c2 => ?_, fun c2 => ?_⟩
    · intro x1 e1
      subst e1
      exact hR (i - 1) _ (by omega) ⟨by omega, dn_s (by omega), hfr, n, hn, by subst c2; exact hc⟩
    · unfold wp_laysOrder_l29
      refine wl_n (fun l w => l ≤ 16 ∧ w.1 = zI ((l : Int) - 1) ∧ fr4 S0 w.2 ∧ ∃ n, w.2 0 25 = nI n ∧ cov (ok 0 a b) w.2 n (256 * (i - 1) + 16 * (j - 1) + l)) 16 ⟨Nat.le_refl _, rfl, hfr, n, hn, by rw [show 256 * (i - 1) + 16 * (j - 1) + 16 = 256 * (i - 1) + 16 * j by omega]; exact hc⟩ ?_
      rintro l ⟨x3, S⟩ ⟨hl, hx, hfr, n, hn, hc⟩ R3 hR3
      dsimp only at hx hfr hn hc
      subst hx
      unfold wp_laysOrder_b29
      rw [dn_lt (by omega)]
      refine ⟨fun c3 => ?_, fun c3 => ?_⟩
      · intro x2 e2
        subst e2
        exact hR2 (j - 1) _ (by omega) ⟨by omega, dn_s (by omega), hfr, n, hn, by subst c3; exact hc⟩
      · dsimp only
        rw [dn_n (i := i) (by omega), dn_n (i := j) (by omega)]
        have hl3 := dn_n (i := l) (by omega)
        have hs3 := dn_s (i := l) (by omega)
        rw [hl3] at hs3 ⊢
        refine sp_laysKey (T' := 256 * (i - 1) + 16 * (j - 1) + (l - 1)) v (hf hfr).1 (hf hfr).2 (by omega) (by omega) (by omega) hc hn (by show _ ≤ 256 * (i - 1) + 16 * (j - 1) + (l - 1); omega) (by show 256 * (i - 1) + 16 * (j - 1) + (l - 1) < _; omega) (fun x y z _ _ _ q1 q2 => by have : o3 0 (i - 1) (j - 1) (l - 1) = 256 * (i - 1) + 16 * (j - 1) + (l - 1) := rfl; omega) ?_
        intro S' hfr' hn' hc' x3 e3
        subst e3
        rw [hs3]
        exact hR3 (l - 1) _ (by omega) ⟨by omega, rfl, fr4_tr hfr hfr', n + 1, hn', hc'⟩
