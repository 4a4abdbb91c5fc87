set_option maxRecDepth 100000
/-! TermDesk's cells -/
theorem xi_wi (T : XT) (k j : Nat) (v : Int32) (k' j' : Nat) : xi (xwi T k j v) k' j' = if k' = k ∧ j' = j then v else xi T k' j' := by
  show (if k' = k then (fun i => if i = j then v else xi T k i) else xi T k') j' = _
  by_cases h : k' = k
  · subst h
    by_cases h2 : j' = j
    · simp [h2]
    · simp [h2]
  · simp [h]
theorem xr_wi (T : XT) (k j : Nat) (v : Int32) : xr (xwi T k j v) = xr T := rfl
theorem xi_wr (T : XT) (k j : Nat) (v : Option Nat) : xi (xwr T k j v) = xi T := rfl
theorem xr_wr (T : XT) (k j : Nat) (v : Option Nat) (k' j' : Nat) : xr (xwr T k j v) k' j' = if k' = k ∧ j' = j then v else xr T k' j' := by
  show (if k' = k then (fun i => if i = j then v else xr T k i) else xr T k') j' = _
  by_cases h : k' = k
  · subst h
    by_cases h2 : j' = j
    · simp [h2]
    · simp [h2]
  · simp [h]
theorem xi_nil (T : XT) (k k' j' : Nat) : xi (xnil T k) k' j' = if k' = k then 0 else xi T k' j' := by
  show (if k' = k then (fun _ => (0 : Int32)) else xi T k') j' = _
  split <;> rfl
theorem xr_nil (T : XT) (k k' j' : Nat) : xr (xnil T k) k' j' = if k' = k then none else xr T k' j' := by
  show (if k' = k then (fun _ => none) else xr T k') j' = _
  split <;> rfl
theorem xi_cpy (T : XT) (k0 k1 sp dp n k' j' : Nat) : xi (xcpy T k0 k1 sp dp n) k' j' = if k' = k1 ∧ dp ≤ j' ∧ j' < dp + n then xi T k0 (sp + (j' - dp)) else xi T k' j' := by
  show (if k' = k1 then va_cpy (xi T k0) (xi T k1) sp dp n else xi T k') j' = _
  by_cases h : k' = k1
  · subst h
    rw [if_pos rfl]
    show (if dp ≤ j' ∧ j' < dp + n then _ else _) = _
    by_cases h2 : dp ≤ j' ∧ j' < dp + n
    · rw [if_pos h2, if_pos ⟨rfl, h2⟩]
    · rw [if_neg h2, if_neg (fun z => h2 z.2)]
  · rw [if_neg h, if_neg (fun z => h z.1)]
theorem xr_cpy (T : XT) (k0 k1 sp dp n : Nat) : xr (xcpy T k0 k1 sp dp n) = xr T := rfl
theorem xi_dup (T : XT) (k0 k1 k' j' : Nat) : xi (xdup T k0 k1) k' j' = if k' = k1 then xi T k0 j' else xi T k' j' := by
  show (if k' = k1 then xi T k0 else xi T k') j' = _
  split <;> rfl
theorem xr_dup (T : XT) (k0 k1 k' j' : Nat) : xr (xdup T k0 k1) k' j' = if k' = k1 then xr T k0 j' else xr T k' j' := by
  show (if k' = k1 then xr T k0 else xr T k') j' = _
  split <;> rfl
theorem kd_new (K : XK) (a l n k : Nat) : kd (knew K a l n) k = if k = kz K then a else kd K k := rfl
theorem kl_new (K : XK) (a l n k : Nat) : kl (knew K a l n) k = if k = kz K then l else kl K k := rfl
theorem kz_new (K : XK) (a l n : Nat) : kz (knew K a l n) = kz K + 1 := rfl
theorem kc_new (K : XK) (a l n : Nat) : kc (knew K a l n) = kc K + 1 := rfl
theorem ks_new (K : XK) (a l n : Nat) : ks (knew K a l n) = ks K + n := rfl
theorem kd_set (K : XK) (c s : Nat) : kd (kset K c s) = kd K := rfl
theorem kl_set (K : XK) (c s : Nat) : kl (kset K c s) = kl K := rfl
theorem kz_set (K : XK) (c s : Nat) : kz (kset K c s) = kz K := rfl
theorem kc_set (K : XK) (c s : Nat) : kc (kset K c s) = c := rfl
theorem ks_set (K : XK) (c s : Nat) : ks (kset K c s) = s := rfl
/-- nothing changed but there -/
def xf (P : Nat → Prop) (T T' : XT) : Prop := ∀ k, ¬ P k → xi T' k = xi T k ∧ xr T' k = xr T k
theorem xf_rfl (P : Nat → Prop) (T : XT) : xf P T T := fun _ _ => ⟨rfl, rfl⟩
theorem xf_tr {P : Nat → Prop} {T T' T'' : XT} (h1 : xf P T T') (h2 : xf P T' T'') : xf P T T'' := fun k hk => ⟨((h2 k hk).1).trans (h1 k hk).1, ((h2 k hk).2).trans (h1 k hk).2⟩
theorem xf_mono {P Q : Nat → Prop} {T T' : XT} (h : xf P T T') (hPQ : ∀ k, P k → Q k) : xf Q T T' := fun k hk => h k (fun q => hk (hPQ k q))
theorem xf_wi {P : Nat → Prop} {T : XT} {k j : Nat} {v : Int32} (hk : P k) : xf P T (xwi T k j v) := fun k' hk' => by
  have hne : k' ≠ k := fun e => hk' (e ▸ hk)
  refine ⟨?_, rfl⟩
  show (if k' = k then _ else xi T k') = _
  rw [if_neg hne]
theorem xf_wr {P : Nat → Prop} {T : XT} {k j : Nat} {v : Option Nat} (hk : P k) : xf P T (xwr T k j v) := fun k' hk' => by
  have hne : k' ≠ k := fun e => hk' (e ▸ hk)
  refine ⟨rfl, ?_⟩
  show (if k' = k then _ else xr T k') = _
  rw [if_neg hne]
theorem xf_nil {P : Nat → Prop} {T : XT} {k : Nat} (hk : P k) : xf P T (xnil T k) := fun k' hk' => by
  have hne : k' ≠ k := fun e => hk' (e ▸ hk)
  refine ⟨?_, ?_⟩
  · show (if k' = k then _ else xi T k') = _
    rw [if_neg hne]
  · show (if k' = k then _ else xr T k') = _
    rw [if_neg hne]
theorem xf_cpy {P : Nat → Prop} {T : XT} {k0 k1 sp dp n : Nat} (hk : P k1) : xf P T (xcpy T k0 k1 sp dp n) := fun k' hk' => by
  have hne : k' ≠ k1 := fun e => hk' (e ▸ hk)
  refine ⟨?_, rfl⟩
  show (if k' = k1 then _ else xi T k') = _
  rw [if_neg hne]
theorem xf_dup {P : Nat → Prop} {T : XT} {k0 k1 : Nat} (hk : P k1) : xf P T (xdup T k0 k1) := fun k' hk' => by
  have hne : k' ≠ k1 := fun e => hk' (e ▸ hk)
  refine ⟨?_, ?_⟩
  · show (if k' = k1 then _ else xi T k') = _
    rw [if_neg hne]
  · show (if k' = k1 then _ else xr T k') = _
    rw [if_neg hne]
/-- more cells: the old ones stay as they are -/
def kx (K K' : XK) : Prop := kz K ≤ kz K' ∧ ∀ k, k < kz K → kl K' k = kl K k
theorem kx_rfl (K : XK) : kx K K := ⟨Nat.le_refl _, fun _ _ => rfl⟩
theorem kx_tr {K K' K'' : XK} (h1 : kx K K') (h2 : kx K' K'') : kx K K'' := ⟨Nat.le_trans h1.1 h2.1, fun k hk => (h2.2 k (Nat.lt_of_lt_of_le hk h1.1)).trans (h1.2 k hk)⟩
theorem kx_new (K : XK) (a l n : Nat) : kx K (knew K a l n) := ⟨Nat.le_succ _, fun k hk => if_neg (by omega)⟩
theorem kx_set (K : XK) (c s : Nat) : kx K (kset K c s) := ⟨Nat.le_refl _, fun k hk => rfl⟩
/-- a polynomial's cells -/
def ply (o : Nat → Nat) (p : Nat) (K : XK) (T : XT) (v : Nat) (f : Nat → Nat) : Prop := ∃ (va vb n : Nat) (a : Nat → Nat), xr T v 0 = some va ∧ xr T v 1 = some vb ∧ xi T v 2 = nI n ∧ n ≤ kl K va ∧ n ≤ kl K vb ∧ isr o f n a ∧ (∀ i, i < n → xi T va i = nI (a i) ∧ xi T vb i = nI (f (a i))) ∧ (∀ k, k < 4096 → f k < p) ∧ (90 ≤ v ∧ v < kz K ∧ kl K v = 0) ∧ (90 ≤ va ∧ va < kz K) ∧ 90 ≤ vb ∧ vb < kz K
theorem ply_keep {o : Nat → Nat} {p : Nat} {K K' : XK} {T T' : XT} {v : Nat} {f : Nat → Nat} {P : Nat → Prop} (h : ply o p K T v f) (hT : xf P T T') (hK : kx K K') (hP : ∀ k, 90 ≤ k → k < kz K → ¬ P k) : ply o p K' T' v f := by
  obtain ⟨va, vb, n, a, h1, h2, h3, h4, h5, h6, h7, h8, h9, h10, h11⟩ := h
  have e1 := hT v (hP v h9.1 h9.2.1)
  have e2 := hT va (hP va h10.1 h10.2)
  have e3 := hT vb (hP vb h11.1 h11.2)
  have := hK.1
  refine ⟨va, vb, n, a, by rw [e1.2]; exact h1, by rw [e1.2]; exact h2, by rw [e1.1]; exact h3, by rw [hK.2 va h10.2]; exact h4, by rw [hK.2 vb h11.2]; exact h5, h6, fun i hi => ?_, h8, ⟨h9.1, by omega, by rw [hK.2 v h9.2.1]; exact h9.2.2⟩, by omega, by omega⟩
  rw [e2.1, e3.1]
  exact h7 i hi
/-- an order's cell -/
def orn (K : XK) (T : XT) (q h a b : Nat) : Prop := kl K q = h ∧ (h < 2 → xi T q 0 = nI a ∧ xi T q 1 = nI b ∧ xi T q 2 = nI (3 - a - b)) ∧ (h = 2 → xi T q 0 = nI (3 - a - b) ∧ xi T q 1 = nI b ∧ xi T q 2 = nI a)
theorem xs_exponent {k u : Nat} {K : XK} {T : XT} {post : Int32 → Prop} (hk : k < 2 ^ 31) (hu : u < 7) (h : post (nI (ex k u))) : wx1_exponent (nI k) (nI u) K T post := by
  unfold wx1_exponent
  rw [li_4, pk_mul, n_shr hk (by omega), li_15, n_and, show (15 : Nat) = 2 ^ 4 - 1 from rfl, Nat.and_two_pow_sub_one_eq_mod, Nat.pow_mul]
  exact h
theorem xs_sum {k : Nat} {K : XK} {T : XT} {post : Int32 → Prop} (hk : k < 2 ^ 31) (h : post (nI (dg k))) : wx1_sum (nI k) K T post := by
  unfold wx1_sum
  rw [li_0, li_1, li_2]
  refine xs_exponent hk (by omega) (xs_exponent hk (by omega) (xs_exponent hk (by omega) ?_))
  rw [nI_add, nI_add]
  exact h
theorem xs_lexKey {k a b c : Nat} {K : XK} {T : XT} {post : Int32 → Prop} (hk : k < 2 ^ 31) (ha : a < 7) (hb : b < 7) (hc : c < 7) (h : post (nI (lx k a b c))) : wx1_lexKey (nI k) (nI a) (nI b) (nI c) K T post := by
  unfold wx1_lexKey
  refine xs_exponent hk ha (xs_exponent hk hb (xs_exponent hk hc ?_))
  rw [li_256, li_16, pk_mul, pk_mul, nI_add, nI_add]
  exact h
theorem xs_key {q h a b k : Nat} {K : XK} {T : XT} {post : Int32 → Prop} (v : vo h a b) (ho : orn K T q h a b) (hk : k < 2 ^ 31) (hp : post (nI (ok h a b k))) : wx_key q (nI k) K T post := by
  obtain ⟨h1, h2, h3⟩ := ho
  obtain ⟨v1, v2, v3, v4⟩ := v
  unfold ok at hp
  refine ⟨fun e => ?_, fun e => ?_, fun e => ?_, by omega⟩
  · obtain ⟨e1, e2, e3⟩ := h2 (by omega)
    rw [if_pos (by omega)] at hp
    unfold wx1_lambda_orderOf_0
    rw [e1, e2, e3]
    exact xs_lexKey hk (by omega) (by omega) (by omega) hp
  · obtain ⟨e1, e2, e3⟩ := h2 (by omega)
    rw [if_neg (by omega), if_pos (by omega)] at hp
    unfold wx1_lambda_orderOf_1
    rw [e1, e2, e3]
    refine xs_sum hk (xs_lexKey hk (by omega) (by omega) (by omega) ?_)
    rw [li_4096, pk_mul, nI_add]
    exact hp
  · obtain ⟨e1, e2, e3⟩ := h3 (by omega)
    rw [if_neg (by omega), if_neg (by omega)] at hp
    unfold wx1_lambda_orderOf_2
    rw [e1, e2, e3]
    refine xs_sum hk (xs_lexKey hk (by omega) (by omega) (by omega) ?_)
    have := lx_le k (3 - a - b) b a
    rw [li_4096, li_4095, pk_mul, nI_add, pk_sub (by omega)]
    exact hp
