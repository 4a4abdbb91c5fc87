set_option maxRecDepth 100000
/-! TermDesk's division: small parts -/
theorem xs_goesInto {t m : Nat} {K : XK} {T : XT} {post : Int32 → Prop} (ht : t < 4096) (hm : m < 4096) (h1 : gi t m → post 1) (h0 : ¬ gi t m → post 0) : wx1_goesInto (nI t) (nI m) K T post := by
  unfold wx1_goesInto wx1_goesInto_l2
  refine wl_up 3 (fun u v => v = nI u ∧ ∀ w, w < u → ex t w ≤ ex m w) 0 (by omega) ⟨rfl, fun w hw => absurd hw (by omega)⟩ ?_
  rintro u v hu ⟨rfl, hs⟩ R hR
  unfold wx1_goesInto_b2
  rw [li_3, nI_leI (by omega) (by omega)]
  refine ⟨fun c => h1 fun w hw => hs w (by omega), fun c => xs_exponent (by omega) (by omega) (xs_exponent (by omega) (by omega) ?_)⟩
  have l1 := ex_lt t u
  have l2 := ex_lt m u
  rw [nI_leI (by omega) (by omega)]
  refine ⟨fun d x e => ?_, fun d => h0 fun q => d (q u (by omega))⟩
  subst e
  refine hR (by omega) _ ⟨by rw [li_1, nI_add], fun w hw => ?_⟩
  by_cases q : w = u
  · rw [q]; exact d
  · exact hs w (by omega)
theorem xs_hasZero {A : AB} {K : XK} {T : XT} {s : Nat} {post : Int32 → Prop} (h : rx A K T) (s2 : s < 256) (h0 : ¬ hzr A s → post 0) (h1 : hzr A s → post 1) : wx1_hasZero (nI s) K T post := by
  obtain ⟨g, q1, q2, q3⟩ := rx_reg h
  unfold wx1_hasZero wx1_hasZero_l2
  refine wl_up 8 (fun i v => v = nI i ∧ ∀ d, d < i → ¬ (bit s d ∧ cn (aR A d) 4096 = 0)) 0 (by omega) ⟨rfl, fun d hd => absurd hd (by omega)⟩ ?_
  rintro i v hi ⟨rfl, hno⟩ R hR
  unfold wx1_hasZero_b2 wx1_hasZero_j31
  rw [li_8, nI_leI (by omega) (by omega)]
  refine ⟨fun c => h0 fun ⟨d, d1, d2, d3⟩ => hno d (by omega) ⟨d2, d3⟩, fun c => ?_⟩
  rw [n_bit1 s2 (by omega)]
  have next : ¬ (bit s i ∧ cn (aR A i) 4096 = 0) → ∀ x, x = nI i + 1 → R x := fun q x e => by
    subst e
    refine hR (by omega) _ ⟨by rw [li_1, nI_add], fun d hd => ?_⟩
    by_cases z : d = i
    · rw [z]; exact q
    · exact hno d (by omega)
  obtain ⟨v, v1, v2⟩ := q3 i (by omega)
  refine ⟨fun q => next fun z => q z.1, fun q => ⟨g, q1, i, by omega, rfl, v, v1, xs_isZero v2 (fun z => b01 rfl (next fun w => z w.2)) (fun z => b11 rfl (h1 ⟨i, by omega, q, z⟩))⟩⟩
/-- a Row holds a table -/
def rwl (o : Nat → Nat) (T : XT) (to : Nat) (f : Nat → Nat) : Prop := ∃ n e, isr o f n e ∧ rwd T to n e f
theorem rwl_n {o : Nat → Nat} {T : XT} {to : Nat} {f : Nat → Nat} (h : rwl o T to f) : xi T to 2 = nI (cn f 4096) := by
  obtain ⟨n, e, h1, h2, h3⟩ := h
  rw [h2, isr_cn h1]
theorem rwl_keep {o : Nat → Nat} {T T' : XT} {to : Nat} {f : Nat → Nat} {P : Nat → Prop} (h : rwl o T to f) (hf : xf P T T') (h0 : ¬ P to) (h1 : ¬ P (to + 1)) (h2 : ¬ P (to + 2)) : rwl o T' to f := by
  obtain ⟨n, e, q1, q2, q3⟩ := h
  exact ⟨n, e, q1, by rw [(hf to h0).1]; exact q2, fun l hl => by rw [(hf _ h1).1, (hf _ h2).1]; exact q3 l hl⟩
theorem rwl_cg {o : Nat → Nat} {T : XT} {to : Nat} {f g : Nat → Nat} (h : rwl o T to f) (he : ∀ k, k < 4096 → f k = g k) : rwl o T to g := by
  obtain ⟨n, e, q1, q2, q3⟩ := h
  exact ⟨n, e, isr_ext q1 (fun k hk => by rw [he k hk]), q2, fun l hl => by rw [← he _ (q1.1 l hl).1]; exact q3 l hl⟩
/-- the first term of a Row -/
theorem rwl_ld {o : Nat → Nat} {T : XT} {to : Nat} {f : Nat → Nat} (h : rwl o T to f) (hn : cn f 4096 ≠ 0) : led o f (ldk o f) ∧ xi T (to + 1) 0 = nI (ldk o f) ∧ xi T (to + 2) 0 = nI (f (ldk o f)) := by
  obtain ⟨n, e, q1, q2, q3⟩ := h
  have hn0 : 0 < n := by rw [isr_cn q1]; omega
  have hl := led_row q1 hn0
  rw [ldk_of hl]
  exact ⟨hl, q3 0 hn0⟩
theorem ply_ld {o : Nat → Nat} {p : Nat} {K : XK} {T : XT} {v : Nat} {f : Nat → Nat} (h : ply o p K T v f) (hn : cn f 4096 ≠ 0) : ∃ va vb, xr T v 0 = some va ∧ xr T v 1 = some vb ∧ 0 < kl K va ∧ 0 < kl K vb ∧ xi T va 0 = nI (ldk o f) ∧ xi T vb 0 = nI (f (ldk o f)) ∧ led o f (ldk o f) ∧ 90 ≤ va ∧ 90 ≤ vb := by
  obtain ⟨va, vb, n, a, h1, h2, h3, h4, h5, h6, h7, h8, h9, h10, h11⟩ := h
  have hn0 : 0 < n := by rw [isr_cn h6]; omega
  have hl := led_row h6 hn0
  rw [ldk_of hl]
  exact ⟨va, vb, h1, h2, by omega, by omega, (h7 0 hn0).1, (h7 0 hn0).2, hl, h10.1, h11.1⟩
/-- a term behind all others is added to a Row -/
theorem xs_rput {o : Nat → Nat} {K : XK} {T : XT} {to k v : Nat} {f : Nat → Nat} {post : XT → Prop} (h : rwl o T to f) (hl1 : cn f 4096 < kl K (to + 1)) (hl2 : cn f 4096 < kl K (to + 2)) (hk : k < 4096) (hv : 0 < v) (hv2 : v < 2 ^ 31) (hlow : ∀ l, l < 4096 → f l ≠ 0 → o k < o l) (hp : ∀ T', xf (r3 to) T T' → rwl o T' to (up f k v) → post T') : wx2_add to (nI k) (nI v) K T post := by
  obtain ⟨n, e, q1, q2, q3⟩ := h
  have en := isr_cn q1
  have hek : ∀ l, l < n → e l ≠ k := fun l hl z => by
    have := hlow (e l) (q1.1 l hl).1 (q1.1 l hl).2
    rw [z] at this
    omega
  refine xs_radd (e := e) (h := up f k v) ⟨q2, fun l hl => ?_⟩ (by omega) (by omega) hv hv2 (up_eq _ _ _) (fun T' f' r' => hp T' f' ⟨n + 1, _, ⟨fun l hl => ?_, fun l l' hl hl' => ?_, fun m hm hz => ?_⟩, r'⟩)
  · rw [up_ne (hek l hl)]; exact q3 l hl
  · show (if l = n then k else e l) < 4096 ∧ up f k v (if l = n then k else e l) ≠ 0
    by_cases c : l = n
    · rw [if_pos c, up_eq]; exact ⟨hk, by omega⟩
    · rw [if_neg c, up_ne (hek l (by omega))]; exact q1.1 l (by omega)
  · show o (if l' = n then k else e l') < o (if l = n then k else e l)
    rw [if_neg (show l ≠ n by omega)]
    by_cases c : l' = n
    · rw [if_pos c]; exact hlow _ (q1.1 l (by omega)).1 (q1.1 l (by omega)).2
    · rw [if_neg c]; exact q1.2.1 l l' hl (by omega)
  · by_cases c : m = k
    · exact ⟨n, by omega, by rw [if_pos rfl, c]⟩
    · rw [up_ne c] at hz
      obtain ⟨l, hl, el⟩ := q1.2.2 m hm hz
      exact ⟨l, by omega, by rw [if_neg (by omega)]; exact el⟩
/-- the first term of a Row goes -/
theorem xs_rdrop {o : Nat → Nat} {K : XK} {T : XT} {to : Nat} {f : Nat → Nat} {post : XT → Prop} (h : rwl o T to f) (hn : cn f 4096 ≠ 0) (hl1 : cn f 4096 ≤ kl K (to + 1)) (hl2 : cn f 4096 ≤ kl K (to + 2)) (hp : ∀ T', xf (r3 to) T T' → rwl o T' to (up f (ldk o f) 0) → post T') : wx2_dropsFirst to K T post := by
  have hld := (rwl_ld h hn).1
  obtain ⟨n, e, q1, q2, q3⟩ := h
  have en := isr_cn q1
  have el0 : ldk o f = e 0 := ldk_of (led_row q1 (by omega))
  rw [el0] at hp
  unfold wx2_dropsFirst
  intro T1 e1
  rw [q2, li_1, pk_sub (by omega)] at e1
  have i1 : xi T1 to 2 = nI (n - 1) := by rw [e1, xi_wi, if_pos ⟨rfl, rfl⟩]
  refine ⟨1, 0, n - 1, rfl, rfl, i1, by omega, by omega, fun T5 e5 => ⟨1, 0, n - 1, rfl, rfl, by rw [e5, xi_cpy, if_neg (by omega)]; exact i1, by omega, by omega, fun T9 e9 => ?_⟩⟩
  refine hp T9 (by rw [e9, e5, e1]; exact xf_tr (xf_tr (xf_wi (Or.inl rfl)) (xf_cpy (Or.inr (Or.inl rfl)))) (xf_cpy (Or.inr (Or.inr rfl)))) ⟨n - 1, fun l => e (l + 1), ⟨fun l hl => ?_, fun l l' hl hl' => q1.2.1 (l + 1) (l' + 1) (by omega) (by omega), fun m hm hz => ?_⟩, ?_, fun l hl => ?_⟩
  · have hne : e (l + 1) ≠ e 0 := fun z => isr_ne q1 (show 0 < l + 1 by omega) (by omega) z.symm
    rw [up_ne hne]; exact q1.1 (l + 1) (by omega)
  · have c : m ≠ e 0 := fun z => hz (by rw [z, up_eq])
    rw [up_ne c] at hz
    obtain ⟨l, hl, el⟩ := q1.2.2 m hm hz
    have : l ≠ 0 := fun z => c (by rw [← el, z])
    exact ⟨l - 1, by omega, by dsimp only; rw [show l - 1 + 1 = l by omega]; exact el⟩
  · rw [e9, xi_cpy, if_neg (by omega), e5, xi_cpy, if_neg (by omega)]; exact i1
  · have hne : e (l + 1) ≠ e 0 := fun z => isr_ne q1 (show 0 < l + 1 by omega) (by omega) z.symm
    have A1 : xi T9 (to + 1) l = nI (e (l + 1)) := by
      rw [e9, xi_cpy, if_neg (by omega), e5, xi_cpy, if_pos (by omega), e1, xi_wi, if_neg (by omega), show 1 + (l - 0) = l + 1 by omega]
      exact (q3 (l + 1) (by omega)).1
    have A2 : xi T9 (to + 2) l = nI (f (e (l + 1))) := by
      rw [e9, xi_cpy, if_pos (by omega), e5, xi_cpy, if_neg (by omega), e1, xi_wi, if_neg (by omega), show 1 + (l - 0) = l + 1 by omega]
      exact (q3 (l + 1) (by omega)).2
    dsimp only
    rw [A1, A2, up_ne hne]
    exact ⟨rfl, rfl⟩
