set_option maxRecDepth 100000
/-! rows that are gathered -/
/-- N terms lie in a Row -/
def rwd (T : XT) (to N : Nat) (e h : Nat → Nat) : Prop := xi T to 2 = nI N ∧ ∀ l, l < N → xi T (to + 1) l = nI (e l) ∧ xi T (to + 2) l = nI (h (e l))
def r3 (to k : Nat) : Prop := k = to ∨ k = to + 1 ∨ k = to + 2
theorem xs_radd0 {K : XK} {T : XT} {to : Nat} {x : Int32} {post : XT → Prop} (h : post T) : wx2_add to x 0 K T post := ⟨fun q => absurd rfl q, fun _ => h⟩
theorem xs_radd {K : XK} {T : XT} {to N k v : Nat} {e h : Nat → Nat} {post : XT → Prop} (hr : rwd T to N e h) (hl1 : N < kl K (to + 1)) (hl2 : N < kl K (to + 2)) (hv : 0 < v) (hv2 : v < 2 ^ 31) (he : h k = v) (hp : ∀ T', xf (r3 to) T T' → rwd T' to (N + 1) (fun l => if l = N then k else e l) h → post T') : wx2_add to (nI k) (nI v) K T post := by
  obtain ⟨h1, h2⟩ := hr
  unfold wx2_add
  refine ⟨fun _ => ⟨N, hl1, h1, fun T1 e1 => ⟨N, hl2, by rw [e1, xi_wi, if_neg (by omega)]; exact h1, fun T2 e2 T3 e3 => ?_⟩⟩, fun q => ?_⟩
  · have h22 : xi T2 to 2 = nI N := by rw [e2, xi_wi, if_neg (by omega), e1, xi_wi, if_neg (by omega)]; exact h1
    rw [h22, li_1, nI_add] at e3
    refine hp T3 (by rw [e3, e2, e1]; exact xf_tr (xf_tr (xf_wi (Or.inr (Or.inl rfl))) (xf_wi (Or.inr (Or.inr rfl)))) (xf_wi (Or.inl rfl))) ⟨by rw [e3, xi_wi, if_pos ⟨rfl, rfl⟩], fun l hl => ?_⟩
    have A1 : xi T3 (to + 1) l = if l = N then nI k else xi T (to + 1) l := by
      rw [e3, xi_wi, if_neg (by omega), e2, xi_wi, if_neg (by omega), e1, xi_wi]
      by_cases q : l = N
      · rw [if_pos ⟨rfl, q⟩, if_pos q]
      · rw [if_neg (fun z => q z.2), if_neg q]
    have A2 : xi T3 (to + 2) l = if l = N then nI v else xi T (to + 2) l := by
      rw [e3, xi_wi, if_neg (by omega), e2, xi_wi]
      by_cases q : l = N
      · rw [if_pos ⟨rfl, q⟩, if_pos q]
      · rw [if_neg (fun z => q z.2), if_neg q, e1, xi_wi, if_neg (by omega)]
    dsimp only
    rw [A1, A2]
    by_cases q : l = N
    · rw [if_pos q, if_pos q, if_pos q, he]
      exact ⟨rfl, rfl⟩
    · rw [if_neg q, if_neg q, if_neg q]
      exact h2 l (by omega)
  · rw [li_0, nI_eq hv2 (by omega)] at q
    omega
/-- one row and another one moved and times a number -/
theorem xs_merges {h a' b' p n m c t to pa pb v va vb : Nat} {K : XK} {T : XT} {f g ra rb : Nat → Nat} {q : Nat} {post : Nat → XT → Prop} (hp : pr p) (vd : vo h a' b') (h00 : xi T 0 0 = nI p) (hq : xr T 0 4 = some q) (ho : orn K T q h a' b')
    (hra : isr (ok h a' b') f n ra) (ha : ∀ i, i < n → xi T pa i = nI (ra i) ∧ xi T pb i = nI (f (ra i))) (hfp : ∀ k, k < 4096 → f k < p) (hla : n ≤ kl K pa) (hlb : n ≤ kl K pb)
    (hv0 : xr T v 0 = some va) (hv1 : xr T v 1 = some vb) (hv2 : xi T v 2 = nI m) (hrb : isr (ok h a' b') g m rb) (hb : ∀ i, i < m → xi T va i = nI (rb i) ∧ xi T vb i = nI (g (rb i))) (hgp : ∀ k, k < 4096 → g k < p) (hlva : m ≤ kl K va) (hlvb : m ≤ kl K vb)
    (hc : c < p) (ht : t < 4096) (hg : ∀ j, j < m → gs (rb j) t) (hcap1 : n + m ≤ kl K (to + 1)) (hcap2 : n + m ≤ kl K (to + 2))
    (d0 : ¬ r3 to 0) (dq : ¬ r3 to q) (dpa : ¬ r3 to pa) (dpb : ¬ r3 to pb) (dv : ¬ r3 to v) (dva : ¬ r3 to va) (dvb : ¬ r3 to vb)
    (hpost : ∀ T' N e, xf (r3 to) T T' → isr (ok h a' b') (sm p f g c t) N e → rwd T' to N e (sm p f g c t) → N ≤ n + m → post to T') : wx1_merges to pa pb (nI n) v (nI c) (nI t) K T post := by
  have hp2 := hp.1
  have hp97 := hp.2.1
  have hn : n ≤ 4096 := by rw [isr_cn hra]; exact cn_le _ _
  have hm : m ≤ 4096 := by rw [isr_cn hrb]; exact cn_le _ _
  -- values of the sum
  have hbt : ∀ j, j < m → rb j + t < 4096 := fun j hj => (gs_ex (hrb.1 j hj).1 ht (hg j hj)).1
  have hval : ∀ k, k < 4096 → (∀ j, j < m → rb j + t ≠ k) → sm p f g c t k = f k := fun k hk hne => by
    unfold sm
    have : sh g t k = 0 := by
      by_cases gg : gi t k
      · obtain ⟨z1, z2, _⟩ := gi_sub ht hk gg
        rw [sh_yes gg]
        exact Classical.byContradiction fun z => by
          obtain ⟨j, hj, e⟩ := hrb.2.2 (k - t) (by omega) z
          exact hne j hj (by omega)
      · exact sh_no gg
    rw [this, Nat.mul_zero, Nat.add_zero, Nat.mod_eq_of_lt (hfp k hk)]
  have hvalb : ∀ j, j < m → sm p f g c t (rb j + t) = (f (rb j + t) + c * g (rb j)) % p := fun j hj => by
    unfold sm
    rw [sh_at (hrb.1 j hj).1 ht (hg j hj)]
  have hsmp : ∀ k, sm p f g c t k < p := fun k => Nat.mod_lt _ (by omega)
  have hkb : ∀ {j j'}, j < j' → j' < m → ok h a' b' (rb j' + t) < ok h a' b' (rb j + t) := fun {j j'} h1 h2 => ok_add vd (hrb.1 j' h2).1 (hrb.1 j (by omega)).1 ht (hg j' h2) (hg j (by omega)) (hrb.2.1 j j' h1 h2)
  unfold wx1_merges wx2_begins
  intro T1 e1
  unfold wx1_merges_l11
  refine wl_n (fun M w => ∃ (i j N : Nat) (e : Nat → Nat), M = (n - i) + (m - j) ∧ w.1 = nI i ∧ w.2.1 = nI j ∧ i ≤ n ∧ j ≤ m ∧ N ≤ i + j ∧ xf (r3 to) T w.2.2 ∧ rwd w.2.2 to N e (sm p f g c t) ∧ (∀ l, l < N → e l < 4096 ∧ sm p f g c t (e l) ≠ 0) ∧ (∀ l l', l < l' → l' < N → ok h a' b' (e l') < ok h a' b' (e l)) ∧ (∀ k, k < 4096 → sm p f g c t k ≠ 0 → (∃ l, l < N ∧ e l = k) ∨ (∃ i', i ≤ i' ∧ i' < n ∧ ra i' = k) ∨ ∃ j', j ≤ j' ∧ j' < m ∧ rb j' + t = k) ∧ (∀ l i', l < N → i ≤ i' → i' < n → ok h a' b' (ra i') < ok h a' b' (e l)) ∧ (∀ l j', l < N → j ≤ j' → j' < m → ok h a' b' (rb j' + t) < ok h a' b' (e l)) ∧ (∀ i' j', i' < i → j ≤ j' → j' < m → ok h a' b' (rb j' + t) < ok h a' b' (ra i')) ∧ ∀ j' i', j' < j → i ≤ i' → i' < n → ok h a' b' (ra i') < ok h a' b' (rb j' + t)) (n + m) ⟨0, 0, 0, fun l => l, by omega, rfl, rfl, by omega, by omega, by omega, by rw [e1]; exact xf_wi (Or.inl rfl), ⟨by rw [e1, xi_wi, if_pos ⟨rfl, rfl⟩]; rfl, fun l hl => absurd hl (by omega)⟩, fun l hl => absurd hl (by omega), fun l l' _ hl => absurd hl (by omega), fun k hk hz => ?_, fun l i' hl => absurd hl (by omega), fun l i' hl => absurd hl (by omega), fun i' j' hl => absurd hl (by omega), fun i' j' hl => absurd hl (by omega)⟩ ?_
  · by_cases w : ∃ j, j < m ∧ rb j + t = k
    · obtain ⟨j, hj, e⟩ := w
      exact Or.inr (Or.inr ⟨j, by omega, hj, e⟩)
    · rw [hval k hk (fun j hj e => w ⟨j, hj, e⟩)] at hz
      obtain ⟨i, hi, e⟩ := hra.2.2 k hk hz
      exact Or.inr (Or.inl ⟨i, by omega, hi, e⟩)
  · rintro M ⟨x8, x9, T2⟩ ⟨i, j, N, e, hM, hx8, hx9, hi, hj, hN, f2, rw2, c1, c2, c3, c4, c5, c6, c7⟩ R hR
    dsimp only at hx8 hx9 f2 rw2
    subst hx8 hx9
    have k0 := f2 0 d0
    have kq := f2 q dq
    have kpa := f2 pa dpa
    have kpb := f2 pb dpb
    have kv := f2 v dv
    have kva := f2 va dva
    have kvb := f2 vb dvb
    have ho2 : orn K T2 q h a' b' := by
      unfold orn at ho ⊢
      rw [kq.1]
      exact ho
    -- one more term, which is ahead of all that is left
    have step : ∀ (T3 : XT) (i2 j2 k : Nat), i ≤ i2 → i2 ≤ n → j ≤ j2 → j2 ≤ m → i + j < i2 + j2 → N + 1 ≤ i2 + j2 → k < 4096 → sm p f g c t k ≠ 0 → (∀ l, l < N → ok h a' b' k < ok h a' b' (e l)) → (∀ i', i2 ≤ i' → i' < n → ok h a' b' (ra i') < ok h a' b' k) → (∀ j', j2 ≤ j' → j' < m → ok h a' b' (rb j' + t) < ok h a' b' k) → (∀ i', i ≤ i' → i' < i2 → ra i' = k) → (∀ j', j ≤ j' → j' < j2 → rb j' + t = k) → (∀ i' j', i' < i2 → j2 ≤ j' → j' < m → ok h a' b' (rb j' + t) < ok h a' b' (ra i')) → (∀ j' i', j' < j2 → i2 ≤ i' → i' < n → ok h a' b' (ra i') < ok h a' b' (rb j' + t)) → xf (r3 to) T2 T3 → rwd T3 to (N + 1) (fun l => if l = N then k else e l) (sm p f g c t) → R (nI i2, nI j2, T3) := by
      intro T3 i2 j2 k z1 z2 z3 z4 z5 z6 z7 z8 z9 z10 z11 z12 z13 z14 z15 z16 z17
      refine hR ((n - i2) + (m - j2)) _ (by omega) ⟨i2, j2, N + 1, fun l => if l = N then k else e l, rfl, rfl, rfl, z2, z4, z6, xf_tr f2 z16, z17, fun l hl => ?_, fun l l' hl hl' => ?_, fun k' hk' hz' => ?_, fun l i' hl w1 w2 => ?_, fun l j' hl w1 w2 => ?_, z14, z15⟩
      · dsimp only
        by_cases w : l = N
        · rw [if_pos w]; exact ⟨z7, z8⟩
        · rw [if_neg w]; exact c1 l (by omega)
      · dsimp only
        rw [if_neg (show l ≠ N by omega)]
        by_cases w : l' = N
        · rw [if_pos w]; exact z9 l (by omega)
        · rw [if_neg w]; exact c2 l l' hl (by omega)
      · rcases c3 k' hk' hz' with ⟨l, w1, w2⟩ | ⟨i', w1, w2, w3⟩ | ⟨j', w1, w2, w3⟩
        · exact Or.inl ⟨l, by omega, (if_neg (by omega)).trans w2⟩
        · by_cases w : i' < i2
          · exact Or.inl ⟨N, by omega, (if_pos rfl).trans ((z12 i' w1 w).symm.trans w3)⟩
          · exact Or.inr (Or.inl ⟨i', by omega, w2, w3⟩)
        · by_cases w : j' < j2
          · exact Or.inl ⟨N, by omega, (if_pos rfl).trans ((z13 j' w1 w).symm.trans w3)⟩
          · exact Or.inr (Or.inr ⟨j', by omega, w2, w3⟩)
      · dsimp only
        by_cases w : l = N
        · rw [if_pos w]; exact z10 i' w1 w2
        · rw [if_neg w]; exact c4 l i' (by omega) (by omega) w2
      · dsimp only
        by_cases w : l = N
        · rw [if_pos w]; exact z11 j' w1 w2
        · rw [if_neg w]; exact c5 l j' (by omega) (by omega) w2
    -- a term that is nothing
    have skip : ∀ (i2 j2 : Nat), i ≤ i2 → i2 ≤ n → j ≤ j2 → j2 ≤ m → i + j < i2 + j2 → (∀ i', i ≤ i' → i' < i2 → sm p f g c t (ra i') = 0) → (∀ j', j ≤ j' → j' < j2 → sm p f g c t (rb j' + t) = 0) → (∀ i' j', i' < i2 → j2 ≤ j' → j' < m → ok h a' b' (rb j' + t) < ok h a' b' (ra i')) → (∀ j' i', j' < j2 → i2 ≤ i' → i' < n → ok h a' b' (ra i') < ok h a' b' (rb j' + t)) → R (nI i2, nI j2, T2) := by
      intro i2 j2 z1 z2 z3 z4 z5 z12 z13 z14 z15
      refine hR ((n - i2) + (m - j2)) _ (by omega) ⟨i2, j2, N, e, rfl, rfl, rfl, z2, z4, by omega, f2, rw2, c1, c2, fun k' hk' hz' => ?_, fun l i' hl w1 w2 => c4 l i' hl (by omega) w2, fun l j' hl w1 w2 => c5 l j' hl (by omega) w2, z14, z15⟩
      rcases c3 k' hk' hz' with w | ⟨i', w1, w2, w3⟩ | ⟨j', w1, w2, w3⟩
      · exact Or.inl w
      · by_cases w : i' < i2
        · exact absurd (by rw [← w3]; exact z12 i' w1 w) hz'
        · exact Or.inr (Or.inl ⟨i', by omega, w2, w3⟩)
      · by_cases w : j' < j2
        · exact absurd (by rw [← w3]; exact z13 j' w1 w) hz'
        · exact Or.inr (Or.inr ⟨j', by omega, w2, w3⟩)
    -- the three ways
    have J90 : ∀ (x y : Int), (i < n → x = ok h a' b' (ra i)) → (¬ i < n → x = -1) → (j < m → y = ok h a' b' (rb j + t)) → (¬ j < m → y = -1) → (i < n ∨ j < m) → wx1_merges_j90 to pa pb (nI n) v (nI c) (nI t) post (fun x8 x9 T => R (x8, x9, T)) (nI i) (nI j) (zI x) (zI y) K T2 := by
      intro x y hx1 hx0 hy1 hy0 hor
      have bx : -1 ≤ x ∧ x < 262144 := by
        by_cases w : i < n
        · rw [hx1 w]; have := ok_lt vd (ra i); omega
        · rw [hx0 w]; omega
      have by' : -1 ≤ y ∧ y < 262144 := by
        by_cases w : j < m
        · rw [hy1 w]; have := ok_lt vd (rb j + t); omega
        · rw [hy0 w]; omega
      unfold wx1_merges_j90
      rw [z_le (by omega) (by omega), z_le (by omega) (by omega), k0.1, h00]
      refine ⟨fun q1 => ⟨fun q2 => ?_, fun q2 => ?_⟩, fun q1 => ?_⟩
      · -- both
        have hin : i < n := Classical.byContradiction fun w => by
          have := hx0 w
          have w2 : j < m := by omega
          have := hy1 w2
          omega
        have hjm : j < m := Classical.byContradiction fun w => by
          have := hy0 w
          have := hx1 hin
          omega
        have ek : ra i = rb j + t := ok_inj vd (hra.1 i hin).1 (hbt j hjm) (by have := hx1 hin; have := hy1 hjm; omega)
        obtain ⟨w1, w2⟩ := ha i hin
        obtain ⟨w3, w4⟩ := hb j hjm
        refine ⟨i, by omega, rfl, i, by omega, rfl, vb, by rw [kv.2]; exact hv1, j, by omega, rfl, n_ne0 hp, ?_⟩
        have g1 := hgp _ (hrb.1 j hjm).1
        have g2 := hfp _ (hra.1 i hin).1
        have g3 := mul97 (a := g (rb j)) (b := c) (by omega) (by omega)
        rw [kpa.1, kpb.1, kvb.1, w1, w2, w4, pk_mul, nI_add, n_rem (by omega) (by omega) (by omega)]
        have hs : sm p f g c t (ra i) = (f (ra i) + g (rb j) * c) % p := by
          have := hvalb j hjm
          rw [← ek] at this
          rw [this, Nat.mul_comm c]
        have hk4 := (hra.1 i hin).1
        have o1 : ∀ l, l < N → ok h a' b' (ra i) < ok h a' b' (e l) := fun l hl => c4 l i hl (by omega) hin
        have o2 : ∀ i', i + 1 ≤ i' → i' < n → ok h a' b' (ra i') < ok h a' b' (ra i) := fun i' y1 y2 => hra.2.1 i i' (by omega) y2
        have o3 : ∀ j', j + 1 ≤ j' → j' < m → ok h a' b' (rb j' + t) < ok h a' b' (ra i) := fun j' y1 y2 => by rw [ek]; exact hkb (by omega) y2
        have o4 : ∀ i' j', i' < i + 1 → j + 1 ≤ j' → j' < m → ok h a' b' (rb j' + t) < ok h a' b' (ra i') := fun i' j' y1 y2 y3 => by
          by_cases y : i' = i
          · rw [y]; exact o3 j' y2 y3
          · exact c6 i' j' (by omega) (by omega) y3
        have o5 : ∀ j' i', j' < j + 1 → i + 1 ≤ i' → i' < n → ok h a' b' (ra i') < ok h a' b' (rb j' + t) := fun j' i' y1 y2 y3 => by
          by_cases y : j' = j
          · rw [y, ← ek]; exact o2 i' y2 y3
          · exact c7 j' i' (by omega) (by omega) y3
        by_cases hz : (f (ra i) + g (rb j) * c) % p = 0
        · rw [hz]
          refine xs_radd0 (fun x8 e8 x9 e9 => ?_)
          subst e8 e9
          rw [li_1, nI_add, nI_add]
          refine skip (i + 1) (j + 1) (by omega) (by omega) (by omega) (by omega) (by omega) (fun i' y1 y2 => ?_) (fun j' y1 y2 => ?_) o4 o5
          · rw [show i' = i by omega, hs]; exact hz
          · rw [show j' = j by omega, ← ek, hs]; exact hz
        · have hlt := Nat.mod_lt (f (ra i) + g (rb j) * c) (show 0 < p by omega)
          refine xs_radd rw2 (by omega) (by omega) (by omega) (by omega) hs (fun T3 f3 rw3 x8 e8 x9 e9 => ?_)
          subst e8 e9
          rw [li_1, nI_add, nI_add]
          exact step T3 (i + 1) (j + 1) (ra i) (by omega) (by omega) (by omega) (by omega) (by omega) (by omega) hk4 (by rw [hs]; exact hz) o1 o2 o3 (fun i' y1 y2 => by rw [show i' = i by omega]) (fun j' y1 y2 => by rw [show j' = j by omega]; exact ek.symm) o4 o5 f3 rw3
      · -- the second
        have hjm : j < m := Classical.byContradiction fun w => by
          have := hy0 w
          omega
        obtain ⟨w3, w4⟩ := hb j hjm
        refine ⟨va, by rw [kv.2]; exact hv0, j, by omega, rfl, vb, by rw [kv.2]; exact hv1, j, by omega, rfl, n_ne0 hp, ?_⟩
        have g1 := hgp _ (hrb.1 j hjm).1
        have g3 := mul97 (a := g (rb j)) (b := c) (by omega) (by omega)
        rw [kva.1, kvb.1, w3, w4, nI_add, pk_mul, n_rem (by omega) (by omega) (by omega)]
        have hlow : ∀ i', i ≤ i' → i' < n → ok h a' b' (ra i') < ok h a' b' (rb j + t) := fun i' y1 y2 => by
          have e5 := hy1 hjm
          have e6 := hx1 (by omega)
          by_cases y : i' = i
          · rw [y]; omega
          · have := hra.2.1 i i' (by omega) y2
            omega
        have hf0 : f (rb j + t) = 0 := Classical.byContradiction fun w => by
          obtain ⟨i', y1, y2⟩ := hra.2.2 _ (hbt j hjm) w
          by_cases y : i ≤ i'
          · have := hlow i' y y1
            rw [y2] at this
            omega
          · have := c6 i' j (by omega) (by omega) hjm
            rw [y2] at this
            omega
        have hs : sm p f g c t (rb j + t) = g (rb j) * c % p := by rw [hvalb j hjm, hf0, Nat.zero_add, Nat.mul_comm c]
        have o4 : ∀ i' j', i' < i → j + 1 ≤ j' → j' < m → ok h a' b' (rb j' + t) < ok h a' b' (ra i') := fun i' j' y1 y2 y3 => c6 i' j' y1 (by omega) y3
        have o5 : ∀ j' i', j' < j + 1 → i ≤ i' → i' < n → ok h a' b' (ra i') < ok h a' b' (rb j' + t) := fun j' i' y1 y2 y3 => by
          by_cases y : j' = j
          · rw [y]; exact hlow i' y2 y3
          · exact c7 j' i' (by omega) y2 y3
        by_cases hz : g (rb j) * c % p = 0
        · rw [hz]
          refine xs_radd0 (fun x9 e9 => ?_)
          subst e9
          rw [li_1, nI_add]
          exact skip i (j + 1) (by omega) (by omega) (by omega) (by omega) (by omega) (fun i' y1 y2 => absurd y2 (by omega)) (fun j' y1 y2 => by rw [show j' = j by omega, hs]; exact hz) o4 o5
        · have hlt := Nat.mod_lt (g (rb j) * c) (show 0 < p by omega)
          refine xs_radd rw2 (by omega) (by omega) (by omega) (by omega) hs (fun T3 f3 rw3 x9 e9 => ?_)
          subst e9
          rw [li_1, nI_add]
          exact step T3 i (j + 1) (rb j + t) (by omega) (by omega) (by omega) (by omega) (by omega) (by omega) (hbt j hjm) (by rw [hs]; exact hz) (fun l hl => c5 l j hl (by omega) hjm) hlow (fun j' y1 y2 => hkb (by omega) y2) (fun i' y1 y2 => absurd y2 (by omega)) (fun j' y1 y2 => by rw [show j' = j by omega]) o4 o5 f3 rw3
      · -- the first
        have hin : i < n := Classical.byContradiction fun w => by
          have := hx0 w
          omega
        obtain ⟨w1, w2⟩ := ha i hin
        refine ⟨i, by omega, rfl, i, by omega, rfl, ?_⟩
        rw [kpa.1, kpb.1, w1, w2]
        have hk4 := (hra.1 i hin).1
        have g2 := hfp _ hk4
        have hlow : ∀ j', j ≤ j' → j' < m → ok h a' b' (rb j' + t) < ok h a' b' (ra i) := fun j' y1 y2 => by
          have e5 := hx1 hin
          have e6 := hy1 (by omega)
          by_cases y : j' = j
          · rw [y]; omega
          · have := hkb (show j < j' by omega) y2
            omega
        have hs : sm p f g c t (ra i) = f (ra i) := hval _ hk4 (fun j' y1 y2 => by
          by_cases y : j ≤ j'
          · have := hlow j' y y1
            rw [y2] at this
            omega
          · have := c7 j' i (by omega) (by omega) hin
            rw [y2] at this
            omega)
        refine xs_radd rw2 (by omega) (by omega) (Nat.pos_of_ne_zero (hra.1 i hin).2) (by omega) hs (fun T3 f3 rw3 x8 e8 => ?_)
        subst e8
        rw [li_1, nI_add]
        exact step T3 (i + 1) j (ra i) (by omega) (by omega) (by omega) (by omega) (by omega) (by omega) hk4 (by rw [hs]; exact (hra.1 i hin).2) (fun l hl => c4 l i hl (by omega) hin) (fun i' y1 y2 => hra.2.1 i i' (by omega) y2) hlow (fun i' y1 y2 => by rw [show i' = i by omega]) (fun j' y1 y2 => absurd y2 (by omega)) (fun i' j' y1 y2 y3 => by
          by_cases y : i' = i
          · rw [y]; exact hlow j' y2 y3
          · exact c6 i' j' (by omega) y2 y3) (fun j' i' y1 y2 y3 => c7 j' i' y1 (by omega) y3) f3 rw3
    have J28 : (i < n ∨ j < m) → wx1_merges_j28 to pa pb (nI n) v (nI c) (nI t) post (fun x8 x9 T => R (x8, x9, T)) (nI i) (nI j) K T2 := by
      intro hor
      have J54 : ∀ x : Int, (i < n → x = ok h a' b' (ra i)) → (¬ i < n → x = -1) → wx1_merges_j54 to pa pb (nI n) v (nI c) (nI t) post (fun x8 x9 T => R (x8, x9, T)) (nI i) (nI j) (zI x) K T2 := by
        intro x hx1 hx0
        unfold wx1_merges_j54
        rw [kv.1, hv2, nI_leI (by omega) (by omega)]
        refine ⟨fun w => J90 x (-1) hx1 hx0 (fun w2 => absurd w2 (by omega)) (fun _ => rfl) hor, fun w => ⟨q, by rw [k0.2]; exact hq, va, by rw [kv.2]; exact hv0, j, by omega, rfl, ?_⟩⟩
        have w3 := (hb j (by omega)).1
        have w4 := hbt j (by omega)
        rw [kva.1, w3, nI_add]
        refine xs_key vd ho2 (by omega) ?_
        rw [z_nI]
        exact J90 x _ hx1 hx0 (fun _ => rfl) (fun w2 => absurd (show j < m by omega) w2) hor
      unfold wx1_merges_j28
      rw [nI_leI (by omega) (by omega)]
      refine ⟨fun w => J54 (-1) (fun w2 => absurd w2 (by omega)) (fun _ => rfl), fun w => ⟨q, by rw [k0.2]; exact hq, i, by omega, rfl, ?_⟩⟩
      have w3 := (ha i (by omega)).1
      have w4 := (hra.1 i (by omega)).1
      rw [kpa.1, w3]
      refine xs_key vd ho2 (by omega) ?_
      rw [z_nI]
      exact J54 _ (fun _ => rfl) (fun w2 => absurd (show i < n by omega) w2)
    unfold wx1_merges_b11
    dsimp only
    rw [nI_ltI (by omega) (by omega), kv.1, hv2, nI_leI (by omega) (by omega)]
    refine ⟨fun w => J28 (Or.inl w), fun w => ⟨fun w2 => hpost T2 N e f2 ⟨c1, c2, fun k hk hz => ?_⟩ rw2 (by omega), fun w2 => J28 (Or.inr (by omega))⟩⟩
    rcases c3 k hk hz with w3 | ⟨i', w3, w4, _⟩ | ⟨j', w3, w4, _⟩
    · exact w3
    · omega
    · omega
