set_option maxRecDepth 100000
/-! products -/
theorem ns_bump {F F' : Nat → Nat} {n i0 d : Nat} (h : i0 < n) (h1 : ∀ i, i ≠ i0 → F' i = F i) (h2 : F' i0 = F i0 + d) : ns F' n = ns F n + d := by
  induction n with
  | zero => omega
  | succ n ih =>
    rw [ns_s, ns_s]
    by_cases e : i0 = n
    · subst e
      rw [ns_ext (fun i hi => h1 i (by omega)), h2]; omega
    · rw [ih (by omega), h1 n (fun z => e z.symm)]; omega
theorem ns_cut {G : Nat → Nat} {c m : Nat} (h : c ≤ m) (h0 : ∀ j, c ≤ j → j < m → G j = 0) : ns G m = ns G c := by
  induction m with
  | zero => rw [show c = 0 by omega]
  | succ m ih =>
    by_cases e : c = m + 1
    · rw [e]
    · rw [ns_s, h0 m (by omega) (by omega), ih (by omega) (fun j a b => h0 j a (by omega))]; rfl
/-- of pairs of terms so many each: what goes to k -/
def pf (f g a b c : Nat → Nat) (n k : Nat) : Nat := ns (fun i => ns (fun j => if a i + b j = k then f (a i) * g (b j) else 0) (c i)) n
theorem gs_comm {k t : Nat} (h : gs k t) : gs t k := fun u hu => by have := h u hu; omega
theorem sh_sum {o f a : Nat → Nat} {n t k : Nat} (hf : isr o f n a) (ht : t < 4096) (hk : k < 4096) (hg : ∀ i, i < n → gs (a i) t) : sh f t k = ns (fun i => if a i + t = k then f (a i) else 0) n := by
  have e := isr_sum hf (fun s => if s + t = k then f s else 0)
  have e : ns (fun i => if a i + t = k then f (a i) else 0) n = ns (fun s => if f s = 0 then 0 else if s + t = k then f s else 0) 4096 := e
  rw [e]
  by_cases w : ∃ s, s < 4096 ∧ f s ≠ 0 ∧ s + t = k
  · obtain ⟨s, h1, h2, h3⟩ := w
    obtain ⟨i, hi, ei⟩ := hf.2.2 s h1 h2
    have hgs := hg i hi
    rw [ei] at hgs
    rw [← h3, sh_at h1 ht hgs, ns_1 (k := s) h1 (fun s' _ hne => ?_), if_neg h2, if_pos rfl]
    by_cases z : f s' = 0
    · rw [if_pos z]
    · rw [if_neg z, if_neg (by omega)]
  · rw [ns_0 (fun s hs => ?_)]
    · by_cases gg : gi t k
      · obtain ⟨z1, z2, _⟩ := gi_sub ht hk gg
        rw [sh_yes gg]
        exact Classical.byContradiction fun z => w ⟨k - t, by omega, z, by omega⟩
      · exact sh_no gg
    · by_cases z : f s = 0
      · rw [if_pos z]
      · rw [if_neg z, if_neg (fun z2 => w ⟨s, hs, z, z2⟩)]
theorem tm_pf {o f g a b : Nat → Nat} {p n m k : Nat} (hf : isr o f n a) (hg : isr o g m b) (hk : k < 4096) (hgs : ∀ i j, i < n → j < m → gs (a i) (b j)) : tm p f g 4096 k = pf f g a b (fun _ => m) n k % p := by
  unfold tm pf
  congr 1
  have e := isr_sum hg (fun t => g t * sh f t k)
  have e : ns (fun j => g (b j) * sh f (b j) k) m = ns (fun t => if g t = 0 then 0 else g t * sh f t k) 4096 := e
  have e2 : ns (fun t => g t * sh f t k) 4096 = ns (fun t => if g t = 0 then 0 else g t * sh f t k) 4096 := ns_ext fun t _ => by
    by_cases z : g t = 0
    · rw [if_pos z, z, Nat.zero_mul]
    · rw [if_neg z]
  rw [e2, ← e, ns_swap]
  refine ns_ext fun j hj => ?_
  rw [sh_sum hf (hg.1 j hj).1 hk (fun i hi => hgs i j hi hj), ← ns_L]
  refine ns_ext fun i _ => ?_
  by_cases z : a i + b j = k
  · rw [if_pos z, if_pos z, Nat.mul_comm]
  · rw [if_neg z, if_neg z, Nat.mul_zero]
theorem rwd_kp {T T' : XT} {to N : Nat} {e h : Nat → Nat} {F : Nat → Prop} (hr : rwd T to N e h) (hf : xf F T T') (n1 : ¬ F to) (n2 : ¬ F (to + 1)) (n3 : ¬ F (to + 2)) : rwd T' to N e h := ⟨by rw [(hf _ n1).1]; exact hr.1, fun l hl => by rw [(hf _ n2).1, (hf _ n3).1]; exact hr.2 l hl⟩
/-- cells of a product -/
def tx (z k : Nat) : Prop := (3 ≤ k ∧ k ≤ 5) ∨ (z ≤ k ∧ k ≤ z + 3)
/-- c pairs of each row are done -/
def tst (o a b : Nat → Nat) (n m z : Nat) (T : XT) (c : Nat → Nat) (M : Nat) : Prop := (∀ i, i < n → c i ≤ m ∧ xi T (z + 3) i = nI (c i)) ∧ hpe T z (z + 1) (z + 2) M (fun y => y < n ∧ c y < m) (fun y => o (a y + b (c y))) ∧ M ≤ n
def tup (c : Nat → Nat) (y i : Nat) : Nat := if i = y then c y + 1 else c i
theorem tup_y (c : Nat → Nat) (y : Nat) : tup c y y = c y + 1 := if_pos rfl
theorem tup_n {c : Nat → Nat} {y i : Nat} (h : i ≠ y) : tup c y i = c i := if_neg h
theorem pf_up {f g a b c : Nat → Nat} {n y k : Nat} (hy : y < n) (h : a y + b (c y) = k) : pf f g a b (tup c y) n k = pf f g a b c n k + f (a y) * g (b (c y)) := by
  unfold pf
  refine ns_bump hy (fun i hi => ?_) ?_
  · rw [tup_n hi]
  · rw [tup_y, ns_s, if_pos h]
theorem rem_up {c : Nat → Nat} {n m y : Nat} (hy : y < n) (h : c y < m) : ns (fun i => m - c i) n = ns (fun i => m - tup c y i) n + 1 := by
  refine ns_bump hy (fun i hi => ?_) ?_
  · rw [tup_n hi]
  · rw [tup_y]; omega
theorem xs_times123 {h a' b' p n m : Nat} {K0 K : XK} {T0 T : XT} {u v Z Y q va vb wa wb : Nat} {f g a b : Nat → Nat} {post : Option Nat → XT → XK → Prop} (hp : pr p) (vd : vo h a' b') (hz : 90 ≤ kz K0) (h00 : xi T0 0 0 = nI p) (hq : xr T0 0 4 = some q) (ho : orn K0 T0 q h a' b') (hq9 : 90 ≤ q ∧ q < kz K0)
    (u1 : xr T0 u 0 = some va) (u2 : xr T0 u 1 = some vb) (u3 : xi T0 u 2 = nI n) (u4 : n ≤ kl K0 va) (u5 : n ≤ kl K0 vb) (u6 : isr (ok h a' b') f n a) (u7 : ∀ i, i < n → xi T0 va i = nI (a i) ∧ xi T0 vb i = nI (f (a i))) (u8 : ∀ k, k < 4096 → f k < p) (u9 : 90 ≤ u ∧ u < kz K0) (u10 : 90 ≤ va ∧ va < kz K0) (u11 : 90 ≤ vb ∧ vb < kz K0)
    (v1 : xr T0 v 0 = some wa) (v2 : xr T0 v 1 = some wb) (v3 : xi T0 v 2 = nI m) (v4 : m ≤ kl K0 wa) (v5 : m ≤ kl K0 wb) (v6 : isr (ok h a' b') g m b) (v7 : ∀ i, i < m → xi T0 wa i = nI (b i) ∧ xi T0 wb i = nI (g (b i))) (v8 : ∀ k, k < 4096 → g k < p) (v9 : 90 ≤ v ∧ v < kz K0) (v10 : 90 ≤ wa ∧ wa < kz K0) (v11 : 90 ≤ wb ∧ wb < kz K0)
    (hn : n ≤ 60) (hm : m ≤ 60) (hgs : ∀ i j, i < n → j < m → gs (a i) (b j)) (hK : kx K0 K) (hKz : kz K = kz K0 + 4) (hl1 : kl K (kz K0 + 1) = 61) (hl2 : kl K (kz K0 + 2) = 61) (hl3 : kl K (kz K0 + 3) = n) (hl4 : kl K 4 = 4096) (hl5 : kl K 5 = 4096) (hZ : kc K + 3 ≤ Z) (hY : ks K + 7203 ≤ Y)
    (c0 : Nat → Nat) (M0 : Nat) (hf0 : xf (tx (kz K0)) T0 T) (hc0 : ∀ i, i < n → c0 i = 0) (hst : tst (ok h a' b') a b n m (kz K0) T c0 M0) (hrw : xi T 3 2 = nI 0)
    (fin : ∀ T' K' w, xf (fun k => tx (kz K0) k ∨ kz K ≤ k) T0 T' → kx K K' → kc K' = Z → ks K' = Y → ply (ok h a' b') p K' T' w (tm p f g 4096) → post (some w) T' K') : wx1_times_2_l123 u v Z Y post (kz K0) (kz K0 + 3) K T := by
  have hp2 := hp.1
  have hp97 := hp.2.1
  have hab : ∀ {i j}, i < n → j < m → a i + b j < 4096 := fun {i j} hi hj => (gs_ex (u6.1 i hi).1 (v6.1 j hj).1 (hgs i j hi hj)).1
  have hdec : ∀ {i j j'}, i < n → j < j' → j' < m → ok h a' b' (a i + b j') < ok h a' b' (a i + b j) := fun {i j j'} hi hj hj' => by
    rw [Nat.add_comm (a i), Nat.add_comm (a i)]
    exact ok_add vd (v6.1 j' hj').1 (v6.1 j (by omega)).1 (u6.1 i hi).1 (gs_comm (hgs i j' hi hj')) (gs_comm (hgs i j hi (by omega))) (v6.2.1 j j' hj hj')
  have hdec' : ∀ {i j j'}, i < n → j ≤ j' → j' < m → ok h a' b' (a i + b j') ≤ ok h a' b' (a i + b j) := fun {i j j'} hi hj hj' => by
    by_cases e : j = j'
    · rw [e]; exact Nat.le_refl _
    · exact Nat.le_of_lt (hdec hi (by omega) hj')
  have hW : ∀ k, tm p f g 4096 k < p := fun k => Nat.mod_lt _ (by omega)
  have hnm : n * m ≤ 3600 := Nat.mul_le_mul hn hm
  have F : ∀ {T1 : XT}, xf (tx (kz K0)) T0 T1 → ∀ k, (k = 0 ∨ 90 ≤ k) → k < kz K0 → xi T1 k = xi T0 k ∧ xr T1 k = xr T0 k := fun hf k _ _ => hf k (by unfold tx; omega)
  have ob : ∀ k, ok h a' b' k < 262144 := ok_lt vd
  have rem0 : ns (fun i => m - c0 i) n = n * m := by
    rw [ns_ext (g := fun _ => m) (fun i hi => by rw [hc0 i hi]; rfl), ns_const]
  unfold wx1_times_2_l123
  refine wl_n (fun μ w => ∃ (c : Nat → Nat) (B M N : Nat) (e : Nat → Nat), μ = ns (fun i => m - c i) n ∧ xf (tx (kz K0)) T0 w ∧ tst (ok h a' b') a b n m (kz K0) w c M ∧ rwd w 3 N e (tm p f g 4096) ∧ (∀ l, l < N → e l < 4096 ∧ tm p f g 4096 (e l) ≠ 0 ∧ B ≤ ok h a' b' (e l)) ∧ (∀ l l', l < l' → l' < N → ok h a' b' (e l') < ok h a' b' (e l)) ∧ (∀ k, k < 4096 → tm p f g 4096 k ≠ 0 → (∃ l, l < N ∧ e l = k) ∨ ∃ i j, i < n ∧ c i ≤ j ∧ j < m ∧ a i + b j = k) ∧ (∀ i j, i < n → j < m → (j < c i → B ≤ ok h a' b' (a i + b j)) ∧ (c i ≤ j → ok h a' b' (a i + b j) < B)) ∧ N + μ ≤ n * m) (n * m) ⟨c0, 262144, M0, 0, fun l => l, rem0.symm, hf0, hst, ⟨hrw, fun l hl => absurd hl (by omega)⟩, fun l hl => absurd hl (by omega), fun l l' _ hl => absurd hl (by omega), fun k hk hz => Or.inr ?_, fun i j hi hj => ⟨fun z => by rw [hc0 i hi] at z; omega, fun _ => ob _⟩, by omega⟩ ?_
  · rw [tm_pf u6 v6 hk hgs] at hz
    refine Classical.byContradiction fun w => hz ?_
    rw [show pf f g a b (fun _ => m) n k = 0 from ns_0 fun i hi => ns_0 fun j hj => if_neg fun e => w ⟨i, j, hi, by rw [hc0 i hi]; omega, hj, e⟩, Nat.zero_mod]
  · rintro μ T1 ⟨c, B, M, N, e, hμ, f1, st1, rw1, e1, e2, e3, e4, e5⟩ R hR
    have s1 := st1
    obtain ⟨t1, t2, t3⟩ := s1
    have em : xi T1 (kz K0) 2 = nI M := t2.choose_spec.2.2.1
    have em0 : (xi T1 (kz K0) 2 ≤ 0) ↔ M ≤ 0 := by rw [em, li_0, nI_leI (by omega) (by omega)]
    unfold wx1_times_2_b123
    rw [em0]
    refine ⟨fun q0 => ?_, fun q0 => xs_htop t2 hl2 (by omega) (fun x hx hmax => ?_)⟩
    · -- nothing is left
      have hno : ∀ i, i < n → ¬ c i < m := fun i hi z => by
        have := hpe_some t2 (y := i) ⟨hi, z⟩
        omega
      have hi : isr (ok h a' b') (tm p f g 4096) N e := ⟨fun l hl => ⟨(e1 l hl).1, (e1 l hl).2.1⟩, e2, fun k hk hz => by
        rcases e3 k hk hz with z | ⟨i, j, z1, z2, z3, _⟩
        · exact z
        · exact absurd (by omega) (hno i z1)⟩
      refine ⟨kc K + 3, ks K + 7203, by omega, by omega, by omega, by omega, xs_poly (to := 3) (by omega) (by omega) hi rw1 (fun k _ => hW k) (by rw [hl4]; omega) (by rw [hl5]; omega) (by rw [hl4]; omega) (by rw [hl5]; omega) (Nat.le_refl _) (by omega) (fun T2 K2 f2 x2 z2 c2 s2 p2 => ?_)⟩
      exact fin T2 (kset K2 Z Y) _ (xf_tr (xf_mono f1 (fun k hk => Or.inl hk)) (xf_mono f2 (fun k hk => Or.inr hk))) (kx_tr x2 (kx_set _ _ _)) rfl rfl (ply_keep p2 (xf_rfl (fun _ => False) _) (kx_set _ _ _) (fun _ _ _ w => w))
    · -- the pairs of one key
      obtain ⟨hxn, hxm⟩ := hx
      have hk0 : a x + b (c x) < 4096 := hab hxn hxm
      have hκB : ok h a' b' (a x + b (c x)) < B := (e4 x (c x) hxn hxm).2 (Nat.le_refl _)
      unfold wx1_times_2_l142
      refine wl_n (fun ν w => ∃ (d : Nat → Nat) (L : Nat), ν = ns (fun i => m - d i) n ∧ xf (tx (kz K0)) T0 w.2.2 ∧ tst (ok h a' b') a b n m (kz K0) w.2.2 d L ∧ rwd w.2.2 3 N e (tm p f g 4096) ∧ w.2.1 = nI (pf f g a b d n (a x + b (c x)) % p) ∧ (∀ i j, i < n → j < m → (j < d i → ok h a' b' (a x + b (c x)) ≤ ok h a' b' (a i + b j)) ∧ (d i ≤ j → ok h a' b' (a i + b j) ≤ ok h a' b' (a x + b (c x)))) ∧ ((ν < μ ∧ w.1 = nI (a x + b (c x))) ∨ ∃ i, i < n ∧ d i < m ∧ ok h a' b' (a i + b (d i)) = ok h a' b' (a x + b (c x))) ∧ ν ≤ μ ∧ ∀ i, i < n → c i ≤ d i) μ ⟨c, M, hμ, f1, st1, rw1, ?_, fun i j hi hj => ⟨fun z => Nat.le_trans (Nat.le_of_lt hκB) ((e4 i j hi hj).1 z), fun z => Nat.le_trans (hdec' hi z hj) (hmax i ⟨hi, by omega⟩)⟩, Or.inr ⟨x, hxn, hxm, rfl⟩, Nat.le_refl _, fun i _ => Nat.le_refl _⟩ ?_
      · dsimp only
        rw [show pf f g a b c n (a x + b (c x)) = 0 from ns_0 fun i hi => ns_0 fun j hj => if_neg fun z => ?_, Nat.zero_mod]
        · exact li_0
        · have := (e4 i j hi (by have := (t1 i hi).1; omega)).1 hj
          rw [z] at this
          omega
      · rintro ν ⟨x6, x7, T2⟩ ⟨d, L, hν, f2, st2, rw2, hx7, d4, d5, d6, d7⟩ R2 hR2
        dsimp only at f2 st2 rw2 hx7 d5
        subst hx7
        obtain ⟨s1, s2, s3⟩ := st2
        have em2 : xi T2 (kz K0) 2 = nI L := s2.choose_spec.2.2.1
        have em20 : (xi T2 (kz K0) 2 ≤ 0) ↔ L ≤ 0 := by rw [em2, li_0, nI_leI (by omega) (by omega)]
        have out : (∀ i j, i < n → d i ≤ j → j < m → ok h a' b' (a i + b j) < ok h a' b' (a x + b (c x))) → wx1_times_2_j270 u v Z Y post (fun T => R T) (kz K0) (kz K0 + 3) x6 (nI (pf f g a b d n (a x + b (c x)) % p)) K T2 := fun hlow => by
          rcases d5 with ⟨w1, w2⟩ | ⟨i, w1, w2, w3⟩
          · rw [w2]
            have ev : tm p f g 4096 (a x + b (c x)) = pf f g a b d n (a x + b (c x)) % p := by
              rw [tm_pf u6 v6 hk0 hgs]
              congr 1
              refine ns_ext fun i hi => ns_cut (s1 i hi).1 (fun j z1 z2 => if_neg fun z => ?_)
              have := hlow i j hi z1 z2
              rw [z] at this
              omega
            have hlt := hW (a x + b (c x))
            unfold wx1_times_2_j270
            by_cases hz0 : pf f g a b d n (a x + b (c x)) % p = 0
            · rw [hz0]
              refine xs_radd0 (hR ν T2 w1 ⟨d, ok h a' b' (a x + b (c x)), L, N, e, hν, f2, ⟨s1, s2, s3⟩, rw2, fun l hl => ⟨(e1 l hl).1, (e1 l hl).2.1, Nat.le_trans (Nat.le_of_lt hκB) (e1 l hl).2.2⟩, e2, fun k hk hz => ?_, fun i j hi hj => ⟨(d4 i j hi hj).1, fun z => hlow i j hi z hj⟩, by omega⟩)
              rcases e3 k hk hz with z | ⟨i, j, z1, z2, z3, z4⟩
              · exact Or.inl z
              · refine Or.inr ?_
                by_cases z5 : d i ≤ j
                · exact ⟨i, j, z1, z5, z3, z4⟩
                · have o1 := (d4 i j z1 z3).1 (by omega)
                  have o2 := hmax i ⟨z1, by omega⟩
                  have o3 := hdec' z1 z2 z3
                  have : a i + b j = a x + b (c x) := ok_inj vd (hab z1 z3) hk0 (by omega)
                  rw [← z4, this, ev] at hz
                  exact absurd hz0 hz
            · have hcap : N < 4096 := by omega
              refine xs_radd rw2 (by rw [hl4]; omega) (by rw [hl5]; omega) (by omega) (by omega) ev (fun T3 f3 rw3 => hR ν T3 w1 ⟨d, ok h a' b' (a x + b (c x)), L, N + 1, _, hν, xf_tr f2 (xf_mono f3 (fun k hk => by unfold r3 at hk; unfold tx; omega)), ⟨fun i hi => ⟨(s1 i hi).1, by rw [(f3 (kz K0 + 3) (by unfold r3; omega)).1]; exact (s1 i hi).2⟩, hpe_keep s2 f3 (by unfold r3; omega) (by unfold r3; omega) (by unfold r3; omega), s3⟩, rw3, fun l hl => ?_, fun l l' hl hl' => ?_, fun k hk hz => ?_, fun i j hi hj => ⟨(d4 i j hi hj).1, fun z => hlow i j hi z hj⟩, by omega⟩)
              · by_cases w : l = N
                · rw [if_pos w]; exact ⟨hk0, by rw [ev]; exact hz0, Nat.le_refl _⟩
                · rw [if_neg w]
                  have := e1 l (by omega)
                  exact ⟨this.1, this.2.1, by omega⟩
              · rw [if_neg (show l ≠ N by omega)]
                by_cases w : l' = N
                · rw [if_pos w]; have := (e1 l (by omega)).2.2; omega
                · rw [if_neg w]; exact e2 l l' hl (by omega)
              · rcases e3 k hk hz with ⟨l, z1, z2⟩ | ⟨i, j, z1, z2, z3, z4⟩
                · exact Or.inl ⟨l, by omega, (if_neg (by omega)).trans z2⟩
                · by_cases z5 : d i ≤ j
                  · exact Or.inr ⟨i, j, z1, z5, z3, z4⟩
                  · have o1 := (d4 i j z1 z3).1 (by omega)
                    have o2 := hmax i ⟨z1, by omega⟩
                    have o3 := hdec' z1 z2 z3
                    have : a i + b j = a x + b (c x) := ok_inj vd (hab z1 z3) hk0 (by omega)
                    exact Or.inl ⟨N, by omega, (if_pos rfl).trans (this.symm.trans z4)⟩
          · have := hlow i (d i) w1 (Nat.le_refl _) w2
            omega
        unfold wx1_times_2_b142
        dsimp only
        rw [em20]
        refine ⟨fun q0 => out fun i j z1 z2 z3 => ?_, fun q0 => xs_htop s2 hl2 (by omega) (fun y hy hmy => ?_)⟩
        · have := hpe_some s2 (y := i) ⟨z1, by omega⟩
          omega
        · have oy := ob (a y + b (d y))
          have ox := ob (a x + b (c x))
          rw [nI_eq (by omega) (by omega)]
          refine ⟨fun q1 => out fun i j z1 z2 z3 => ?_, fun q1 => ?_⟩
          · have o1 := hdec' z1 z2 z3
            have o2 := hmy i ⟨z1, by omega⟩
            have o3 := (d4 y (d y) hy.1 hy.2).2 (Nat.le_refl _)
            omega
          · obtain ⟨L', eL⟩ : ∃ L', L = L' + 1 := ⟨L - 1, by omega⟩
            subst eL
            refine xs_htake s2 (by omega) (by omega) (by omega) hl1 hl2 (by omega) (fun y => ob _) (fun T3 w hw1 hw2 f3 s4 => ?_)
            obtain ⟨hwn, hwm⟩ := hw1
            have g3 : xf (tx (kz K0)) T0 T3 := xf_tr f2 (xf_mono f3 (fun k hk => by unfold h3 at hk; unfold tx; omega))
            have kk : a w + b (d w) = a x + b (c x) := by
              have o1 := hw2 y hy
              have o2 := hmy w ⟨hwn, hwm⟩
              exact ok_inj vd (hab hwn hwm) hk0 (by omega)
            have nx : xi T3 (kz K0 + 3) w = nI (d w) := by rw [(f3 (kz K0 + 3) (by unfold h3; omega)).1]; exact (s1 w hwn).2
            have Eu := F g3 u (Or.inr u9.1) u9.2
            have Ev := F g3 v (Or.inr v9.1) v9.2
            have Eva := F g3 va (Or.inr u10.1) u10.2
            have Evb := F g3 vb (Or.inr u11.1) u11.2
            have Ewa := F g3 wa (Or.inr v10.1) v10.2
            have Ewb := F g3 wb (Or.inr v11.1) v11.2
            have E0 := F g3 0 (Or.inl rfl) (by omega)
            have lva := hK.2 va u10.2
            have lvb := hK.2 vb u11.2
            have lwa := hK.2 wa v10.2
            have lwb := hK.2 wb v11.2
            refine ⟨w, by rw [hl3]; exact hwn, rfl, va, by rw [Eu.2]; exact u1, w, by omega, rfl, wa, by rw [Ev.2]; exact v1, d w, by omega, nx, fun x6' e6 => ⟨vb, by rw [Eu.2]; exact u2, w, by omega, rfl, wb, by rw [Ev.2]; exact v2, d w, by omega, nx, by rw [E0.1, h00]; exact n_ne0 hp, fun x7' e7 => ⟨w, by rw [hl3]; exact hwn, rfl, w, by rw [hl3]; exact hwn, rfl, fun T4 t4 => ⟨w, by rw [hl3]; exact hwn, rfl, ?_⟩⟩⟩⟩
            rw [Eva.1, Ewa.1, (u7 w hwn).1, (v7 (d w) hwm).1, nI_add, kk] at e6
            have b1 := u8 _ (u6.1 w hwn).1
            have b2 := v8 _ (v6.1 (d w) hwm).1
            have b3 := mul97 (a := f (a w)) (b := g (b (d w))) (by omega) (by omega)
            have b4 := Nat.mod_lt (pf f g a b d n (a x + b (c x))) (show 0 < p by omega)
            rw [E0.1, h00, Evb.1, Ewb.1, (u7 w hwn).2, (v7 (d w) hwm).2, pk_mul, nI_add, n_rem (by omega) (by omega) (by omega), Nat.mod_add_mod, ← pf_up hwn kk] at e7
            rw [nx, li_1, nI_add] at t4
            have f4 : xf (fun k => k = kz K0 + 3) T3 T4 := by rw [t4]; exact xf_wi rfl
            have g4 : xf (tx (kz K0)) T0 T4 := xf_tr g3 (xf_mono f4 (fun k hk => by unfold tx; omega))
            have nx4 : ∀ i, i < n → xi T4 (kz K0 + 3) i = nI (tup d w i) := fun i hi => by
              rw [t4, xi_wi]
              by_cases z : i = w
              · rw [if_pos ⟨rfl, z⟩, z, tup_y]
              · rw [if_neg (fun z2 => z z2.2), tup_n z, (f3 (kz K0 + 3) (by unfold h3; omega)).1]
                exact (s1 i hi).2
            have rw4 : rwd T4 3 N e (tm p f g 4096) := rwd_kp (rwd_kp rw2 f3 (by unfold h3; omega) (by unfold h3; omega) (by unfold h3; omega)) f4 (by omega) (by omega) (by omega)
            have s5 := hpe_keep s4 f4 (by omega) (by omega) (by omega)
            have hrem := rem_up (c := d) (m := m) hwn hwm
            have le : ∀ i, i < n → tup d w i ≤ m := fun i hi => by
              by_cases z : i = w
              · rw [z, tup_y]; omega
              · rw [tup_n z]; exact (s1 i hi).1
            have go : ∀ T5 L5, xf (tx (kz K0)) T0 T5 → (∀ i, i < n → xi T5 (kz K0 + 3) i = nI (tup d w i)) → hpe T5 (kz K0) (kz K0 + 1) (kz K0 + 2) L5 (fun y => y < n ∧ tup d w y < m) (fun y => ok h a' b' (a y + b (tup d w y))) → L5 ≤ n → rwd T5 3 N e (tm p f g 4096) → R2 (x6', x7', T5) := fun T5 L5 z1 z2 z3 z4 z5 => by
              refine hR2 (ns (fun i => m - tup d w i) n) _ (by omega) ⟨tup d w, L5, rfl, z1, ⟨fun i hi => ⟨le i hi, z2 i hi⟩, z3, z4⟩, z5, e7, fun i j hi hj => ⟨fun q => ?_, fun q => ?_⟩, Or.inl ⟨by omega, e6⟩, by omega, fun i hi => ?_⟩
              · by_cases z : i = w
                · rw [z, tup_y] at q
                  by_cases z' : j = d w
                  · rw [z, z', kk]; exact Nat.le_refl _
                  · exact (d4 i j hi hj).1 (by rw [z]; omega)
                · rw [tup_n z] at q; exact (d4 i j hi hj).1 q
              · refine (d4 i j hi hj).2 ?_
                by_cases z : i = w
                · rw [z, tup_y] at q; rw [z]; omega
                · rw [tup_n z] at q; exact q
              · have := d7 i hi
                by_cases z : i = w
                · rw [z, tup_y]; rw [z] at this; omega
                · rw [tup_n z]; exact this
            have Ev4 := F g4 v (Or.inr v9.1) v9.2
            rw [Ev4.1, v3, nx4 w hwn, tup_y, nI_leI (by omega) (by omega)]
            refine ⟨fun q2 => ?_, fun q2 => ?_⟩
            · refine go T4 L' g4 nx4 (hpe_cg s5 (fun z => ?_) (fun z hz => ?_)) (by omega) rw4
              · constructor
                · rintro ⟨⟨z1, z2⟩, z3⟩
                  exact ⟨z1, by rw [tup_n z3]; exact z2⟩
                · rintro ⟨z1, z2⟩
                  by_cases z3 : z = w
                  · rw [z3, tup_y] at z2; omega
                  · rw [tup_n z3] at z2; exact ⟨⟨z1, z2⟩, z3⟩
              · rw [tup_n hz.2]
            · have Eu4 := F g4 u (Or.inr u9.1) u9.2
              have Eva4 := F g4 va (Or.inr u10.1) u10.2
              have Ewa4 := F g4 wa (Or.inr v10.1) v10.2
              have E04 := F g4 0 (Or.inl rfl) (by omega)
              have Eq4 := F g4 q (Or.inr hq9.1) hq9.2
              have ho4 : orn K T4 q h a' b' := by
                unfold orn at ho ⊢
                rw [Eq4.1, hK.2 q hq9.2]
                exact ho
              have hcur : d w + 1 < m := by omega
              have key4 := hab hwn hcur
              refine ⟨q, by rw [E04.2]; exact hq, va, by rw [Eu4.2]; exact u1, w, by omega, rfl, wa, by rw [Ev4.2]; exact v1, w, by rw [hl3]; exact hwn, rfl, d w + 1, by omega, by rw [nx4 w hwn, tup_y], ?_⟩
              rw [Eva4.1, Ewa4.1, (u7 w hwn).1, (v7 (d w + 1) hcur).1, nI_add]
              refine xs_key vd ho4 (by omega) ?_
              have s6 : hpe T4 (kz K0) (kz K0 + 1) (kz K0 + 2) L' (fun y => (y < n ∧ d y < m) ∧ y ≠ w) (fun y => ok h a' b' (a y + b (tup d w y))) := hpe_cg s5 (fun _ => Iff.rfl) (fun z hz => by rw [tup_n hz.2])
              have add := xs_hadd (x := w) (K := K) (post := fun T5 => R2 (x6', x7', T5)) s6 (by omega) (by omega) (by omega) hl1 hl2 (by omega) (fun z => z.2 rfl) (fun y => ob _) (fun T5 f5 s7 => ?_)
              · rw [tup_y] at add
                exact add
              · refine go T5 (L' + 1) (xf_tr g4 (xf_mono f5 (fun k hk => by unfold h3 at hk; unfold tx; omega))) (fun i hi => by rw [(f5 (kz K0 + 3) (by unfold h3; omega)).1]; exact nx4 i hi) (hpe_cg s7 (fun z => ?_) (fun z _ => rfl)) (by omega) (rwd_kp rw4 f5 (by unfold h3; omega) (by unfold h3; omega) (by unfold h3; omega))
                constructor
                · rintro (⟨⟨z1, z2⟩, z3⟩ | z1)
                  · exact ⟨z1, by rw [tup_n z3]; exact z2⟩
                  · rw [z1]; exact ⟨hwn, by rw [tup_y]; exact hcur⟩
                · rintro ⟨z1, z2⟩
                  by_cases z3 : z = w
                  · exact Or.inr z3
                  · rw [tup_n z3] at z2; exact Or.inl ⟨⟨z1, z2⟩, z3⟩
