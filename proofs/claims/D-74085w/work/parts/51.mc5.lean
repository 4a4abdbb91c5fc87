set_option maxRecDepth 100000
/-- powers -/
def pw (p v : Nat) : Nat → Nat
  | 0 => 1
  | n + 1 => pw p v n * v % p
theorem pw_lt {p v : Nat} (hp : pr p) (n : Nat) : pw p v n < p := by
  have := hp.1
  cases n with
  | zero => show 1 < p; omega
  | succ n => exact Nat.mod_lt _ (by omega)
theorem mul97 {a b : Nat} (ha : a < 97) (hb : b < 97) : a * b < 9409 := Nat.mul_lt_mul'' ha hb
theorem n_ne0 {p : Nat} (hp : pr p) : ¬ nI p = 0 := by
  have h1 := hp.1
  have h2 := hp.2.1
  rw [li_0, nI_eq (by omega) (by omega)]; omega
theorem sp_power {p v n : Nat} {S : St} {post : Int32 → Prop} (hp : pr p) (h5 : S 0 5 = nI p) (hv : v < p) (hn : n < 16) (h : post (nI (pw p v n))) : wp_power (nI v) (nI n) S post := by
  have h1 := hp.1
  have h97 := hp.2.1
  unfold wp_power wp_power_l5
  refine wl_up n (fun i w => w = (nI (pw p v i), nI i)) 0 (by omega) rfl ?_
  rintro i w hi rfl R hR
  unfold wp_power_b5
  dsimp only
  rw [nI_leI (by omega) (by omega), h5]
  refine ⟨fun c => ?_, fun c => ⟨n_ne0 hp, fun x3 e3 x4 e4 => ?_⟩⟩
  · rw [show i = n by omega]; exact h
  · have hl := pw_lt (v := v) hp i
    have hm := mul97 (a := pw p v i) (b := v) (by omega) (by omega)
    rw [pk_mul, n_rem (by omega) (by omega) (by omega)] at e3
    subst e3 e4
    exact hR (by omega) _ (by rw [li_1, nI_add]; rfl)
/-- a term's value, times a coefficient -/
def tv (p : Nat) (f : Nat → Nat) (a b c k : Nat) : Nat := f k * pw p a (ex k 0) % p * pw p b (ex k 1) % p * pw p c (ex k 2) % p
/-- the keys of a table's terms, one behind the other -/
def kys (S : St) (f : Nat → Nat) (n : Nat) (a : Nat → Nat) : Prop := S 0 27 = nI n ∧ n ≤ 60 ∧ (∀ i, i < n → S 5 i = nI (a i) ∧ a i < 4096) ∧ ∀ g : Nat → Nat, ns (fun i => g (a i)) n = ns (fun k => if f k = 0 then 0 else g k) 4096
theorem sp_laysKeys {r : Nat} {f : Nat → Nat} {S : St} {post : St → Prop} (hr : r < 8) (ht : tb S r f) (h60 : cn f 4096 ≤ 60) (hp : ∀ S' n a, (∀ k i, k ≠ 5 → ¬ (k = 0 ∧ i = 27) → S' k i = S k i) → kys S' f n a → post S') : wp_laysKeys (nI r) S post := by
  unfold wp_laysKeys
  intro S1 e1
  unfold wp_laysKeys_l7
  refine wl_up 4096 (fun i v => v.1 = nI i ∧ (∀ k j, k ≠ 5 → ¬ (k = 0 ∧ j = 27) → v.2 k j = S k j) ∧ v.2 0 27 = nI (cn f i) ∧ ∃ a : Nat → Nat, (∀ j, j < cn f i → v.2 5 j = nI (a j) ∧ a j < 4096) ∧ ∀ g : Nat → Nat, ns (fun j => g (a j)) (cn f i) = ns (fun k => if f k = 0 then 0 else g k) i) 0 (by omega) ⟨rfl, fun k j q1 q2 => by show S1 k j = _; rw [e1, bw_at, if_neg q2], by show S1 0 27 = _; rw [e1, bw_at, if_pos ⟨rfl, rfl⟩]; rfl, fun j => j, fun j hj => absurd hj (Nat.not_lt_zero _), fun g => rfl⟩ ?_
  rintro i ⟨x2, S2⟩ hi ⟨hx, hfr, h27, a, ha1, ha2⟩ R hR
  dsimp only at hx hfr h27 ha1
  subst hx
  unfold wp_laysKeys_b7 wp_laysKeys_j46
  dsimp only
  rw [li_4096, nI_leI (by omega) (by omega)]
  refine ⟨fun c => ?_, fun c => ?_⟩
  · have : i = 4096 := by omega
    subst this
    exact hp S2 (cn f 4096) a hfr ⟨h27, h60, ha1, ha2⟩
  · refine sp_coef hr (by omega) ?_
    obtain ⟨e, hb⟩ := ht i (by omega)
    rw [hfr 1 _ (by omega) (by omega), e, li_0, nI_eq (by omega) (by omega)]
    refine ⟨fun d => ?_, fun d x2 e2 => ?_⟩
    · have hlt : cn f i < 60 + 1 := by
        have := cn_pos f (show i < 4096 by omega) d
        omega
      refine ⟨cn f i, by omega, h27, fun S3 e3 S4 e4 x2 e2 => ?_⟩
      subst e2
      have h27' : S3 0 27 = nI (cn f i) := by rw [e3, bw_at, if_neg (by omega)]; exact h27
      rw [h27', li_1, nI_add] at e4
      refine hR (by omega) _ ⟨by rw [li_1, nI_add], fun k j q1 q2 => ?_, ?_, fun j => if j = cn f i then i else a j, fun j hj => ?_, fun gg => ?_⟩
      · show S4 k j = _
        rw [e4, bw_at, if_neg q2, e3, bw_at, if_neg (by omega)]
        exact hfr k j q1 q2
      · show S4 0 27 = _
        rw [e4, bw_at, if_pos ⟨rfl, rfl⟩, cn_s, if_neg d]
      · show S4 5 j = nI (if j = cn f i then i else a j) ∧ (if j = cn f i then i else a j) < 4096
        rw [cn_s, if_neg d] at hj
        rw [e4, bw_at, if_neg (by omega), e3, bw_at]
        by_cases q : j = cn f i
        · rw [if_pos ⟨rfl, q⟩, if_pos q]
          exact ⟨rfl, by omega⟩
        · rw [if_neg (fun z => q z.2), if_neg q]
          exact ha1 j (by omega)
      · show ns (fun j => gg (if j = cn f i then i else a j)) (cn f (i + 1)) = _
        rw [cn_s, if_neg d, ns_s, ns_s, if_pos rfl, if_neg d]
        rw [ns_ext (g := fun j => gg (a j)) (fun j hj => by rw [if_neg (by omega)]), ha2 gg]
    · subst e2
      refine hR (by omega) _ ⟨by rw [li_1, nI_add], hfr, ?_, a, fun j hj => ?_, fun gg => ?_⟩
      · show S2 0 27 = _
        rw [h27, cn_s, if_pos d, Nat.add_zero]
      · rw [cn_s, if_pos d] at hj
        exact ha1 j (by omega)
      · rw [cn_s, if_pos d, Nat.add_zero, ns_s, if_pos d, Nat.add_zero]
        exact ha2 gg
theorem sp_valueOf {r p n : Nat} {f a : Nat → Nat} {x y z : Nat} {S : St} {post : Int32 → Prop} (hp : pr p) (h5 : S 0 5 = nI p) (hr : r < 8) (ht : tb S r f) (hk : kys S f n a) (hx : x < p) (hy : y < p) (hz : z < p) (h : post (nI (ns (fun k => if f k = 0 then 0 else tv p f x y z k) 4096 % p))) : wp_valueOf (nI r) (nI x) (nI y) (nI z) S post := by
  have h1 := hp.1
  have h97 := hp.2.1
  obtain ⟨k1, k2, k3, k4⟩ := hk
  unfold wp_valueOf wp_valueOf_l6
  refine wl_up n (fun i w => w = (nI (ns (fun j => tv p f x y z (a j)) i % p), nI i)) 0 (by omega) (by rw [ns_z, Nat.zero_mod]; rfl) ?_
  rintro i w hi rfl R hR
  unfold wp_valueOf_b6
  dsimp only
  rw [k1, nI_leI (by omega) (by omega)]
  refine ⟨fun c => ?_, fun c => ?_⟩
  · rw [show i = n by omega, k4 (tv p f x y z)]; exact h
  · refine ⟨i, by omega, rfl, ?_⟩
    obtain ⟨e, hl⟩ := k3 i (by omega)
    obtain ⟨t1, t2⟩ := ht _ hl
    rw [e, h5, li_0, li_1, li_2]
    refine sp_coef hr hl ?_
    rw [t1]
    have l0 := ex_lt (a i) 0
    have l1 := ex_lt (a i) 1
    have l2 := ex_lt (a i) 2
    have q0 := pw_lt (v := x) hp (ex (a i) 0)
    have q1 := pw_lt (v := y) hp (ex (a i) 1)
    have q2 := pw_lt (v := z) hp (ex (a i) 2)
    refine sp_exponent (by omega) (by omega) (sp_power hp h5 hx l0 ⟨n_ne0 hp, sp_exponent (by omega) (by omega) (sp_power hp h5 hy l1 ⟨n_ne0 hp, sp_exponent (by omega) (by omega) (sp_power hp h5 hz l2 ⟨n_ne0 hp, fun x8 e8 => ⟨n_ne0 hp, fun x5 e5 x6 e6 => ?_⟩⟩)⟩)⟩)
    have m1 := mul97 (a := f (a i)) (b := pw p x (ex (a i) 0)) (by omega) (by omega)
    have r1 := Nat.mod_lt (f (a i) * pw p x (ex (a i) 0)) (show 0 < p by omega)
    have m2 := mul97 (a := f (a i) * pw p x (ex (a i) 0) % p) (b := pw p y (ex (a i) 1)) (by omega) (by omega)
    have r2 := Nat.mod_lt (f (a i) * pw p x (ex (a i) 0) % p * pw p y (ex (a i) 1)) (show 0 < p by omega)
    have m3 := mul97 (a := f (a i) * pw p x (ex (a i) 0) % p * pw p y (ex (a i) 1) % p) (b := pw p z (ex (a i) 2)) (by omega) (by omega)
    have r3 := Nat.mod_lt (f (a i) * pw p x (ex (a i) 0) % p * pw p y (ex (a i) 1) % p * pw p z (ex (a i) 2)) (show 0 < p by omega)
    have r4 := Nat.mod_lt (ns (fun j => tv p f x y z (a j)) i) (show 0 < p by omega)
    rw [pk_mul, n_rem (by omega) (by omega) (by omega), pk_mul, n_rem (by omega) (by omega) (by omega), pk_mul, n_rem (by omega) (by omega) (by omega)] at e8
    subst e8
    rw [nI_add, n_rem (by omega) (by omega) (by omega)] at e5
    subst e5 e6
    refine hR (by omega) _ ?_
    rw [nI_add, ns_s, Nat.mod_add_mod]
    rfl
