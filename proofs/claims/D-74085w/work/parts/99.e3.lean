set_option maxRecDepth 100000
/-! the Model: lines of a text -/
def ft (S S' : St) : Prop := ∀ k i, k ≠ 2 → ¬ (k = 0 ∧ ((9 ≤ i ∧ i ≤ 13) ∨ (18 ≤ i ∧ i ≤ 23) ∨ i = 53)) → S' k i = S k i
theorem ft_rfl (S : St) : ft S S := fun _ _ _ _ => rfl
theorem ft_tr {S S' S'' : St} (h1 : ft S S') (h2 : ft S' S'') : ft S S'' := fun k i a b => (h2 k i a b).trans (h1 k i a b)
theorem ft_q {S S' : St} (h : fq S S') : ft S S' := fun k i _ b => h k i (by omega)
theorem ft_bw {S : St} {k i : Nat} {v : Int32} (h : k = 2 ∨ (k = 0 ∧ ((9 ≤ i ∧ i ≤ 13) ∨ (18 ≤ i ∧ i ≤ 23) ∨ i = 53))) : ft S (bw S k i v) := fun k' j a b => by
  rw [bw_at, if_neg]
  rintro ⟨rfl, rfl⟩
  omega
theorem mck_t {c : Nat → Nat} {n : Nat} {S S' : St} (h : mck c n S) (f : ft S S') : mck c n S' := ⟨by rw [f 0 17 (by omega) (by omega)]; exact h.1, fun j hj => by rw [f 3 j (by omega) (by omega)]; exact h.2 j hj⟩
/-- what is read lies there -/
def mps (S : St) (ps : PS) : Prop := S 0 9 = nI ps.1 ∧ (0 < ps.1 → pr ps.1 ∧ S 0 10 = nI ps.2.1 ∧ S 0 11 = nI ps.2.2.1 ∧ S 0 12 = nI ps.2.2.2.1 ∧ vo ps.2.1 ps.2.2.1 ps.2.2.2.1) ∧ S 0 13 = nI ps.2.2.2.2.1 ∧ ps.2.2.2.2.1 ≤ 6 ∧ ∀ i k, i < 6 → k < 4096 → S 2 (4096 * i + k) = nI (ps.2.2.2.2.2 i k) ∧ (0 < ps.1 → ps.2.2.2.2.2 i k < ps.1) ∧ (ps.1 = 0 → ps.2.2.2.2.2 i k = 0)
theorem mps_q {S S' : St} {ps : PS} (h : mps S ps) (f : fq S S') : mps S' ps := by
  obtain ⟨h1, h2, h3, h4, h5⟩ := h
  refine ⟨by rw [f 0 9 (by omega)]; exact h1, fun w => ?_, by rw [f 0 13 (by omega)]; exact h3, h4, fun i k hi hk => by rw [f 2 _ (by omega)]; exact h5 i k hi hk⟩
  rw [f 0 10 (by omega), f 0 11 (by omega), f 0 12 (by omega)]
  exact h2 w
def mgo (n : Nat) (S : St) (x : Cu) (ps : PS) : Prop := mcu n S x ∧ ∀ t, x = .inr t → mps S ps
theorem cN_r {c : Nat → Nat} {n : Nat} {x : Cu} {t : Tk} (h : cN c n x = .inr t) : ∃ t', x = .inr t' := by
  cases x with
  | inl q => cases h
  | inr t' => exact ⟨t', rfl⟩
theorem cF_r {e : Nat} {x : Cu} {t : Tk} : cF e x ≠ .inr t := by
  cases x with
  | inl q => intro h; cases h
  | inr t' => intro h; cases h
theorem sp_flaw {n e : Nat} {S : St} {x : Cu} {post : St → Prop} (h7 : n ≤ 700) (he : 0 < e) (he2 : e < 10) (hx : mcu n S x) (hpost : ∀ S', fq S S' → mcu n S' (cF e x) → post S') : wp_flaw (nI e) S post := by
  unfold wp_flaw wp_flaw_j12
  cases x with
  | inl q =>
    obtain ⟨q1, q2, q3, q4, q5, q6⟩ := hx
    rw [q1, li_0, nI_eq (by omega) (by omega)]
    refine ⟨fun _ S1 e1 => hpost S1 (by rw [e1]; exact fq_bw (by omega)) ⟨?_, q2, q3, ?_, ?_, q6⟩, fun w => absurd w (by omega)⟩
    · rw [e1, bw_at, if_neg (by omega)]; exact q1
    · rw [e1, bw_at, if_pos ⟨rfl, rfl⟩]
    · rw [e1, bw_at, if_neg (by omega)]; exact q5
  | inr t =>
    obtain ⟨x1, x2, x3, x4, x5, x6, x7, x8, x9⟩ := hx
    rw [x1, li_0, nI_eq (by omega) (by omega)]
    refine ⟨fun w => absurd rfl w, fun _ S1 e1 S2 e2 => hpost S2 (by rw [e2, e1]; exact fq_tr (fq_bw (by omega)) (fq_bw (by omega))) ⟨?_, he, he2, ?_, ?_, x8⟩⟩
    · rw [e2, bw_at, if_neg (by omega), e1, bw_at, if_pos ⟨rfl, rfl⟩]
    · rw [e2, bw_at, if_pos ⟨rfl, rfl⟩]
    · rw [e2, bw_at, if_neg (by omega), e1, bw_at, if_neg (by omega)]; exact x4
def bys (i j : Nat) : Nat := ((sby.getD i []).getD j 0).toNatClampNeg
def pre (i : Nat) : Nat → Nat
  | 0 => 0
  | j + 1 => pre i j * 256 + bys i j
theorem sby_f : ∀ i, i < 22 → slen.getD i 0 ≤ 5 ∧ wds i = pre i (slen.getD i 0) := by decide +kernel
theorem bys_f : ∀ i, i < 22 → ∀ j, j < 5 → (sby.getD i []).getD j 0 = nI (bys i j) ∧ bys i j < 256 := by decide +kernel
theorem pre_lt {i : Nat} (hi : i < 22) : ∀ j, j ≤ 5 → pre i j < 256 ^ j := fun j => by
  induction j with
  | zero => intro _; exact Nat.one_pos
  | succ j ih =>
    intro hj
    have h1 := ih (by omega)
    have h2 := (bys_f i hi j (by omega)).2
    have h3 : (pre i j + 1) * 256 ≤ 256 ^ j * 256 := Nat.mul_le_mul_right 256 h1
    show pre i j * 256 + bys i j < 256 ^ (j + 1)
    rw [Nat.pow_succ]
    rw [Nat.add_mul, Nat.one_mul] at h3
    omega
theorem sp_isWord {n i : Nat} {S : St} {x : Cu} {post : Int32 → Prop} (hi : i < 22) (hx : mcu n S x) (h1 : cIs i x = true → post 1) (h0 : cIs i x = false → post 0) : wp_isWord i S post := by
  obtain ⟨f1, f2⟩ := sby_f i hi
  have p40 : ∀ j, j ≤ 5 → pre i j < 2 ^ 40 := fun j hj => Nat.lt_of_lt_of_le (pre_lt hi j hj) (by
    have : (256 : Nat) ^ j ≤ 256 ^ 5 := Nat.pow_le_pow_right (by omega) hj
    exact this)
  unfold wp_isWord wp_isWord_l5
  refine wl_up (slen.getD i 0) (fun j v => v.1 = Int64.ofNat (pre i j) ∧ v.2 = nI j) 0 (by omega) ⟨rfl, rfl⟩ ?_
  rintro j ⟨x2, x4⟩ hj ⟨e2, e4⟩ R hR
  dsimp only at e2 e4
  subst e2 e4
  unfold wp_isWord_b5
  dsimp only
  rw [nI_leI (by omega) (by omega)]
  refine ⟨fun c => ?_, fun c => ⟨j, by omega, rfl, fun x2 e2 x4 e4 => ?_⟩⟩
  · have ej : j = slen.getD i 0 := by omega
    subst ej
    rw [← f2, l_cmp]
    have w40 := p40 _ f1
    rw [← f2] at w40
    cases x with
    | inl q =>
      obtain ⟨_, _, _, q4, _⟩ := hx
      have hf : cIs i (.inl q) = false := by
        unfold cIs
        exact decide_eq_false fun z => absurd z.1 (by show ¬ 0 = 2; omega)
      rw [q4, li_2, nI_eq (by omega) (by omega)]
      exact ⟨fun _ => h0 hf, fun w => absurd w (by omega)⟩
    | inr t =>
      obtain ⟨x1, _, x3, x4, x5, x6, x7, x8, x9⟩ := hx
      rw [x3, li_2, nI_eq (by omega) (by omega)]
      refine ⟨fun w => h0 (decide_eq_false fun z => w z.1), fun w => ?_⟩
      obtain ⟨y1, y2⟩ := x5 w
      rw [y1, l_inj (by omega) (by omega)]
      exact ⟨fun z => h0 (decide_eq_false fun z2 => z z2.2), fun z => h1 (decide_eq_true ⟨w, z⟩)⟩
  · obtain ⟨b1, b2⟩ := bys_f i hi j (by omega)
    rw [b1, l_step (p40 j (by omega)) b2] at e2
    rw [li_1, nI_add] at e4
    exact hR (by omega) _ ⟨e2, e4⟩
theorem sp_needs {c : Nat → Nat} {n i : Nat} {S : St} {x : Cu} {post : St → Prop} (hc : cds c n) (h : mck c n S) (hi : i < 22) (hx : mcu n S x) (hpost : ∀ S', fq S S' → mcu n S' (cNd c n i x) → post S') : wp_needs i S post := by
  unfold wp_needs wp_needs_j13
  refine sp_isWord hi hx (fun q => b12 rfl ?_) (fun q => b02 rfl ?_)
  · refine sp_next hc h hx (fun S1 f1 x1 => hpost S1 f1 ?_)
    unfold cNd
    rw [if_pos q]; exact x1
  · rw [li_1]
    refine sp_flaw hc.1 (by omega) (by omega) hx (fun S1 f1 x1 => sp_next hc (mck_q h f1) x1 (fun S2 f2 x2 => hpost S2 (fq_tr f1 f2) ?_))
    unfold cNd
    rw [if_neg (by rw [q]; decide)]; exact x2
def oI : Option Nat → Int32
  | none => -1
  | some u => nI u
theorem cUn_lt {x : Cu} {u : Nat} (h : cUn x = some u) : u < 3 := by
  unfold cUn at h
  split at h
  · injection h; omega
  · split at h
    · injection h; omega
    · split at h
      · injection h; omega
      · cases h
theorem sp_unknownHere {n : Nat} {S : St} {x : Cu} {post : Int32 → Prop} (hx : mcu n S x) (h : post (oI (cUn x))) : wp_unknownHere S post := by
  unfold wp_unknownHere
  unfold cUn at h
  refine sp_isWord (by omega) hx (fun q => b11 rfl ?_) (fun q => b01 rfl ?_)
  · rw [if_pos q] at h; exact h
  · rw [if_neg (by rw [q]; decide)] at h
    refine sp_isWord (by omega) hx (fun q => b11 rfl ?_) (fun q => b01 rfl ?_)
    · rw [if_pos q] at h; exact h
    · rw [if_neg (by rw [q]; decide)] at h
      refine sp_isWord (by omega) hx (fun q => b11 rfl ?_) (fun q => b01 rfl ?_)
      · rw [if_pos q] at h; exact h
      · rw [if_neg (by rw [q]; decide)] at h; exact h
theorem oI_eq {a b : Option Nat} (ha : ∀ u, a = some u → u < 3) (hb : ∀ u, b = some u → u < 3) : oI a = oI b ↔ a = b := by
  cases a with
  | none =>
    cases b with
    | none => exact ⟨fun _ => rfl, fun _ => rfl⟩
    | some v => exact ⟨fun w => absurd w.symm (n_m1 (by have := hb v rfl; omega)), fun w => by cases w⟩
  | some u =>
    cases b with
    | none => exact ⟨fun w => absurd w (n_m1 (by have := ha u rfl; omega)), fun w => by cases w⟩
    | some v =>
      show nI u = nI v ↔ _
      rw [nI_eq (by have := ha u rfl; omega) (by have := hb v rfl; omega)]
      exact ⟨fun w => by rw [w], fun w => by injection w⟩
theorem sp_readUnknown {c : Nat → Nat} {n : Nat} {S : St} {x : Cu} {a b : Option Nat} {post : Int32 → St → Prop} (hc : cds c n) (h : mck c n S) (hx : mcu n S x) (ha : ∀ u, a = some u → u < 3) (hb : ∀ u, b = some u → u < 3) (hpost : ∀ S', fq S S' → mcu n S' (cRu c n a b x) → post (oI (cUn x)) S') : wp_readUnknown (oI a) (oI b) S post := by
  have hu := fun u => @cUn_lt x u
  unfold wp_readUnknown wp_readUnknown_j28 wp_readUnknown_j33
  refine sp_unknownHere hx ?_
  have fl : ∀ e, 0 < e → e < 10 → cRu c n a b x = cN c n (cF e x) → wp_flaw (nI e) S (fun S_4 => wp_next S_4 (fun S_2 => post (oI (cUn x)) S_2)) := fun e he1 he2 he => sp_flaw hc.1 he1 he2 hx (fun S1 f1 x1 => sp_next hc (mck_q h f1) x1 (fun S2 f2 x2 => hpost S2 (fq_tr f1 f2) (by rw [he]; exact x2)))
  have e1 : (oI (cUn x) = -1) ↔ cUn x = none := oI_eq (b := none) hu (fun u w => by cases w)
  rw [e1, oI_eq hu ha, oI_eq hu hb]
  refine ⟨fun q => ?_, fun q => ?_⟩
  · obtain ⟨u, eu⟩ : ∃ u, cUn x = some u := by
      cases hh : cUn x with
      | none => exact absurd hh q
      | some u => exact ⟨u, rfl⟩
    have e3 : (a = some u ∨ b = some u) → cRu c n a b x = cN c n (cF 3 x) := fun w => by
      unfold cRu
      rw [eu]
      show cN c n (if a = some u ∨ b = some u then cF 3 x else x) = _
      rw [if_pos w]
    have e4 : ¬ (a = some u ∨ b = some u) → cRu c n a b x = cN c n x := fun w => by
      unfold cRu
      rw [eu]
      show cN c n (if a = some u ∨ b = some u then cF 3 x else x) = _
      rw [if_neg w]
    refine ⟨fun w => ?_, fun w => ⟨fun w2 => ?_, fun w2 => ?_⟩⟩
    · rw [li_3]; exact fl 3 (by omega) (by omega) (e3 (Or.inl (by rw [← w]; exact eu)))
    · refine sp_next hc h hx (fun S2 f2 x2 => hpost S2 f2 ?_)
      rw [e4 (fun z => ?_)]
      · exact x2
      · rcases z with z | z
        · exact w (by rw [z]; exact eu)
        · exact w2 (by rw [z]; exact eu)
    · rw [li_3]; exact fl 3 (by omega) (by omega) (e3 (Or.inr (by rw [← w2]; exact eu)))
  · rw [li_1]
    refine fl 1 (by omega) (by omega) ?_
    unfold cRu
    rw [q]
theorem prb_iff (v : Nat) : prb v = true ↔ 2 ≤ v ∧ ∀ k, 2 ≤ k → k < v → v % k ≠ 0 := by
  unfold prb
  rw [Bool.and_eq_true, decide_eq_true_eq, List.all_eq_true]
  constructor
  · rintro ⟨h1, h2⟩
    refine ⟨h1, fun k hk hk2 => ?_⟩
    have := h2 k (List.mem_range.2 hk2)
    rw [Bool.or_eq_true, decide_eq_true_eq, decide_eq_true_eq] at this
    omega
  · rintro ⟨h1, h2⟩
    refine ⟨h1, fun k hk => ?_⟩
    have hk := List.mem_range.1 hk
    rw [Bool.or_eq_true, decide_eq_true_eq, decide_eq_true_eq]
    by_cases w : k < 2
    · exact Or.inl w
    · exact Or.inr (h2 k (by omega) hk)
theorem pr_prb {v : Nat} : (prb v = true ∧ v ≤ 97) ↔ pr v := by
  rw [prb_iff]
  unfold pr
  exact ⟨fun ⟨⟨a, b⟩, c⟩ => ⟨a, c, b⟩, fun ⟨a, c, b⟩ => ⟨⟨a, b⟩, c⟩⟩
theorem sp_isPrime {v : Nat} {S : St} {post : Int32 → Prop} (hv : v < 10000) (h1 : pr v → post 1) (h0 : ¬ pr v → post 0) : wp_isPrime (nI v) S post := by
  unfold wp_isPrime wp_isPrime_l2
  refine wl_n (fun m w => ∃ k, m = v - k ∧ 2 ≤ k ∧ w = nI k ∧ k < 10002 ∧ ∀ i, 2 ≤ i → i < k → i < v → v % i ≠ 0) (v - 2) ⟨2, rfl, Nat.le_refl _, rfl, by omega, fun i a b _ => by omega⟩ ?_
  rintro m w ⟨k, hm, hk, rfl, hk2, hall⟩ R hR
  unfold wp_isPrime_b2
  rw [nI_leI (by omega) (by omega)]
  refine ⟨fun c => ?_, fun c => ⟨?_, ?_⟩⟩
  · unfold wp_in
    rw [li_2, li_97, nI_ltI (by omega) (by omega), nI_ltI (by omega) (by omega)]
    refine ⟨fun q => ⟨rfl, h0 fun z => by have := z.1; omega⟩, fun q => ⟨fun q2 => ⟨rfl, h0 fun z => by have := z.2.1; omega⟩, fun q2 => ⟨rfl, h1 ⟨by omega, by omega, fun i a b => hall i a (by omega) b⟩⟩⟩⟩
  · rw [li_0, nI_eq (by omega) (by omega)]; omega
  · rw [n_rem (by omega) (by omega) (by omega), li_0, nI_eq (by have := Nat.mod_lt v (show 0 < k by omega); omega) (by omega)]
    refine ⟨fun q x e => ?_, fun q => h0 fun z => z.2.2 k hk (by omega) q⟩
    subst e
    refine hR (v - (k + 1)) _ (by omega) ⟨k + 1, rfl, by omega, by rw [li_1, nI_add], by omega, fun i a b d => ?_⟩
    by_cases w : i = k
    · rw [w]; exact q
    · exact hall i a (by omega) d
