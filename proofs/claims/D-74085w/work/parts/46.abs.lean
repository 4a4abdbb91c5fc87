set_option maxRecDepth 100000
/-! the desk's state in plain numbers -/
abbrev AB : Type := (Nat → Nat) × (Nat → Nat → Nat) × (Nat → Nat → Nat → Nat) × (Nat → Nat → Nat) × (Nat → Int32) × (Nat → Int32)
/-- 0 told, 1 prime, 2 how, 3 first, 4 second, 5 acts, 6 taped -/
def aN (A : AB) : Nat → Nat := A.1
/-- registers -/
def aR (A : AB) : Nat → Nat → Nat := A.2.1
/-- registers as they were -/
def aP (A : AB) : Nat → Nat → Nat → Nat := A.2.2.1
/-- orders as they were -/
def aO (A : AB) : Nat → Nat → Nat := A.2.2.2.1
/-- tape -/
def aT (A : AB) : Nat → Int32 := A.2.2.2.2.1
/-- 0 trouble, 1 fault, 2 where -/
def aZ (A : AB) : Nat → Int32 := A.2.2.2.2.2
def tab (p : Nat) (f : Nat → Nat) : Prop := (∀ k, k < 4096 → f k < p) ∧ cn f 4096 ≤ 60
/-- well formed -/
def wf (A : AB) : Prop := aN A 0 < 2 ∧ aN A 6 ≤ 700 ∧ (aZ A 0 ≠ 4 → aZ A 2 = -1) ∧ (aN A 0 = 0 → aN A 5 = 0 ∧ ∀ r, r < 8 → ∀ k, k < 4096 → aR A r k = 0) ∧ (aN A 0 = 1 → pr (aN A 1) ∧ vo (aN A 2) (aN A 3) (aN A 4) ∧ (∀ r, r < 8 → tab (aN A 1) (aR A r)) ∧ aN A 5 ≤ 8 ∧ ∀ j, j < aN A 5 → vo (aO A j 0) (aO A j 1) (aO A j 2) ∧ ∀ r, r < 8 → tab (aN A 1) (aP A j r))
/-- what comes behind an act -/
def aX (A : AB) (j r k : Nat) : Nat := if j + 1 < aN A 5 then aP A (j + 1) r k else aR A r k
def rmP (A : AB) (S : St) (j : Nat) : Prop := S 15 j = nI (aO A j 0) ∧ S 16 j = nI (aO A j 1) ∧ S 17 j = nI (aO A j 2) ∧ ((S 14 j = -1 ∧ ∀ r, r < 8 → ∀ k, k < 4096 → aP A j r k = aX A j r k) ∨ ∃ q, q < 8 ∧ S 14 j = nI q ∧ (∀ k, k < 4096 → S 13 (4096 * j + k) = nI (aP A j q k)) ∧ ∀ r, r < 8 → r ≠ q → ∀ k, k < 4096 → aP A j r k = aX A j r k)
def rmT (A : AB) (S : St) : Prop := S 0 5 = nI (aN A 1) ∧ S 0 6 = nI (aN A 2) ∧ S 0 7 = nI (aN A 3) ∧ S 0 8 = nI (aN A 4) ∧ S 0 45 = nI (aN A 5) ∧ (∀ r, r < 8 → ∀ k, k < 4096 → S 1 (4096 * r + k) = nI (aR A r k)) ∧ (∃ al, alg (ok (aN A 2) (aN A 3) (aN A 4)) S al) ∧ ∀ j, j < aN A 5 → rmP A S j
/-- the Model holds it -/
def rm (A : AB) (S : St) : Prop := S 0 1 = aZ A 0 ∧ S 0 2 = aZ A 2 ∧ S 0 22 = aZ A 1 ∧ S 0 14 = nI (aN A 0) ∧ S 0 16 = nI (aN A 6) ∧ (∀ j, j < 700 → S 3 j = aT A j) ∧ (aN A 0 = 1 → rmT A S)
/-- trouble and where are laid -/
def aS (A : AB) (t w : Int32) : AB := (aN A, aR A, aP A, aO A, aT A, fun i => if i = 0 then t else if i = 2 then w else aZ A i)
theorem aS_N (A : AB) (t w : Int32) : aN (aS A t w) = aN A := rfl
theorem aS_R (A : AB) (t w : Int32) : aR (aS A t w) = aR A := rfl
theorem aS_P (A : AB) (t w : Int32) : aP (aS A t w) = aP A := rfl
theorem aS_O (A : AB) (t w : Int32) : aO (aS A t w) = aO A := rfl
theorem aS_T (A : AB) (t w : Int32) : aT (aS A t w) = aT A := rfl
theorem wf_S {A : AB} {t : Int32} (h : wf A) : wf (aS A t (-1)) := ⟨h.1, h.2.1, fun _ => rfl, h.2.2.2⟩
/-- places of the Model that stay from call to call, but thrown, trouble and where -/
def pers (k i : Nat) : Prop := k = 1 ∨ k = 3 ∨ k = 4 ∨ (13 ≤ k ∧ k ≤ 17) ∨ (k = 0 ∧ (i = 22 ∨ i = 14 ∨ i = 16 ∨ i = 5 ∨ i = 6 ∨ i = 7 ∨ i = 8 ∨ i = 45))
theorem alg_cg {o : Nat → Nat} {S S' : St} {al : Nat → Nat} (h : alg o S al) (he : ∀ i, S' 4 i = S 4 i) : alg o S' al := ⟨fun i hi => by rw [he]; exact h.1 i hi, h.2⟩
theorem rm_cg {A A' : AB} {S S' : St} (h : rm A S) (he : ∀ k i, pers k i → S' k i = S k i) (hN : aN A' = aN A) (hR : aR A' = aR A) (hP : aP A' = aP A) (hO : aO A' = aO A) (hT : aT A' = aT A) (hF : aZ A' 1 = aZ A 1) (h1 : S' 0 1 = aZ A' 0) (h2 : S' 0 2 = aZ A' 2) : rm A' S' := by
  obtain ⟨g1, g2, g3, g4, g5, g6, g7⟩ := h
  refine ⟨h1, h2, ?_, ?_, ?_, fun j hj => ?_, fun ht => ?_⟩
  · rw [hF, he 0 22 (by unfold pers; omega)]; exact g3
  · rw [hN, he 0 14 (by unfold pers; omega)]; exact g4
  · rw [hN, he 0 16 (by unfold pers; omega)]; exact g5
  · rw [hT, he 3 j (by unfold pers; omega)]; exact g6 j hj
  · rw [hN] at ht
    obtain ⟨k1, k2, k3, k4, k5, k6, ⟨al, k7⟩, k8⟩ := g7 ht
    have e5 := he 0 5 (by unfold pers; omega)
    have e6 := he 0 6 (by unfold pers; omega)
    have e7 := he 0 7 (by unfold pers; omega)
    have e8 := he 0 8 (by unfold pers; omega)
    have e45 := he 0 45 (by unfold pers; omega)
    have hX : aX A' = aX A := by
      funext j r k
      unfold aX
      rw [hN, hR, hP]
    unfold rmT
    rw [hN, hR, e5, e6, e7, e8, e45]
    refine ⟨k1, k2, k3, k4, k5, fun r hr k hk => by rw [he 1 _ (by unfold pers; omega)]; exact k6 r hr k hk, ⟨al, alg_cg k7 (fun i => he 4 i (by unfold pers; omega))⟩, fun j hj => ?_⟩
    have := k8 j hj
    unfold rmP at this ⊢
    rw [hP, hO, hX, he 14 j (by unfold pers; omega), he 15 j (by unfold pers; omega), he 16 j (by unfold pers; omega), he 17 j (by unfold pers; omega)]
    obtain ⟨m1, m2, m3, m4⟩ := this
    refine ⟨m1, m2, m3, ?_⟩
    rcases m4 with q | ⟨q, q1, q2, q3, q4⟩
    · exact Or.inl q
    · exact Or.inr ⟨q, q1, q2, fun k hk => by rw [he 13 _ (by unfold pers; omega)]; exact q3 k hk, q4⟩
/-- scratch alone was written, but thrown, trouble and where -/
def sc (S S' : St) : Prop := ∀ k i, pers k i → S' k i = S k i
theorem sc_rfl (S : St) : sc S S := fun _ _ _ => rfl
theorem sc_tr {S S' S'' : St} (h1 : sc S S') (h2 : sc S' S'') : sc S S'' := fun k i h => (h2 k i h).trans (h1 k i h)
theorem sc_bw {S : St} {k i : Nat} {v : Int32} (h : ¬ pers k i) : sc S (bw S k i v) := fun k' i' h' => by
  rw [bw_at, if_neg]
  rintro ⟨rfl, rfl⟩
  exact h h'
theorem rm_S {A : AB} {S S' : St} (h : rm A S) (hs : sc S S') (t : Int32) (h1 : S' 0 1 = t) (h2 : S' 0 2 = -1) : rm (aS A t (-1)) S' := rm_cg h hs rfl rfl rfl rfl rfl rfl h1 h2
theorem rm_tb {A : AB} {S : St} (h : rm A S) (hw : wf A) (ht : aN A 0 = 1) {r : Nat} (hr : r < 8) : tb S r (aR A r) := fun k hk => ⟨(h.2.2.2.2.2.2 ht).2.2.2.2.2.1 r hr k hk, by
  have h1 := (hw.2.2.2.2 ht).1
  have h2 := ((hw.2.2.2.2 ht).2.2.1 r hr).1 k hk
  have := h1.2.1
  omega⟩
/-- the Model's answers -/
theorem sp_refused {A : AB} {S S0 : St} {t : Int32} {post : Int32 → St → Prop} (h : rm A S) (hs : sc S S0) (hp : ∀ S', rm (aS A t (-1)) S' → post (-1) S') : wp_refused t S0 post := by
  unfold wp_refused
  intro S1 e1 S2 e2
  refine hp S2 (rm_S h (sc_tr hs ?_) t ?_ ?_)
  · rw [e2, e1]
    exact sc_tr (sc_bw (by unfold pers; omega)) (sc_bw (by unfold pers; omega))
  · rw [e2, bw_at, if_neg (by omega), e1, bw_at, if_pos ⟨rfl, rfl⟩]
  · rw [e2, bw_at, if_pos ⟨rfl, rfl⟩]
theorem sp_good {A : AB} {S S0 : St} {v : Int32} {post : Int32 → St → Prop} (h : rm A S) (hs : sc S S0) (hp : ∀ S', rm (aS A 0 (-1)) S' → post v S') : wp_good v S0 post := by
  unfold wp_good
  intro S1 e1 S2 e2
  refine hp S2 (rm_S h (sc_tr hs ?_) 0 ?_ ?_)
  · rw [e2, e1]
    exact sc_tr (sc_bw (by unfold pers; omega)) (sc_bw (by unfold pers; omega))
  · rw [e2, bw_at, if_neg (by omega), e1, bw_at, if_pos ⟨rfl, rfl⟩]
  · rw [e2, bw_at, if_pos ⟨rfl, rfl⟩]
theorem sc_0 (S : St) : sc S (bw S 0 0 0) := sc_bw (by unfold pers; omega)
theorem rm_sc {A : AB} {S S' : St} (h : rm A S) (hs : sc S S') (h1 : S' 0 1 = S 0 1) (h2 : S' 0 2 = S 0 2) : rm A S' := rm_cg h hs rfl rfl rfl rfl rfl rfl (by rw [h1]; exact h.1) (by rw [h2]; exact h.2.1)
theorem rm_0 {A : AB} {S : St} (h : rm A S) : rm A (bw S 0 0 0) := rm_sc h (sc_0 S) (by rw [bw_at, if_neg (by omega)]) (by rw [bw_at, if_neg (by omega)])
theorem sp_isReg {A : AB} {S : St} {x : Int32} {post : Int32 → Prop} (h : rm A S) (hw : wf A) (h0 : ¬ (aN A 0 = 1 ∧ inr x 7) → post 0) (h1 : aN A 0 = 1 → ∀ r, r < 8 → x = nI r → post 1) : wp_isReg x S post := by
  have h14 := h.2.2.2.1
  have hl := hw.1
  unfold wp_isReg
  rw [h14, li_0, nI_eq (by omega) (by omega)]
  refine ⟨fun c => h0 (by omega), fun c => ?_⟩
  refine sp_inr (n := 7) rfl (by omega) (fun d => ⟨fun _ => h0 fun q => d q.2, fun q => absurd rfl q⟩) (fun j hj e => ⟨fun q => absurd q (by decide), fun _ => h1 (by omega) j (by omega) e⟩)
