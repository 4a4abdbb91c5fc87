set_option maxRecDepth 100000
/-! the Model's asking calls -/
theorem b01 {x : Int32} {P Q : Prop} (e : x = 0) (h : P) : (x = 0 → P) ∧ (¬ x = 0 → Q) := ⟨fun _ => h, fun q => absurd e q⟩
theorem b11 {x : Int32} {P Q : Prop} (e : x = 1) (h : Q) : (x = 0 → P) ∧ (¬ x = 0 → Q) := ⟨fun q => absurd (e.symm.trans q) (by decide), fun _ => h⟩
theorem b02 {x : Int32} {P Q : Prop} (e : x = 0) (h : P) : (¬ x = 0 → Q) ∧ (x = 0 → P) := ⟨fun q => absurd e q, fun _ => h⟩
theorem b12 {x : Int32} {P Q : Prop} (e : x = 1) (h : Q) : (¬ x = 0 → Q) ∧ (x = 0 → P) := ⟨fun _ => h, fun q => absurd (e.symm.trans q) (by decide)⟩
theorem sp_isUnknown {x : Int32} {S : St} {post : Int32 → Prop} (h0 : ¬ inr x 2 → post 0) (h1 : ∀ u, u < 3 → x = nI u → post 1) : wp_isUnknown x S post := by
  unfold wp_isUnknown
  exact sp_inr (n := 2) rfl (by omega) (fun d => ⟨rfl, h0 d⟩) (fun j hj e => ⟨rfl, h1 j (by omega) e⟩)
theorem sp_isExponent {x : Int32} {S : St} {post : Int32 → Prop} (h0 : ¬ inr x 15 → post 0) (h1 : ∀ u, u < 16 → x = nI u → post 1) : wp_isExponent x S post := by
  unfold wp_isExponent
  exact sp_inr (n := 15) rfl (by omega) (fun d => ⟨rfl, h0 d⟩) (fun j hj e => ⟨rfl, h1 j (by omega) e⟩)
theorem sp_isValue {x : Int32} {p : Nat} {S : St} {post : Int32 → Prop} (hp : pr p) (h5 : S 0 5 = nI p) (h0 : ¬ inr x (p - 1) → post 0) (h1 : ∀ u, u < p → x = nI u → post 1) : wp_isValue x S post := by
  unfold wp_isValue
  have q1 := hp.1
  have q2 := hp.2.1
  exact sp_inr (n := p - 1) (by rw [h5, li_1, pk_sub (by omega)]) (by omega) (fun d => ⟨rfl, h0 d⟩) (fun j hj e => ⟨rfl, h1 j (by omega) e⟩)
theorem mc_fault {A : AB} {S : St} {post : Int32 → St → Prop} (h : rm A S) (hp : ∀ S', rm A S' → post (aZ A 1) S') : wp_fault S post := by
  unfold wp_fault
  intro S1 e1
  have h1 : rm A S1 := by rw [e1]; exact rm_0 h
  rw [h1.2.2.1]
  exact hp S1 h1
theorem mc_where {A : AB} {S : St} {post : Int32 → St → Prop} (h : rm A S) (hp : ∀ S', rm A S' → post (aZ A 2) S') : wp_where S post := by
  unfold wp_where
  intro S1 e1
  have h1 : rm A S1 := by rw [e1]; exact rm_0 h
  rw [h1.2.1]
  exact hp S1 h1
theorem mc_trouble {A : AB} {S : St} {post : Int32 → St → Prop} (h : rm A S) (hp : ∀ S', rm A S' → post (aZ A 0) S') : wp_trouble S post := by
  unfold wp_trouble
  intro S1 e1
  have h1 : rm A S1 := by rw [e1]; exact rm_0 h
  rw [h1.1]
  exact hp S1 h1
theorem mc_terms {A : AB} {S : St} {x : Int32} {post : Int32 → St → Prop} (h : rm A S) (hw : wf A) (h0 : ¬ (aN A 0 = 1 ∧ inr x 7) → ∀ S', rm (aS A 1 (-1)) S' → post (-1) S') (h1 : aN A 0 = 1 → ∀ r, r < 8 → x = nI r → ∀ S', rm (aS A 0 (-1)) S' → post (nI (cn (aR A r) 4096)) S') : wp_terms x S post := by
  unfold wp_terms
  intro S1 e1
  have g : rm A S1 := by rw [e1]; exact rm_0 h
  refine sp_isReg g hw (fun c => b01 rfl (sp_refused g (sc_rfl _) (h0 c))) (fun ht r hr e => b11 rfl ?_)
  subst e
  exact sp_termsOf hr (rm_tb g hw ht hr) (sp_good g (sc_rfl _) (h1 ht r hr rfl))
theorem mc_degreeIn {A : AB} {S : St} {x y : Int32} {post : Int32 → St → Prop} (h : rm A S) (hw : wf A) (h0 : ¬ (aN A 0 = 1 ∧ inr x 7 ∧ inr y 2) → ∀ S', rm (aS A 1 (-1)) S' → post (-1) S') (h1 : aN A 0 = 1 → ∀ r u, r < 8 → u < 3 → x = nI r → y = nI u → ∀ S', rm (aS A 0 (-1)) S' → post (zI (mx (fun k => ex k u) (aR A r) 4096)) S') : wp_degreeIn x y S post := by
  unfold wp_degreeIn wp_degreeIn_j33
  intro S1 e1
  have g : rm A S1 := by rw [e1]; exact rm_0 h
  refine sp_isReg g hw (fun c => b01 rfl (sp_refused g (sc_rfl _) (h0 fun q => c ⟨q.1, q.2.1⟩))) (fun ht r hr e => b11 rfl ?_)
  refine sp_isUnknown (fun c => b01 rfl (sp_refused g (sc_rfl _) (h0 fun q => c q.2.2))) (fun u hu e2 => b11 rfl ?_)
  subst e e2
  exact sp_degreeBy hr hu (rm_tb g hw ht hr) (sp_good g (sc_rfl _) (h1 ht r u hr hu rfl rfl))
theorem sp_about3 {A : AB} {S : St} (h : rm A S) (hw : wf A) (ht : aN A 0 = 1) : (3 - (S 0 7)) - (S 0 8) = nI (3 - aN A 3 - aN A 4) := by
  obtain ⟨k1, k2, k3, k4, _⟩ := h.2.2.2.2.2.2 ht
  have hv := (hw.2.2.2.2 ht).2.1
  obtain ⟨v1, v2, v3, v4⟩ := hv
  rw [k3, k4, li_3, pk_sub (by omega), pk_sub (by omega)]
theorem n_int {x : Int32} {n : Nat} (hn : n < 2 ^ 31) : x.toInt = (n : Int) ↔ x = nI n := ⟨fun e => Int32.toInt_inj.1 (by rw [e, nI_toInt hn]), fun e => by rw [e, nI_toInt hn]⟩
/-- what 'about' tells -/
def abt (A : AB) (w : Nat) : Nat := if w = 0 then aN A 1 else if w = 1 then aN A 2 else if w = 2 then aN A 3 else if w = 3 then aN A 4 else if w = 4 then 3 - aN A 3 - aN A 4 else cn (fun r => cn (aR A r) 4096) 8
theorem mc_about {A : AB} {S : St} {x : Int32} {post : Int32 → St → Prop} (h : rm A S) (hw : wf A) (h0 : ¬ (aN A 0 = 1 ∧ inr x 5) → ∀ S', rm (aS A 1 (-1)) S' → post (-1) S') (h1 : aN A 0 = 1 → ∀ w, w < 6 → x = nI w → ∀ S', rm (aS A 0 (-1)) S' → post (nI (abt A w)) S') : wp_about x S post := by
  unfold wp_about
  intro S1 e1
  have g : rm A S1 := by rw [e1]; exact rm_0 h
  have hl := hw.1
  rw [g.2.2.2.1, li_0, nI_eq (by omega) (by omega)]
  refine ⟨fun c => ?_, fun c => sp_refused g (sc_rfl _) (h0 (by omega))⟩
  have ht : aN A 0 = 1 := by omega
  obtain ⟨k1, k2, k3, k4, _⟩ := g.2.2.2.2.2.2 ht
  have fin : ∀ w, w < 6 → x = nI w → ∀ S', rm (aS A 0 (-1)) S' → post (nI (abt A w)) S' := fun w hw e => h1 ht w hw e
  refine ⟨fun d => ?_, fun d => ?_, fun d => ?_, fun d => ?_, fun d => ?_, fun d => ?_, fun d => ?_⟩
  · have e : x = nI 0 := (n_int (by omega)).1 d
    rw [k1]
    exact sp_good g (sc_rfl _) (fin 0 (by omega) e)
  · have e : x = nI 1 := (n_int (by omega)).1 d
    rw [k2]
    exact sp_good g (sc_rfl _) (fin 1 (by omega) e)
  · have e : x = nI 2 := (n_int (by omega)).1 d
    rw [k3]
    exact sp_good g (sc_rfl _) (fin 2 (by omega) e)
  · have e : x = nI 3 := (n_int (by omega)).1 d
    rw [k4]
    exact sp_good g (sc_rfl _) (fin 3 (by omega) e)
  · have e : x = nI 4 := (n_int (by omega)).1 d
    unfold wp_third
    rw [sp_about3 g hw ht]
    exact sp_good g (sc_rfl _) (fin 4 (by omega) e)
  · have e : x = nI 5 := (n_int (by omega)).1 d
    exact sp_notZero (fun r hr => rm_tb g hw ht hr) (sp_good g (sc_rfl _) (fin 5 (by omega) e))
  · refine sp_refused g (sc_rfl _) (h0 fun q => ?_)
    obtain ⟨_, j, hj, e⟩ := q
    rw [e, nI_toInt (by omega)] at d
    omega
theorem mc_coefficient {A : AB} {S : St} {x a b c : Int32} {post : Int32 → St → Prop} (h : rm A S) (hw : wf A) (h0 : ¬ (aN A 0 = 1 ∧ inr x 7) → ∀ S', rm (aS A 1 (-1)) S' → post (-1) S') (h2 : aN A 0 = 1 → inr x 7 → ¬ (inr a 15 ∧ inr b 15 ∧ inr c 15) → ∀ S', rm (aS A 2 (-1)) S' → post (-1) S')
    (h1 : aN A 0 = 1 → ∀ r i j k, r < 8 → i < 16 → j < 16 → k < 16 → x = nI r → a = nI i → b = nI j → c = nI k → ∀ S', rm (aS A 0 (-1)) S' → post (nI (aR A r (i + 16 * j + 256 * k))) S') : wp_coefficient x a b c S post := by
  unfold wp_coefficient wp_coefficient_j60
  intro S1 e1
  have g : rm A S1 := by rw [e1]; exact rm_0 h
  refine sp_isReg g hw (fun c => b02 rfl (sp_refused g (sc_rfl _) (h0 c))) (fun ht r hr e => b12 rfl ?_)
  have hir : inr x 7 := ⟨r, by omega, e⟩
  refine sp_isExponent (fun d => b01 rfl (sp_refused g (sc_rfl _) (h2 ht hir fun q => d q.1))) (fun i hi ei => b11 rfl ?_)
  refine sp_isExponent (fun d => b01 rfl (sp_refused g (sc_rfl _) (h2 ht hir fun q => d q.2.1))) (fun j hj ej => b11 rfl ?_)
  refine sp_isExponent (fun d => b01 rfl (sp_refused g (sc_rfl _) (h2 ht hir fun q => d q.2.2))) (fun k hk ek => b11 rfl ?_)
  subst e ei ej ek
  refine sp_keyOf hi hj hk (sp_coef hr (by omega) ?_)
  rw [(rm_tb g hw ht hr _ (by omega)).1]
  exact sp_good g (sc_rfl _) (h1 ht r i j k hr hi hj hk rfl rfl rfl rfl)
