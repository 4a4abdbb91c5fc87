set_option maxRecDepth 100000
/-- the value of a table -/
def vl (p : Nat) (f : Nat → Nat) (a b c : Nat) : Nat := ns (fun k => if f k = 0 then 0 else tv p f a b c k) 4096 % p
theorem vl_lt {p : Nat} {f : Nat → Nat} {a b c : Nat} (hp : pr p) : vl p f a b c < p := Nat.mod_lt _ (by have := hp.1; omega)
theorem tb_fr {S S' : St} {r : Nat} {f : Nat → Nat} (h : tb S r f) (hf : ∀ i, S' 1 i = S 1 i) : tb S' r f := fun k hk => by rw [hf]; exact h k hk
theorem sc_of {S S' : St} (h : ∀ k i, k ≠ 5 → ¬ (k = 0 ∧ i = 27) → S' k i = S k i) : sc S S' := fun k i hp => h k i (by unfold pers at hp; omega) (by unfold pers at hp; omega)
theorem mc_value {A : AB} {S : St} {x a b c : Int32} {post : Int32 → St → Prop} (h : rm A S) (hw : wf A) (h0 : ¬ (aN A 0 = 1 ∧ inr x 7) → ∀ S', rm (aS A 1 (-1)) S' → post (-1) S') (h2 : aN A 0 = 1 → inr x 7 → ¬ (inr a (aN A 1 - 1) ∧ inr b (aN A 1 - 1) ∧ inr c (aN A 1 - 1)) → ∀ S', rm (aS A 2 (-1)) S' → post (-1) S')
    (h1 : aN A 0 = 1 → ∀ r i j k, r < 8 → i < aN A 1 → j < aN A 1 → k < aN A 1 → x = nI r → a = nI i → b = nI j → c = nI k → ∀ S', rm (aS A 0 (-1)) S' → post (nI (vl (aN A 1) (aR A r) i j k)) S') : wp_value x a b c S post := by
  unfold wp_value wp_value_j44
  intro S1 e1
  have g : rm A S1 := by rw [e1]; exact rm_0 h
  refine sp_isReg g hw (fun c => b02 rfl (sp_refused g (sc_rfl _) (h0 c))) (fun ht r hr e => b12 rfl ?_)
  have hir : inr x 7 := ⟨r, by omega, e⟩
  have hT := g.2.2.2.2.2.2 ht
  have hW := hw.2.2.2.2 ht
  refine sp_isValue hW.1 hT.1 (fun d => b01 rfl (sp_refused g (sc_rfl _) (h2 ht hir fun q => d q.1))) (fun i hi ei => b11 rfl ?_)
  refine sp_isValue hW.1 hT.1 (fun d => b01 rfl (sp_refused g (sc_rfl _) (h2 ht hir fun q => d q.2.1))) (fun j hj ej => b11 rfl ?_)
  refine sp_isValue hW.1 hT.1 (fun d => b02 rfl (sp_refused g (sc_rfl _) (h2 ht hir fun q => d q.2.2))) (fun k hk ek => b12 rfl ?_)
  have fin := h1 ht r i j k hr hi hj hk e ei ej ek
  subst e ei ej ek
  refine sp_laysKeys hr (rm_tb g hw ht hr) (hW.2.2.1 r hr).2 (fun S2 n a hfr hk => ?_)
  refine sp_valueOf hW.1 (by rw [hfr 0 5 (by omega) (by omega)]; exact hT.1) hr (tb_fr (rm_tb g hw ht hr) (fun i => hfr 1 i (by omega) (by omega))) hk hi hj (by assumption) ?_
  exact sp_good g (sc_of hfr) fin
/-- how many values an unknown has to be tried with -/
def wd (p : Nat) (f : Nat → Nat) (u : Nat) : Nat := if mx (fun k => ex k u) f 4096 ≤ 0 then 1 else p
theorem wd_b {p : Nat} (hp : pr p) (f : Nat → Nat) (u : Nat) : 1 ≤ wd p f u ∧ wd p f u ≤ 97 ∧ wd p f u ≤ p := by
  unfold wd
  have h1 := hp.1
  have h2 := hp.2.1
  split <;> omega
def rts (p : Nat) (f : Nat → Nat) (X Y Z : Nat) : Nat := ns (fun a => ns (fun b => ns (fun c => if vl p f a b c = 0 then 1 else 0) Z) Y) X
theorem ns_ub {f : Nat → Nat} {n B : Nat} (h : ∀ i, i < n → f i ≤ B) : ns f n ≤ n * B := by
  have := ns_le (g := fun _ => B) h
  rw [ns_const] at this
  exact this
theorem sp_roots_l {r p n X Y Z : Nat} {f a : Nat → Nat} {S : St} {post : Int32 → St → Prop} (hp : pr p) (h5 : S 0 5 = nI p) (hr : r < 8) (ht : tb S r f) (hk : kys S f n a) (hX : X ≤ p) (hY : Y ≤ p) (hZ : Z ≤ p) (h : wp_good (nI (rts p f X Y Z)) S post) : wp_roots_l103 (nI r) post (nI X) (nI Y) (nI Z) 0 0 S := by
  have h97 := hp.2.1
  unfold wp_roots_l103
  refine wl_up X (fun i v => v = (nI (rts p f i Y Z), nI i)) 0 (by omega) rfl ?_
  rintro i v hi rfl R hR
  unfold wp_roots_b103
  dsimp only
  rw [nI_leI (by omega) (by omega)]
  refine ⟨fun c => by rw [show i = X by omega]; exact h, fun c => ?_⟩
  unfold wp_roots_l112
  refine wl_up Y (fun j v => v = (nI (rts p f i Y Z + ns (fun b => ns (fun c => if vl p f i b c = 0 then 1 else 0) Z) j), nI j)) 0 (by omega) rfl ?_
  rintro j v hj rfl R2 hR2
  unfold wp_roots_b112
  dsimp only
  rw [nI_leI (by omega) (by omega)]
  refine ⟨fun c x6 e6 => ?_, fun c => ?_⟩
  · subst e6
    refine hR (by omega) _ ?_
    rw [li_1, nI_add, show j = Y by omega]
    rfl
  unfold wp_roots_l121
  refine wl_up Z (fun l v => v = (nI (rts p f i Y Z + ns (fun b => ns (fun c => if vl p f i b c = 0 then 1 else 0) Z) j + ns (fun c => if vl p f i j c = 0 then 1 else 0) l), nI l)) 0 (by omega) rfl ?_
  rintro l v hl rfl R3 hR3
  unfold wp_roots_b121 wp_roots_j152
  dsimp only
  rw [nI_leI (by omega) (by omega)]
  refine ⟨fun c x6 e6 => ?_, fun c => ?_⟩
  · subst e6
    refine hR2 (by omega) _ ?_
    rw [li_1, nI_add, show l = Z by omega, ns_s, Nat.add_assoc]
  refine sp_valueOf hp h5 hr ht hk (by omega) (by omega) (by omega) ?_
  have hv := vl_lt (f := f) (a := i) (b := j) (c := l) hp
  have : ns (fun k => if f k = 0 then 0 else tv p f i j l k) 4096 % p = vl p f i j l := rfl
  rw [this, li_0, nI_eq (by omega) (by omega)]
  refine ⟨fun d x5 e5 x8 e8 => ?_, fun d x5 e5 x8 e8 => ?_⟩
  · subst e5 e8
    refine hR3 (by omega) _ ?_
    rw [li_1, nI_add, nI_add, ns_s, if_neg d]
    rfl
  · subst e5 e8
    refine hR3 (by omega) _ ?_
    rw [li_1, nI_add, nI_add, ns_s, if_pos d, Nat.add_assoc]
theorem mc_roots {A : AB} {S : St} {x : Int32} {post : Int32 → St → Prop} (h : rm A S) (hw : wf A) (h0 : ¬ (aN A 0 = 1 ∧ inr x 7) → ∀ S', rm (aS A 1 (-1)) S' → post (-1) S')
    (h1 : aN A 0 = 1 → ∀ r, r < 8 → x = nI r → ∀ X Y Z, X = wd (aN A 1) (aR A r) 0 → Y = wd (aN A 1) (aR A r) 1 → Z = wd (aN A 1) (aR A r) 2 → (10000 < X * Y * Z → ∀ S', rm (aS A 5 (-1)) S' → post (-1) S') ∧ (X * Y * Z ≤ 10000 → ∀ S', rm (aS A 0 (-1)) S' → post (nI (rts (aN A 1) (aR A r) X Y Z)) S')) : wp_roots x S post := by
  unfold wp_roots
  intro S1 e1
  have g : rm A S1 := by rw [e1]; exact rm_0 h
  refine sp_isReg g hw (fun c => b02 rfl (sp_refused g (sc_rfl _) (h0 c))) (fun ht r hr e => b12 rfl ?_)
  have hT := g.2.2.2.2.2.2 ht
  have hW := hw.2.2.2.2 ht
  have htb := rm_tb g hw ht hr
  obtain ⟨f5, f1⟩ := h1 ht r hr e _ _ _ rfl rfl rfl
  subst e
  have B : ∀ u, -2 ≤ mx (fun k => ex k u) (aR A r) 4096 ∧ mx (fun k => ex k u) (aR A r) 4096 ≤ 15 := fun u => mx_b (B := 15) (fun k => Nat.le_of_lt_succ (ex_lt k u)) 4096
  have bX := wd_b hW.1 (aR A r) 0
  have bY := wd_b hW.1 (aR A r) 1
  have bZ := wd_b hW.1 (aR A r) 2
  have J74 : wp_roots_j74 (nI r) post (nI (wd (aN A 1) (aR A r) 0)) (nI (wd (aN A 1) (aR A r) 1)) (nI (wd (aN A 1) (aR A r) 2)) S1 := by
    unfold wp_roots_j74
    generalize wd (aN A 1) (aR A r) 0 = X at *
    generalize wd (aN A 1) (aR A r) 1 = Y at *
    generalize wd (aN A 1) (aR A r) 2 = Z at *
    have hm : X * Y * Z ≤ 97 * 97 * 97 := Nat.mul_le_mul (Nat.mul_le_mul bX.2.1 bY.2.1) bZ.2.1
    rw [pk_mul, pk_mul, li_10000, nI_leI (by omega) (by omega)]
    refine ⟨fun c => ?_, fun c => sp_refused g (sc_rfl _) (f5 (by omega))⟩
    refine sp_laysKeys hr htb (hW.2.2.1 r hr).2 (fun S2 n a hfr hk => ?_)
    exact sp_roots_l hW.1 (by rw [hfr 0 5 (by omega) (by omega)]; exact hT.1) hr (tb_fr htb (fun i => hfr 1 i (by omega) (by omega))) hk bX.2.2 bY.2.2 bZ.2.2 (sp_good g (sc_of hfr) (f1 c))
  have J55 : wp_roots_j55 (nI r) post (nI (wd (aN A 1) (aR A r) 0)) (nI (wd (aN A 1) (aR A r) 1)) S1 := by
    unfold wp_roots_j55
    rw [li_2]
    refine sp_degreeBy hr (by omega) htb ?_
    have := B 2
    rw [z_le0 (by omega)]
    refine ⟨fun c => ?_, fun c => ?_⟩
    · have e : wd (aN A 1) (aR A r) 2 = 1 := if_pos c
      rw [e] at J74
      exact J74
    · have e : wd (aN A 1) (aR A r) 2 = aN A 1 := if_neg c
      rw [e] at J74
      rw [hT.1]
      exact J74
  have J37 : wp_roots_j37 (nI r) post (nI (wd (aN A 1) (aR A r) 0)) S1 := by
    unfold wp_roots_j37
    rw [li_1]
    refine sp_degreeBy hr (by omega) htb ?_
    have := B 1
    rw [z_le0 (by omega)]
    refine ⟨fun c => ?_, fun c => ?_⟩
    · have e : wd (aN A 1) (aR A r) 1 = 1 := if_pos c
      rw [e] at J55
      exact J55
    · have e : wd (aN A 1) (aR A r) 1 = aN A 1 := if_neg c
      rw [e] at J55
      rw [hT.1]
      exact J55
  rw [li_0]
  refine sp_degreeBy hr (by omega) htb ?_
  have := B 0
  rw [← li_0, z_le0 (by omega)]
  refine ⟨fun c => ?_, fun c => ?_⟩
  · have e : wd (aN A 1) (aR A r) 0 = 1 := if_pos c
    rw [e] at J37
    exact J37
  · have e : wd (aN A 1) (aR A r) 0 = aN A 1 := if_neg c
    rw [e] at J37
    rw [hT.1]
    exact J37
