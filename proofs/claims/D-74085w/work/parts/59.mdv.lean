set_option maxRecDepth 100000
/-! the Model's division -/
def frd (S S' : St) : Prop := ∀ k i, (k < 7 ∨ 12 < k) → ¬ (k = 0 ∧ 36 ≤ i ∧ i ≤ 39) → S' k i = S k i
theorem frd_rfl (S : St) : frd S S := fun _ _ _ _ => rfl
theorem frd_tr {S S' S'' : St} (h1 : frd S S') (h2 : frd S' S'') : frd S S'' := fun k i a b => (h2 k i a b).trans (h1 k i a b)
theorem frd_sc {S S' : St} (h : frd S S') : sc S S' := fun k i hp => h k i (by unfold pers at hp; omega) (by unfold pers at hp; omega)
theorem frd_tb {S S' : St} {r : Nat} {f : Nat → Nat} (h : tb S r f) (hf : frd S S') : tb S' r f := tb_fr h (fun i => hf 1 i (by omega) (by omega))
theorem sp_isUnder {t m : Nat} {S : St} {post : Int32 → Prop} (ht : t < 4096) (hm : m < 4096) (h1 : gi t m → post 1) (h0 : ¬ gi t m → post 0) : wp_isUnder (nI t) (nI m) S post := by
  unfold wp_isUnder wp_isUnder_l2
  refine wl_up 3 (fun u v => v = nI u ∧ ∀ w, w < u → ex t w ≤ ex m w) 0 (by omega) ⟨rfl, fun w hw => absurd hw (by omega)⟩ ?_
  rintro u v hu ⟨rfl, hs⟩ R hR
  unfold wp_isUnder_b2
  rw [li_3, nI_leI (by omega) (by omega)]
  refine ⟨fun c => h1 fun w hw => hs w (by omega), fun c => sp_exponent (by omega) (by omega) (sp_exponent (by omega) (by omega) ?_)⟩
  have l1 := ex_lt t u
  have l2 := ex_lt m u
  rw [nI_leI (by omega) (by omega)]
  refine ⟨fun d x e => ?_, fun d => h0 fun q => d (q u (by omega))⟩
  subst e
  refine hR (by omega) _ ⟨by rw [li_1, nI_add], fun w hw => ?_⟩
  by_cases q : w = u
  · rw [q]; exact d
  · exact hs w (by omega)
theorem n_bit {s d : Nat} (hs : s < 256) (hd : d < 8) : (jshr (nI s) (nI d)) &&& 1 = nI (s / 2 ^ d % 2) := by
  rw [n_shr (by omega) (by omega), li_1, n_and, show (1 : Nat) = 2 ^ 1 - 1 from rfl, Nat.and_two_pow_sub_one_eq_mod]
theorem n_bit1 {s d : Nat} (hs : s < 256) (hd : d < 8) : ((jshr (nI s) (nI d)) &&& 1 = 1) ↔ bit s d := by
  rw [n_bit hs hd, li_1, nI_eq (by omega) (by omega)]
  exact Iff.rfl
theorem n_bit0 {s d : Nat} (hs : s < 256) (hd : d < 8) : ((jshr (nI s) (nI d)) &&& 1 = 0) ↔ ¬ bit s d := by
  rw [n_bit hs hd, li_0, nI_eq (by omega) (by omega)]
  unfold bit
  omega
/-- leads and inverses as they lie there -/
def mld (p : Nat) (o : Nat → Nat) (reg : Nat → Nat → Nat) (set : Nat) (S : St) : Prop := ∀ d, d < 8 → (bit set d → S 11 d = nI (ldk o (reg d)) ∧ S 12 d = nI (iv p (reg d (ldk o (reg d))))) ∧ (¬ bit set d → S 11 d = -1)
/-- the division as it lies there -/
def mdv (s : DS) (S : St) : Prop := (∀ m, m < 4096 → S 7 m = nI (dL s m)) ∧ S 0 36 = nI (cn (dL s) 4096) ∧ (∀ m, m < 4096 → S 8 m = nI (dR s m)) ∧ S 0 37 = nI (cn (dR s) 4096) ∧ (∀ d t, d < 8 → t < 4096 → S 9 (4096 * d + t) = nI (dQ s d t)) ∧ (∀ d, d < 8 → S 10 d = nI (cn (dQ s d) 4096)) ∧ S 0 38 = nI (dS s) ∧ S 0 39 = nI (dM s)
theorem sp_divisorOf {p h a b set : Nat} {reg : Nat → Nat → Nat} {k : Nat} {S : St} {post : Int32 → Prop} (hs : set < 256) (hv : dvs p (ok h a b) reg set) (hm : mld p (ok h a b) reg set S) (hk : k < 4096) (h0 : (∀ d, d < 8 → ¬ (bit set d ∧ gi (ldk (ok h a b) (reg d)) k)) → post (-1)) (h1 : ∀ d, d < 8 → bit set d → gi (ldk (ok h a b) (reg d)) k → (∀ e, e < d → ¬ (bit set e ∧ gi (ldk (ok h a b) (reg e)) k)) → post (nI d)) : wp_divisorOf (nI set) (nI k) S post := by
  unfold wp_divisorOf wp_divisorOf_l2
  refine wl_up 8 (fun d v => v = nI d ∧ ∀ e, e < d → ¬ (bit set e ∧ gi (ldk (ok h a b) (reg e)) k)) 0 (by omega) ⟨rfl, fun e he => absurd he (by omega)⟩ ?_
  rintro d v hd ⟨rfl, hno⟩ R hR
  unfold wp_divisorOf_b2 wp_divisorOf_j32
  rw [li_8, nI_leI (by omega) (by omega)]
  refine ⟨fun c => h0 fun e he => hno e (by omega), fun c => ?_⟩
  rw [n_bit1 hs (by omega)]
  have next : ¬ (bit set d ∧ gi (ldk (ok h a b) (reg d)) k) → ∀ x, x = nI d + 1 → R x := fun q x e => by
    subst e
    refine hR (by omega) _ ⟨by rw [li_1, nI_add], fun e he => ?_⟩
    by_cases z : e = d
    · rw [z]; exact q
    · exact hno e (by omega)
  refine ⟨fun q => next fun z => q z.1, fun q => ⟨d, by omega, rfl, ?_⟩⟩
  rw [((hm d (by omega)).1 q).1]
  exact sp_isUnder ((hv d (by omega)).2 q).1 hk (fun g => b11 rfl (h1 d (by omega) q g hno)) (fun g => b01 rfl (next fun z => g z.2))
theorem sp_goesOn0 {p h a b set : Nat} {reg : Nat → Nat → Nat} {s : DS} {S : St} {post : Int32 → St → Prop} (hp : pr p) (v : vo h a b) (hi : dinv p (ok h a b) reg set s) (hl : led (ok h a b) (dL s) (ldk (ok h a b) (dL s))) (h5 : dS s ≠ 500) (hm : mdv s S) (h0 : ¬ dok0 (ok h a b) s → ∀ S', frd S S' → post 0 S') (h1 : dok0 (ok h a b) s → ∀ S', frd S S' → (∀ k i, 11 ≤ k → S' k i = S k i) → mdv (dst0 (ok h a b) s) S' → post 1 S') : wp_goesOn (nI (ldk (ok h a b) (dL s))) (-1) S post := by
  obtain ⟨m1, m2, m3, m4, m5, m6, m7, m8⟩ := hm
  have hR0 : dR s (ldk (ok h a b) (dL s)) = 0 := Classical.byContradiction fun q => by
    have := hi.2.2.2.2.2.2.2.2.1 _ _ hl.1 hl.1 q hl.2.1
    omega
  have c1 := cn_up (f := dR s) (v := dL s (ldk (ok h a b) (dL s))) hl.1
  rw [if_pos hR0, if_neg hl.2.1] at c1
  have c2 := cn_up (f := dL s) (v := 0) hl.1
  rw [if_neg hl.2.1, if_pos rfl] at c2
  have b5 := hi.2.2.2.2.1
  have hlk := hl.1
  unfold wp_goesOn
  intro S1 e1
  refine ⟨fun q => absurd rfl q, fun _ => ⟨_, hlk, rfl, _, hlk, rfl, fun S2 e2 => ⟨_, hlk, rfl, fun S3 e3 S4 e4 S5 e5 => ?_⟩⟩⟩
  have g1 : ∀ k i, ¬ (k = 0 ∧ i = 38) → S1 k i = S k i := fun k i q => by rw [e1, bw_at, if_neg q]
  have g3 : ∀ k i, S3 k i = if k = 7 ∧ i = ldk (ok h a b) (dL s) then 0 else if k = 8 ∧ i = ldk (ok h a b) (dL s) then nI (dL s (ldk (ok h a b) (dL s))) else S1 k i := fun k i => by
    rw [e3, bw_at, e2, bw_at, g1 7 _ (by omega), m1 _ hlk]
  have g5 : ∀ k i, S5 k i = if k = 0 ∧ i = 37 then nI (cn (dR s) 4096 + 1) else if k = 0 ∧ i = 36 then nI (cn (dL s) 4096 - 1) else S3 k i := fun k i => by
    have hc : 1 ≤ cn (dL s) 4096 := by omega
    have h36 : S3 0 36 = nI (cn (dL s) 4096) := by rw [g3 0 36, if_neg (by omega), if_neg (by omega), g1 0 36 (by omega)]; exact m2
    have h37 : S4 0 37 = nI (cn (dR s) 4096) := by rw [e4, bw_at, if_neg (by omega), g3 0 37, if_neg (by omega), if_neg (by omega), g1 0 37 (by omega)]; exact m4
    rw [h36, li_1, pk_sub hc] at e4
    rw [e5, bw_at, h37, li_1, nI_add, e4, bw_at]
  have fr : frd S S5 := fun k i q1 q2 => by rw [g5, if_neg (by omega), if_neg (by omega), g3, if_neg (by omega), if_neg (by omega)]; exact g1 k i (by omega)
  have h37 : S5 0 37 = nI (cn (dR s) 4096 + 1) := by rw [g5, if_pos ⟨rfl, rfl⟩]
  have hdR : cn (dR (dst0 (ok h a b) s)) 4096 = cn (dR s) 4096 + 1 := by show cn (up _ _ _) 4096 = _; omega
  rw [h37, li_60, nI_ltI (by omega) (by omega)]
  have hsame : dok0 (ok h a b) s ↔ ¬ 60 < cn (dR s) 4096 + 1 := by unfold dok0; rw [hdR]; omega
  refine ⟨fun q => h0 (fun z => hsame.1 z q) S5 fr, fun q => h1 (hsame.2 q) S5 fr (fun k i hk => ?_) ⟨fun m hm => ?_, ?_, fun m hm => ?_, ?_, fun d t hd ht => ?_, fun d hd => ?_, ?_, ?_⟩⟩
  · rw [g5, if_neg (by omega), if_neg (by omega), g3, if_neg (by omega), if_neg (by omega)]; exact g1 k i (by omega)
  · show S5 7 m = nI (up _ _ _ m)
    rw [g5, if_neg (by omega), if_neg (by omega), g3, up_at]
    by_cases z : m = ldk (ok h a b) (dL s)
    · rw [if_pos ⟨rfl, z⟩, if_pos z]; rfl
    · rw [if_neg (fun w => z w.2), if_neg (by omega), if_neg z, g1 7 m (by omega)]; exact m1 m hm
  · show _ = nI (cn (up _ _ _) 4096)
    rw [g5, if_neg (by omega), if_pos ⟨rfl, rfl⟩]
    congr 1
    omega
  · show S5 8 m = nI (up _ _ _ m)
    rw [g5, if_neg (by omega), if_neg (by omega), g3, if_neg (by omega), up_at]
    by_cases z : m = ldk (ok h a b) (dL s)
    · rw [if_pos ⟨rfl, z⟩, if_pos z]
    · rw [if_neg (fun w => z w.2), if_neg z, g1 8 m (by omega)]; exact m3 m hm
  · rw [h37, hdR]
  · rw [g5, if_neg (by omega), if_neg (by omega), g3, if_neg (by omega), if_neg (by omega), g1 9 _ (by omega)]; exact m5 d t hd ht
  · rw [g5, if_neg (by omega), if_neg (by omega), g3, if_neg (by omega), if_neg (by omega), g1 10 _ (by omega)]; exact m6 d hd
  · rw [g5, if_neg (by omega), if_neg (by omega), g3, if_neg (by omega), if_neg (by omega), e1, bw_at, if_pos ⟨rfl, rfl⟩, m7, li_1, nI_add]; rfl
  · rw [g5, if_neg (by omega), if_neg (by omega), g3, if_neg (by omega), if_neg (by omega), g1 0 39 (by omega)]; exact m8
